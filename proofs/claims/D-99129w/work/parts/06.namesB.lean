/-! UmbrellaHeir$Reader -/
set_option maxRecDepth 100000
def RX2 : String := "UmbrellaHeir$Reader"
def TX2 : u_T := fun k => match k with
  | 0 => ("UmbrellaHeir$Reader", "wrong", "LUmbrellaHeir$Refused;", true)
  | 1 => ("UmbrellaHeir$Reader", "text", "[B", true)
  | 2 => ("UmbrellaHeir$Reader", "letters", "[C", true)
  | 3 => ("UmbrellaHeir$Reader", "size", "I", false)
  | 4 => ("UmbrellaHeir$Reader", "end", "I", false)
  | 5 => ("UmbrellaHeir$Reader", "token", "I", false)
  | 6 => ("UmbrellaHeir$Reader", "at", "I", false)
  | 7 => ("UmbrellaHeir$Reader", "whole", "I", false)
  | 8 => ("UmbrellaHeir$Reader", "word", "Ljava/lang/String;", false)
  | _ => ("UmbrellaHeir$Reader", "county", "LUmbrellaHeir$County;", false)
def tyX2 : Nat → FieldType := fun k => match k with
  | 0 => .object "UmbrellaHeir$Refused"
  | 1 => .array .byte
  | 2 => .array .char
  | 3 => .int
  | 4 => .int
  | 5 => .int
  | 6 => .int
  | 7 => .int
  | 8 => .object "java/lang/String"
  | _ => .object "UmbrellaHeir$County"
abbrev wsX20 : List Cond := u_ws RX2 TX2 10
theorem nmX2 : ∀ a, a < 10 → ∀ b, b < 10 → a ≠ b → (TX2 a).2.1 ≠ (TX2 b).2.1 := by decide +kernel
theorem tyX2_ok : ∀ k, k < 10 → parseFieldDescriptor (TX2 k).2.2.1 = some (tyX2 k) := by decide +kernel
abbrev cX2_init : ByteArray := prog_19_method_1_code
def yX2_init : MethodName := ⟨RX2, "<init>", "([B)V"⟩
def dkwX2_init_1 : List UInt8 := [43, 181, 0, 22, 177]
abbrev dktX2_init_1 : List UInt8 := dkwX2_init_1 ++ []
def dkwX2_init_0 : List UInt8 := [42, 183, 0, 3, 42, 187, 0, 9, 89, 183, 0, 11, 181, 0, 12, 42, 16, 8, 188, 5, 181, 0, 18, 42]
abbrev dktX2_init_0 : List UInt8 := dkwX2_init_0 ++ dktX2_init_1
theorem dksX2_init_0 : cX2_init.data.toList.drop 0 = dktX2_init_0 := by decide +kernel
theorem dksX2_init_1 : cX2_init.data.toList.drop 24 = dktX2_init_1 := dk_seg dksX2_init_0 24 rfl rfl
theorem dX2_init_0 : decode cX2_init 0 = .ok (.aload_n 0, 1) := dk_42 (dk_at dksX2_init_0 0 rfl rfl)
theorem dX2_init_1 : decode cX2_init 1 = .ok (.invokespecial 3, 3) := dk_183 0 3 (dk_at dksX2_init_0 1 rfl rfl)
theorem dX2_init_4 : decode cX2_init 4 = .ok (.aload_n 0, 1) := dk_42 (dk_at dksX2_init_0 4 rfl rfl)
theorem dX2_init_5 : decode cX2_init 5 = .ok (.new 9, 3) := dk_187 0 9 (dk_at dksX2_init_0 5 rfl rfl)
theorem dX2_init_8 : decode cX2_init 8 = .ok (.dup, 1) := dk_89 (dk_at dksX2_init_0 8 rfl rfl)
theorem dX2_init_9 : decode cX2_init 9 = .ok (.invokespecial 11, 3) := dk_183 0 11 (dk_at dksX2_init_0 9 rfl rfl)
theorem dX2_init_12 : decode cX2_init 12 = .ok (.putfield 12, 3) := dk_181 0 12 (dk_at dksX2_init_0 12 rfl rfl)
theorem dX2_init_15 : decode cX2_init 15 = .ok (.aload_n 0, 1) := dk_42 (dk_at dksX2_init_0 15 rfl rfl)
theorem dX2_init_16 : decode cX2_init 16 = .ok (.bipush 8, 2) := dk_16 8 (dk_at dksX2_init_0 16 rfl rfl)
theorem dX2_init_18 : decode cX2_init 18 = .ok (.newarray .char, 2) := dk_188_5 (dk_at dksX2_init_0 18 rfl rfl)
theorem dX2_init_20 : decode cX2_init 20 = .ok (.putfield 18, 3) := dk_181 0 18 (dk_at dksX2_init_0 20 rfl rfl)
theorem dX2_init_23 : decode cX2_init 23 = .ok (.aload_n 0, 1) := dk_42 (dk_at dksX2_init_0 23 rfl rfl)
theorem dX2_init_24 : decode cX2_init 24 = .ok (.aload_n 1, 1) := dk_43 (dk_at dksX2_init_1 0 rfl rfl)
theorem dX2_init_25 : decode cX2_init 25 = .ok (.putfield 22, 3) := dk_181 0 22 (dk_at dksX2_init_1 1 rfl rfl)
theorem dX2_init_28 : decode cX2_init 28 = .ok (.return_, 1) := dk_177 (dk_at dksX2_init_1 4 rfl rfl)
abbrev cX2_read : ByteArray := prog_19_method_17_code
def yX2_read : MethodName := ⟨RX2, "read", "(I)LUmbrellaHeir$County;"⟩
def dkwX2_read_4 : List UInt8 := [16, 6, 182, 0, 82, 191, 42, 180, 0, 109, 176]
abbrev dktX2_read_4 : List UInt8 := dkwX2_read_4 ++ []
def dkwX2_read_3 : List UInt8 := [153, 0, 23, 42, 180, 0, 109, 180, 0, 144, 153, 0, 13, 42, 180, 0, 109, 180, 0, 147, 154, 0, 10, 42]
abbrev dktX2_read_3 : List UInt8 := dkwX2_read_3 ++ dktX2_read_4
def dkwX2_read_2 : List UInt8 := [167, 255, 239, 42, 180, 0, 47, 153, 0, 9, 42, 4, 182, 0, 82, 191, 42, 180, 0, 109, 180, 0, 137]
abbrev dktX2_read_2 : List UInt8 := dkwX2_read_2 ++ dktX2_read_3
def dkwX2_read_1 : List UInt8 := [182, 0, 75, 42, 182, 0, 141, 42, 180, 0, 47, 16, 59, 160, 0, 14, 42, 182, 0, 75, 42, 182, 0, 141]
abbrev dktX2_read_1 : List UInt8 := dkwX2_read_1 ++ dktX2_read_2
def dkwX2_read_0 : List UInt8 := [42, 27, 181, 0, 33, 42, 3, 181, 0, 40, 42, 187, 0, 113, 89, 183, 0, 140, 181, 0, 109, 42]
abbrev dktX2_read_0 : List UInt8 := dkwX2_read_0 ++ dktX2_read_1
theorem dksX2_read_0 : cX2_read.data.toList.drop 0 = dktX2_read_0 := by decide +kernel
theorem dksX2_read_1 : cX2_read.data.toList.drop 22 = dktX2_read_1 := dk_seg dksX2_read_0 22 rfl rfl
theorem dksX2_read_2 : cX2_read.data.toList.drop 46 = dktX2_read_2 := dk_seg dksX2_read_1 24 rfl rfl
theorem dksX2_read_3 : cX2_read.data.toList.drop 69 = dktX2_read_3 := dk_seg dksX2_read_2 23 rfl rfl
theorem dksX2_read_4 : cX2_read.data.toList.drop 93 = dktX2_read_4 := dk_seg dksX2_read_3 24 rfl rfl
theorem dX2_read_0 : decode cX2_read 0 = .ok (.aload_n 0, 1) := dk_42 (dk_at dksX2_read_0 0 rfl rfl)
theorem dX2_read_1 : decode cX2_read 1 = .ok (.iload_n 1, 1) := dk_27 (dk_at dksX2_read_0 1 rfl rfl)
theorem dX2_read_2 : decode cX2_read 2 = .ok (.putfield 33, 3) := dk_181 0 33 (dk_at dksX2_read_0 2 rfl rfl)
theorem dX2_read_5 : decode cX2_read 5 = .ok (.aload_n 0, 1) := dk_42 (dk_at dksX2_read_0 5 rfl rfl)
theorem dX2_read_6 : decode cX2_read 6 = .ok (.iconst 0, 1) := dk_3 (dk_at dksX2_read_0 6 rfl rfl)
theorem dX2_read_7 : decode cX2_read 7 = .ok (.putfield 40, 3) := dk_181 0 40 (dk_at dksX2_read_0 7 rfl rfl)
theorem dX2_read_10 : decode cX2_read 10 = .ok (.aload_n 0, 1) := dk_42 (dk_at dksX2_read_0 10 rfl rfl)
theorem dX2_read_11 : decode cX2_read 11 = .ok (.new 113, 3) := dk_187 0 113 (dk_at dksX2_read_0 11 rfl rfl)
theorem dX2_read_14 : decode cX2_read 14 = .ok (.dup, 1) := dk_89 (dk_at dksX2_read_0 14 rfl rfl)
theorem dX2_read_15 : decode cX2_read 15 = .ok (.invokespecial 140, 3) := dk_183 0 140 (dk_at dksX2_read_0 15 rfl rfl)
theorem dX2_read_18 : decode cX2_read 18 = .ok (.putfield 109, 3) := dk_181 0 109 (dk_at dksX2_read_0 18 rfl rfl)
theorem dX2_read_21 : decode cX2_read 21 = .ok (.aload_n 0, 1) := dk_42 (dk_at dksX2_read_0 21 rfl rfl)
theorem dX2_read_22 : decode cX2_read 22 = .ok (.invokevirtual 75, 3) := dk_182 0 75 (dk_at dksX2_read_1 0 rfl rfl)
theorem dX2_read_25 : decode cX2_read 25 = .ok (.aload_n 0, 1) := dk_42 (dk_at dksX2_read_1 3 rfl rfl)
theorem dX2_read_26 : decode cX2_read 26 = .ok (.invokevirtual 141, 3) := dk_182 0 141 (dk_at dksX2_read_1 4 rfl rfl)
theorem dX2_read_29 : decode cX2_read 29 = .ok (.aload_n 0, 1) := dk_42 (dk_at dksX2_read_1 7 rfl rfl)
theorem dX2_read_30 : decode cX2_read 30 = .ok (.getfield 47, 3) := dk_180 0 47 (dk_at dksX2_read_1 8 rfl rfl)
theorem dX2_read_33 : decode cX2_read 33 = .ok (.bipush 59, 2) := dk_16 59 (dk_at dksX2_read_1 11 rfl rfl)
theorem dX2_read_35 : decode cX2_read 35 = .ok (.if_icmp .ne 14, 3) := dk_160 0 14 (dk_at dksX2_read_1 13 rfl rfl)
theorem dX2_read_38 : decode cX2_read 38 = .ok (.aload_n 0, 1) := dk_42 (dk_at dksX2_read_1 16 rfl rfl)
theorem dX2_read_39 : decode cX2_read 39 = .ok (.invokevirtual 75, 3) := dk_182 0 75 (dk_at dksX2_read_1 17 rfl rfl)
theorem dX2_read_42 : decode cX2_read 42 = .ok (.aload_n 0, 1) := dk_42 (dk_at dksX2_read_1 20 rfl rfl)
theorem dX2_read_43 : decode cX2_read 43 = .ok (.invokevirtual 141, 3) := dk_182 0 141 (dk_at dksX2_read_1 21 rfl rfl)
theorem dX2_read_46 : decode cX2_read 46 = .ok (.goto (-17), 3) := dk_167 255 239 (dk_at dksX2_read_2 0 rfl rfl)
theorem dX2_read_49 : decode cX2_read 49 = .ok (.aload_n 0, 1) := dk_42 (dk_at dksX2_read_2 3 rfl rfl)
theorem dX2_read_50 : decode cX2_read 50 = .ok (.getfield 47, 3) := dk_180 0 47 (dk_at dksX2_read_2 4 rfl rfl)
theorem dX2_read_53 : decode cX2_read 53 = .ok (.ifCond .eq 9, 3) := dk_153 0 9 (dk_at dksX2_read_2 7 rfl rfl)
theorem dX2_read_56 : decode cX2_read 56 = .ok (.aload_n 0, 1) := dk_42 (dk_at dksX2_read_2 10 rfl rfl)
theorem dX2_read_57 : decode cX2_read 57 = .ok (.iconst 1, 1) := dk_4 (dk_at dksX2_read_2 11 rfl rfl)
theorem dX2_read_58 : decode cX2_read 58 = .ok (.invokevirtual 82, 3) := dk_182 0 82 (dk_at dksX2_read_2 12 rfl rfl)
theorem dX2_read_61 : decode cX2_read 61 = .ok (.athrow, 1) := dk_191 (dk_at dksX2_read_2 15 rfl rfl)
theorem dX2_read_62 : decode cX2_read 62 = .ok (.aload_n 0, 1) := dk_42 (dk_at dksX2_read_2 16 rfl rfl)
theorem dX2_read_63 : decode cX2_read 63 = .ok (.getfield 109, 3) := dk_180 0 109 (dk_at dksX2_read_2 17 rfl rfl)
theorem dX2_read_66 : decode cX2_read 66 = .ok (.getfield 137, 3) := dk_180 0 137 (dk_at dksX2_read_2 20 rfl rfl)
theorem dX2_read_69 : decode cX2_read 69 = .ok (.ifCond .eq 23, 3) := dk_153 0 23 (dk_at dksX2_read_3 0 rfl rfl)
theorem dX2_read_72 : decode cX2_read 72 = .ok (.aload_n 0, 1) := dk_42 (dk_at dksX2_read_3 3 rfl rfl)
theorem dX2_read_73 : decode cX2_read 73 = .ok (.getfield 109, 3) := dk_180 0 109 (dk_at dksX2_read_3 4 rfl rfl)
theorem dX2_read_76 : decode cX2_read 76 = .ok (.getfield 144, 3) := dk_180 0 144 (dk_at dksX2_read_3 7 rfl rfl)
theorem dX2_read_79 : decode cX2_read 79 = .ok (.ifCond .eq 13, 3) := dk_153 0 13 (dk_at dksX2_read_3 10 rfl rfl)
theorem dX2_read_82 : decode cX2_read 82 = .ok (.aload_n 0, 1) := dk_42 (dk_at dksX2_read_3 13 rfl rfl)
theorem dX2_read_83 : decode cX2_read 83 = .ok (.getfield 109, 3) := dk_180 0 109 (dk_at dksX2_read_3 14 rfl rfl)
theorem dX2_read_86 : decode cX2_read 86 = .ok (.getfield 147, 3) := dk_180 0 147 (dk_at dksX2_read_3 17 rfl rfl)
theorem dX2_read_89 : decode cX2_read 89 = .ok (.ifCond .ne 10, 3) := dk_154 0 10 (dk_at dksX2_read_3 20 rfl rfl)
theorem dX2_read_92 : decode cX2_read 92 = .ok (.aload_n 0, 1) := dk_42 (dk_at dksX2_read_3 23 rfl rfl)
theorem dX2_read_93 : decode cX2_read 93 = .ok (.bipush 6, 2) := dk_16 6 (dk_at dksX2_read_4 0 rfl rfl)
theorem dX2_read_95 : decode cX2_read 95 = .ok (.invokevirtual 82, 3) := dk_182 0 82 (dk_at dksX2_read_4 2 rfl rfl)
theorem dX2_read_98 : decode cX2_read 98 = .ok (.athrow, 1) := dk_191 (dk_at dksX2_read_4 5 rfl rfl)
theorem dX2_read_99 : decode cX2_read 99 = .ok (.aload_n 0, 1) := dk_42 (dk_at dksX2_read_4 6 rfl rfl)
theorem dX2_read_100 : decode cX2_read 100 = .ok (.getfield 109, 3) := dk_180 0 109 (dk_at dksX2_read_4 7 rfl rfl)
theorem dX2_read_103 : decode cX2_read 103 = .ok (.areturn, 1) := dk_176 (dk_at dksX2_read_4 10 rfl rfl)
abbrev cX2_next : ByteArray := prog_19_method_6_code
def yX2_next : MethodName := ⟨RX2, "next", "()V"⟩
def dkwX2_next_12 : List UInt8 := [181, 0, 47, 167, 0, 18, 42, 28, 16, 59, 160, 0, 7, 28, 167, 0, 4, 4, 181, 0, 47, 177]
abbrev dktX2_next_12 : List UInt8 := dkwX2_next_12 ++ []
def dkwX2_next_11 : List UInt8 := [181, 0, 40, 167, 255, 199, 42, 42, 180, 0, 40, 27, 100, 5, 164, 0, 7, 4, 167, 0, 4, 6]
abbrev dktX2_next_11 : List UInt8 := dkwX2_next_11 ++ dktX2_next_12
def dkwX2_next_10 : List UInt8 := [42, 42, 180, 0, 40, 182, 0, 43, 96, 16, 48, 100, 181, 0, 68, 42, 89, 180, 0, 40, 4, 96]
abbrev dktX2_next_10 : List UInt8 := dkwX2_next_10 ++ dktX2_next_11
def dkwX2_next_9 : List UInt8 := [184, 0, 65, 153, 0, 49, 42, 180, 0, 40, 27, 100, 5, 162, 0, 26, 42, 16, 10, 42, 180, 0, 68, 104]
abbrev dktX2_next_9 : List UInt8 := dkwX2_next_9 ++ dktX2_next_10
def dkwX2_next_8 : List UInt8 := [184, 0, 65, 153, 0, 95, 42, 3, 181, 0, 68, 42, 27, 181, 0, 40, 42, 42, 180, 0, 40, 182, 0, 43]
abbrev dktX2_next_8 : List UInt8 := dkwX2_next_8 ++ dktX2_next_9
def dkwX2_next_7 : List UInt8 := [3, 42, 180, 0, 40, 27, 100, 183, 0, 56, 167, 0, 5, 18, 59, 181, 0, 61, 167, 0, 117, 28]
abbrev dktX2_next_7 : List UInt8 := dkwX2_next_7 ++ dktX2_next_8
def dkwX2_next_6 : List UInt8 := [167, 0, 4, 5, 181, 0, 47, 42, 42, 180, 0, 47, 5, 160, 0, 24, 187, 0, 54, 89, 42, 180, 0, 18]
abbrev dktX2_next_6 : List UInt8 := dkwX2_next_6 ++ dktX2_next_7
def dkwX2_next_5 : List UInt8 := [180, 0, 40, 4, 96, 181, 0, 40, 167, 255, 201, 42, 42, 180, 0, 40, 27, 100, 16, 8, 164, 0, 7, 4]
abbrev dktX2_next_5 : List UInt8 := dkwX2_next_5 ++ dktX2_next_6
def dkwX2_next_4 : List UInt8 := [42, 180, 0, 18, 42, 180, 0, 40, 27, 100, 42, 42, 180, 0, 40, 182, 0, 43, 146, 85, 42, 89]
abbrev dktX2_next_4 : List UInt8 := dkwX2_next_4 ++ dktX2_next_5
def dkwX2_next_3 : List UInt8 := [42, 180, 0, 40, 182, 0, 43, 184, 0, 50, 153, 0, 47, 42, 180, 0, 40, 27, 100, 16, 8, 162, 0, 23]
abbrev dktX2_next_3 : List UInt8 := dkwX2_next_3 ++ dktX2_next_4
def dkwX2_next_2 : List UInt8 := [181, 0, 47, 42, 27, 181, 0, 40, 167, 0, 245, 28, 184, 0, 50, 153, 0, 124, 42, 27, 181, 0, 40, 42]
abbrev dktX2_next_2 : List UInt8 := dkwX2_next_2 ++ dktX2_next_3
def dkwX2_next_1 : List UInt8 := [181, 0, 26, 42, 27, 4, 96, 181, 0, 40, 42, 27, 182, 0, 43, 61, 28, 2, 160, 0, 16, 42, 3]
abbrev dktX2_next_1 : List UInt8 := dkwX2_next_1 ++ dktX2_next_2
def dkwX2_next_0 : List UInt8 := [42, 180, 0, 40, 60, 42, 27, 182, 0, 43, 16, 32, 160, 0, 9, 132, 1, 1, 167, 255, 243, 42, 27]
abbrev dktX2_next_0 : List UInt8 := dkwX2_next_0 ++ dktX2_next_1
theorem dksX2_next_0 : cX2_next.data.toList.drop 0 = dktX2_next_0 := by decide +kernel
theorem dksX2_next_1 : cX2_next.data.toList.drop 23 = dktX2_next_1 := dk_seg dksX2_next_0 23 rfl rfl
theorem dksX2_next_2 : cX2_next.data.toList.drop 46 = dktX2_next_2 := dk_seg dksX2_next_1 23 rfl rfl
theorem dksX2_next_3 : cX2_next.data.toList.drop 70 = dktX2_next_3 := dk_seg dksX2_next_2 24 rfl rfl
theorem dksX2_next_4 : cX2_next.data.toList.drop 94 = dktX2_next_4 := dk_seg dksX2_next_3 24 rfl rfl
theorem dksX2_next_5 : cX2_next.data.toList.drop 116 = dktX2_next_5 := dk_seg dksX2_next_4 22 rfl rfl
theorem dksX2_next_6 : cX2_next.data.toList.drop 140 = dktX2_next_6 := dk_seg dksX2_next_5 24 rfl rfl
theorem dksX2_next_7 : cX2_next.data.toList.drop 164 = dktX2_next_7 := dk_seg dksX2_next_6 24 rfl rfl
theorem dksX2_next_8 : cX2_next.data.toList.drop 186 = dktX2_next_8 := dk_seg dksX2_next_7 22 rfl rfl
theorem dksX2_next_9 : cX2_next.data.toList.drop 210 = dktX2_next_9 := dk_seg dksX2_next_8 24 rfl rfl
theorem dksX2_next_10 : cX2_next.data.toList.drop 234 = dktX2_next_10 := dk_seg dksX2_next_9 24 rfl rfl
theorem dksX2_next_11 : cX2_next.data.toList.drop 256 = dktX2_next_11 := dk_seg dksX2_next_10 22 rfl rfl
theorem dksX2_next_12 : cX2_next.data.toList.drop 278 = dktX2_next_12 := dk_seg dksX2_next_11 22 rfl rfl
theorem dX2_next_0 : decode cX2_next 0 = .ok (.aload_n 0, 1) := dk_42 (dk_at dksX2_next_0 0 rfl rfl)
theorem dX2_next_1 : decode cX2_next 1 = .ok (.getfield 40, 3) := dk_180 0 40 (dk_at dksX2_next_0 1 rfl rfl)
theorem dX2_next_4 : decode cX2_next 4 = .ok (.istore_n 1, 1) := dk_60 (dk_at dksX2_next_0 4 rfl rfl)
theorem dX2_next_5 : decode cX2_next 5 = .ok (.aload_n 0, 1) := dk_42 (dk_at dksX2_next_0 5 rfl rfl)
theorem dX2_next_6 : decode cX2_next 6 = .ok (.iload_n 1, 1) := dk_27 (dk_at dksX2_next_0 6 rfl rfl)
theorem dX2_next_7 : decode cX2_next 7 = .ok (.invokevirtual 43, 3) := dk_182 0 43 (dk_at dksX2_next_0 7 rfl rfl)
theorem dX2_next_10 : decode cX2_next 10 = .ok (.bipush 32, 2) := dk_16 32 (dk_at dksX2_next_0 10 rfl rfl)
theorem dX2_next_12 : decode cX2_next 12 = .ok (.if_icmp .ne 9, 3) := dk_160 0 9 (dk_at dksX2_next_0 12 rfl rfl)
theorem dX2_next_15 : decode cX2_next 15 = .ok (.iinc 1 1, 3) := dk_132 1 1 (dk_at dksX2_next_0 15 rfl rfl)
theorem dX2_next_18 : decode cX2_next 18 = .ok (.goto (-13), 3) := dk_167 255 243 (dk_at dksX2_next_0 18 rfl rfl)
theorem dX2_next_21 : decode cX2_next 21 = .ok (.aload_n 0, 1) := dk_42 (dk_at dksX2_next_0 21 rfl rfl)
theorem dX2_next_22 : decode cX2_next 22 = .ok (.iload_n 1, 1) := dk_27 (dk_at dksX2_next_0 22 rfl rfl)
theorem dX2_next_23 : decode cX2_next 23 = .ok (.putfield 26, 3) := dk_181 0 26 (dk_at dksX2_next_1 0 rfl rfl)
theorem dX2_next_26 : decode cX2_next 26 = .ok (.aload_n 0, 1) := dk_42 (dk_at dksX2_next_1 3 rfl rfl)
theorem dX2_next_27 : decode cX2_next 27 = .ok (.iload_n 1, 1) := dk_27 (dk_at dksX2_next_1 4 rfl rfl)
theorem dX2_next_28 : decode cX2_next 28 = .ok (.iconst 1, 1) := dk_4 (dk_at dksX2_next_1 5 rfl rfl)
theorem dX2_next_29 : decode cX2_next 29 = .ok (.iadd, 1) := dk_96 (dk_at dksX2_next_1 6 rfl rfl)
theorem dX2_next_30 : decode cX2_next 30 = .ok (.putfield 40, 3) := dk_181 0 40 (dk_at dksX2_next_1 7 rfl rfl)
theorem dX2_next_33 : decode cX2_next 33 = .ok (.aload_n 0, 1) := dk_42 (dk_at dksX2_next_1 10 rfl rfl)
theorem dX2_next_34 : decode cX2_next 34 = .ok (.iload_n 1, 1) := dk_27 (dk_at dksX2_next_1 11 rfl rfl)
theorem dX2_next_35 : decode cX2_next 35 = .ok (.invokevirtual 43, 3) := dk_182 0 43 (dk_at dksX2_next_1 12 rfl rfl)
theorem dX2_next_38 : decode cX2_next 38 = .ok (.istore_n 2, 1) := dk_61 (dk_at dksX2_next_1 15 rfl rfl)
theorem dX2_next_39 : decode cX2_next 39 = .ok (.iload_n 2, 1) := dk_28 (dk_at dksX2_next_1 16 rfl rfl)
theorem dX2_next_40 : decode cX2_next 40 = .ok (.iconst (-1), 1) := dk_2 (dk_at dksX2_next_1 17 rfl rfl)
theorem dX2_next_41 : decode cX2_next 41 = .ok (.if_icmp .ne 16, 3) := dk_160 0 16 (dk_at dksX2_next_1 18 rfl rfl)
theorem dX2_next_44 : decode cX2_next 44 = .ok (.aload_n 0, 1) := dk_42 (dk_at dksX2_next_1 21 rfl rfl)
theorem dX2_next_45 : decode cX2_next 45 = .ok (.iconst 0, 1) := dk_3 (dk_at dksX2_next_1 22 rfl rfl)
theorem dX2_next_46 : decode cX2_next 46 = .ok (.putfield 47, 3) := dk_181 0 47 (dk_at dksX2_next_2 0 rfl rfl)
theorem dX2_next_49 : decode cX2_next 49 = .ok (.aload_n 0, 1) := dk_42 (dk_at dksX2_next_2 3 rfl rfl)
theorem dX2_next_50 : decode cX2_next 50 = .ok (.iload_n 1, 1) := dk_27 (dk_at dksX2_next_2 4 rfl rfl)
theorem dX2_next_51 : decode cX2_next 51 = .ok (.putfield 40, 3) := dk_181 0 40 (dk_at dksX2_next_2 5 rfl rfl)
theorem dX2_next_54 : decode cX2_next 54 = .ok (.goto 245, 3) := dk_167 0 245 (dk_at dksX2_next_2 8 rfl rfl)
theorem dX2_next_57 : decode cX2_next 57 = .ok (.iload_n 2, 1) := dk_28 (dk_at dksX2_next_2 11 rfl rfl)
theorem dX2_next_58 : decode cX2_next 58 = .ok (.invokestatic 50, 3) := dk_184 0 50 (dk_at dksX2_next_2 12 rfl rfl)
theorem dX2_next_61 : decode cX2_next 61 = .ok (.ifCond .eq 124, 3) := dk_153 0 124 (dk_at dksX2_next_2 15 rfl rfl)
theorem dX2_next_64 : decode cX2_next 64 = .ok (.aload_n 0, 1) := dk_42 (dk_at dksX2_next_2 18 rfl rfl)
theorem dX2_next_65 : decode cX2_next 65 = .ok (.iload_n 1, 1) := dk_27 (dk_at dksX2_next_2 19 rfl rfl)
theorem dX2_next_66 : decode cX2_next 66 = .ok (.putfield 40, 3) := dk_181 0 40 (dk_at dksX2_next_2 20 rfl rfl)
theorem dX2_next_69 : decode cX2_next 69 = .ok (.aload_n 0, 1) := dk_42 (dk_at dksX2_next_2 23 rfl rfl)
theorem dX2_next_70 : decode cX2_next 70 = .ok (.aload_n 0, 1) := dk_42 (dk_at dksX2_next_3 0 rfl rfl)
theorem dX2_next_71 : decode cX2_next 71 = .ok (.getfield 40, 3) := dk_180 0 40 (dk_at dksX2_next_3 1 rfl rfl)
theorem dX2_next_74 : decode cX2_next 74 = .ok (.invokevirtual 43, 3) := dk_182 0 43 (dk_at dksX2_next_3 4 rfl rfl)
theorem dX2_next_77 : decode cX2_next 77 = .ok (.invokestatic 50, 3) := dk_184 0 50 (dk_at dksX2_next_3 7 rfl rfl)
theorem dX2_next_80 : decode cX2_next 80 = .ok (.ifCond .eq 47, 3) := dk_153 0 47 (dk_at dksX2_next_3 10 rfl rfl)
theorem dX2_next_83 : decode cX2_next 83 = .ok (.aload_n 0, 1) := dk_42 (dk_at dksX2_next_3 13 rfl rfl)
theorem dX2_next_84 : decode cX2_next 84 = .ok (.getfield 40, 3) := dk_180 0 40 (dk_at dksX2_next_3 14 rfl rfl)
theorem dX2_next_87 : decode cX2_next 87 = .ok (.iload_n 1, 1) := dk_27 (dk_at dksX2_next_3 17 rfl rfl)
theorem dX2_next_88 : decode cX2_next 88 = .ok (.isub, 1) := dk_100 (dk_at dksX2_next_3 18 rfl rfl)
theorem dX2_next_89 : decode cX2_next 89 = .ok (.bipush 8, 2) := dk_16 8 (dk_at dksX2_next_3 19 rfl rfl)
theorem dX2_next_91 : decode cX2_next 91 = .ok (.if_icmp .ge 23, 3) := dk_162 0 23 (dk_at dksX2_next_3 21 rfl rfl)
theorem dX2_next_94 : decode cX2_next 94 = .ok (.aload_n 0, 1) := dk_42 (dk_at dksX2_next_4 0 rfl rfl)
theorem dX2_next_95 : decode cX2_next 95 = .ok (.getfield 18, 3) := dk_180 0 18 (dk_at dksX2_next_4 1 rfl rfl)
theorem dX2_next_98 : decode cX2_next 98 = .ok (.aload_n 0, 1) := dk_42 (dk_at dksX2_next_4 4 rfl rfl)
theorem dX2_next_99 : decode cX2_next 99 = .ok (.getfield 40, 3) := dk_180 0 40 (dk_at dksX2_next_4 5 rfl rfl)
theorem dX2_next_102 : decode cX2_next 102 = .ok (.iload_n 1, 1) := dk_27 (dk_at dksX2_next_4 8 rfl rfl)
theorem dX2_next_103 : decode cX2_next 103 = .ok (.isub, 1) := dk_100 (dk_at dksX2_next_4 9 rfl rfl)
theorem dX2_next_104 : decode cX2_next 104 = .ok (.aload_n 0, 1) := dk_42 (dk_at dksX2_next_4 10 rfl rfl)
theorem dX2_next_105 : decode cX2_next 105 = .ok (.aload_n 0, 1) := dk_42 (dk_at dksX2_next_4 11 rfl rfl)
theorem dX2_next_106 : decode cX2_next 106 = .ok (.getfield 40, 3) := dk_180 0 40 (dk_at dksX2_next_4 12 rfl rfl)
theorem dX2_next_109 : decode cX2_next 109 = .ok (.invokevirtual 43, 3) := dk_182 0 43 (dk_at dksX2_next_4 15 rfl rfl)
theorem dX2_next_112 : decode cX2_next 112 = .ok (.i2c, 1) := dk_146 (dk_at dksX2_next_4 18 rfl rfl)
theorem dX2_next_113 : decode cX2_next 113 = .ok (.castore, 1) := dk_85 (dk_at dksX2_next_4 19 rfl rfl)
theorem dX2_next_114 : decode cX2_next 114 = .ok (.aload_n 0, 1) := dk_42 (dk_at dksX2_next_4 20 rfl rfl)
theorem dX2_next_115 : decode cX2_next 115 = .ok (.dup, 1) := dk_89 (dk_at dksX2_next_4 21 rfl rfl)
theorem dX2_next_116 : decode cX2_next 116 = .ok (.getfield 40, 3) := dk_180 0 40 (dk_at dksX2_next_5 0 rfl rfl)
theorem dX2_next_119 : decode cX2_next 119 = .ok (.iconst 1, 1) := dk_4 (dk_at dksX2_next_5 3 rfl rfl)
theorem dX2_next_120 : decode cX2_next 120 = .ok (.iadd, 1) := dk_96 (dk_at dksX2_next_5 4 rfl rfl)
theorem dX2_next_121 : decode cX2_next 121 = .ok (.putfield 40, 3) := dk_181 0 40 (dk_at dksX2_next_5 5 rfl rfl)
theorem dX2_next_124 : decode cX2_next 124 = .ok (.goto (-55), 3) := dk_167 255 201 (dk_at dksX2_next_5 8 rfl rfl)
theorem dX2_next_127 : decode cX2_next 127 = .ok (.aload_n 0, 1) := dk_42 (dk_at dksX2_next_5 11 rfl rfl)
theorem dX2_next_128 : decode cX2_next 128 = .ok (.aload_n 0, 1) := dk_42 (dk_at dksX2_next_5 12 rfl rfl)
theorem dX2_next_129 : decode cX2_next 129 = .ok (.getfield 40, 3) := dk_180 0 40 (dk_at dksX2_next_5 13 rfl rfl)
theorem dX2_next_132 : decode cX2_next 132 = .ok (.iload_n 1, 1) := dk_27 (dk_at dksX2_next_5 16 rfl rfl)
theorem dX2_next_133 : decode cX2_next 133 = .ok (.isub, 1) := dk_100 (dk_at dksX2_next_5 17 rfl rfl)
theorem dX2_next_134 : decode cX2_next 134 = .ok (.bipush 8, 2) := dk_16 8 (dk_at dksX2_next_5 18 rfl rfl)
theorem dX2_next_136 : decode cX2_next 136 = .ok (.if_icmp .le 7, 3) := dk_164 0 7 (dk_at dksX2_next_5 20 rfl rfl)
theorem dX2_next_139 : decode cX2_next 139 = .ok (.iconst 1, 1) := dk_4 (dk_at dksX2_next_5 23 rfl rfl)
theorem dX2_next_140 : decode cX2_next 140 = .ok (.goto 4, 3) := dk_167 0 4 (dk_at dksX2_next_6 0 rfl rfl)
theorem dX2_next_143 : decode cX2_next 143 = .ok (.iconst 2, 1) := dk_5 (dk_at dksX2_next_6 3 rfl rfl)
theorem dX2_next_144 : decode cX2_next 144 = .ok (.putfield 47, 3) := dk_181 0 47 (dk_at dksX2_next_6 4 rfl rfl)
theorem dX2_next_147 : decode cX2_next 147 = .ok (.aload_n 0, 1) := dk_42 (dk_at dksX2_next_6 7 rfl rfl)
theorem dX2_next_148 : decode cX2_next 148 = .ok (.aload_n 0, 1) := dk_42 (dk_at dksX2_next_6 8 rfl rfl)
theorem dX2_next_149 : decode cX2_next 149 = .ok (.getfield 47, 3) := dk_180 0 47 (dk_at dksX2_next_6 9 rfl rfl)
theorem dX2_next_152 : decode cX2_next 152 = .ok (.iconst 2, 1) := dk_5 (dk_at dksX2_next_6 12 rfl rfl)
theorem dX2_next_153 : decode cX2_next 153 = .ok (.if_icmp .ne 24, 3) := dk_160 0 24 (dk_at dksX2_next_6 13 rfl rfl)
theorem dX2_next_156 : decode cX2_next 156 = .ok (.new 54, 3) := dk_187 0 54 (dk_at dksX2_next_6 16 rfl rfl)
theorem dX2_next_159 : decode cX2_next 159 = .ok (.dup, 1) := dk_89 (dk_at dksX2_next_6 19 rfl rfl)
theorem dX2_next_160 : decode cX2_next 160 = .ok (.aload_n 0, 1) := dk_42 (dk_at dksX2_next_6 20 rfl rfl)
theorem dX2_next_161 : decode cX2_next 161 = .ok (.getfield 18, 3) := dk_180 0 18 (dk_at dksX2_next_6 21 rfl rfl)
theorem dX2_next_164 : decode cX2_next 164 = .ok (.iconst 0, 1) := dk_3 (dk_at dksX2_next_7 0 rfl rfl)
theorem dX2_next_165 : decode cX2_next 165 = .ok (.aload_n 0, 1) := dk_42 (dk_at dksX2_next_7 1 rfl rfl)
theorem dX2_next_166 : decode cX2_next 166 = .ok (.getfield 40, 3) := dk_180 0 40 (dk_at dksX2_next_7 2 rfl rfl)
theorem dX2_next_169 : decode cX2_next 169 = .ok (.iload_n 1, 1) := dk_27 (dk_at dksX2_next_7 5 rfl rfl)
theorem dX2_next_170 : decode cX2_next 170 = .ok (.isub, 1) := dk_100 (dk_at dksX2_next_7 6 rfl rfl)
theorem dX2_next_171 : decode cX2_next 171 = .ok (.invokespecial 56, 3) := dk_183 0 56 (dk_at dksX2_next_7 7 rfl rfl)
theorem dX2_next_174 : decode cX2_next 174 = .ok (.goto 5, 3) := dk_167 0 5 (dk_at dksX2_next_7 10 rfl rfl)
theorem dX2_next_177 : decode cX2_next 177 = .ok (.ldc 59, 2) := dk_18 59 (dk_at dksX2_next_7 13 rfl rfl)
theorem dX2_next_179 : decode cX2_next 179 = .ok (.putfield 61, 3) := dk_181 0 61 (dk_at dksX2_next_7 15 rfl rfl)
theorem dX2_next_182 : decode cX2_next 182 = .ok (.goto 117, 3) := dk_167 0 117 (dk_at dksX2_next_7 18 rfl rfl)
theorem dX2_next_185 : decode cX2_next 185 = .ok (.iload_n 2, 1) := dk_28 (dk_at dksX2_next_7 21 rfl rfl)
theorem dX2_next_186 : decode cX2_next 186 = .ok (.invokestatic 65, 3) := dk_184 0 65 (dk_at dksX2_next_8 0 rfl rfl)
theorem dX2_next_189 : decode cX2_next 189 = .ok (.ifCond .eq 95, 3) := dk_153 0 95 (dk_at dksX2_next_8 3 rfl rfl)
theorem dX2_next_192 : decode cX2_next 192 = .ok (.aload_n 0, 1) := dk_42 (dk_at dksX2_next_8 6 rfl rfl)
theorem dX2_next_193 : decode cX2_next 193 = .ok (.iconst 0, 1) := dk_3 (dk_at dksX2_next_8 7 rfl rfl)
theorem dX2_next_194 : decode cX2_next 194 = .ok (.putfield 68, 3) := dk_181 0 68 (dk_at dksX2_next_8 8 rfl rfl)
theorem dX2_next_197 : decode cX2_next 197 = .ok (.aload_n 0, 1) := dk_42 (dk_at dksX2_next_8 11 rfl rfl)
theorem dX2_next_198 : decode cX2_next 198 = .ok (.iload_n 1, 1) := dk_27 (dk_at dksX2_next_8 12 rfl rfl)
theorem dX2_next_199 : decode cX2_next 199 = .ok (.putfield 40, 3) := dk_181 0 40 (dk_at dksX2_next_8 13 rfl rfl)
theorem dX2_next_202 : decode cX2_next 202 = .ok (.aload_n 0, 1) := dk_42 (dk_at dksX2_next_8 16 rfl rfl)
theorem dX2_next_203 : decode cX2_next 203 = .ok (.aload_n 0, 1) := dk_42 (dk_at dksX2_next_8 17 rfl rfl)
theorem dX2_next_204 : decode cX2_next 204 = .ok (.getfield 40, 3) := dk_180 0 40 (dk_at dksX2_next_8 18 rfl rfl)
theorem dX2_next_207 : decode cX2_next 207 = .ok (.invokevirtual 43, 3) := dk_182 0 43 (dk_at dksX2_next_8 21 rfl rfl)
theorem dX2_next_210 : decode cX2_next 210 = .ok (.invokestatic 65, 3) := dk_184 0 65 (dk_at dksX2_next_9 0 rfl rfl)
theorem dX2_next_213 : decode cX2_next 213 = .ok (.ifCond .eq 49, 3) := dk_153 0 49 (dk_at dksX2_next_9 3 rfl rfl)
theorem dX2_next_216 : decode cX2_next 216 = .ok (.aload_n 0, 1) := dk_42 (dk_at dksX2_next_9 6 rfl rfl)
theorem dX2_next_217 : decode cX2_next 217 = .ok (.getfield 40, 3) := dk_180 0 40 (dk_at dksX2_next_9 7 rfl rfl)
theorem dX2_next_220 : decode cX2_next 220 = .ok (.iload_n 1, 1) := dk_27 (dk_at dksX2_next_9 10 rfl rfl)
theorem dX2_next_221 : decode cX2_next 221 = .ok (.isub, 1) := dk_100 (dk_at dksX2_next_9 11 rfl rfl)
theorem dX2_next_222 : decode cX2_next 222 = .ok (.iconst 2, 1) := dk_5 (dk_at dksX2_next_9 12 rfl rfl)
theorem dX2_next_223 : decode cX2_next 223 = .ok (.if_icmp .ge 26, 3) := dk_162 0 26 (dk_at dksX2_next_9 13 rfl rfl)
theorem dX2_next_226 : decode cX2_next 226 = .ok (.aload_n 0, 1) := dk_42 (dk_at dksX2_next_9 16 rfl rfl)
theorem dX2_next_227 : decode cX2_next 227 = .ok (.bipush 10, 2) := dk_16 10 (dk_at dksX2_next_9 17 rfl rfl)
theorem dX2_next_229 : decode cX2_next 229 = .ok (.aload_n 0, 1) := dk_42 (dk_at dksX2_next_9 19 rfl rfl)
theorem dX2_next_230 : decode cX2_next 230 = .ok (.getfield 68, 3) := dk_180 0 68 (dk_at dksX2_next_9 20 rfl rfl)
theorem dX2_next_233 : decode cX2_next 233 = .ok (.imul, 1) := dk_104 (dk_at dksX2_next_9 23 rfl rfl)
theorem dX2_next_234 : decode cX2_next 234 = .ok (.aload_n 0, 1) := dk_42 (dk_at dksX2_next_10 0 rfl rfl)
theorem dX2_next_235 : decode cX2_next 235 = .ok (.aload_n 0, 1) := dk_42 (dk_at dksX2_next_10 1 rfl rfl)
theorem dX2_next_236 : decode cX2_next 236 = .ok (.getfield 40, 3) := dk_180 0 40 (dk_at dksX2_next_10 2 rfl rfl)
theorem dX2_next_239 : decode cX2_next 239 = .ok (.invokevirtual 43, 3) := dk_182 0 43 (dk_at dksX2_next_10 5 rfl rfl)
theorem dX2_next_242 : decode cX2_next 242 = .ok (.iadd, 1) := dk_96 (dk_at dksX2_next_10 8 rfl rfl)
theorem dX2_next_243 : decode cX2_next 243 = .ok (.bipush 48, 2) := dk_16 48 (dk_at dksX2_next_10 9 rfl rfl)
theorem dX2_next_245 : decode cX2_next 245 = .ok (.isub, 1) := dk_100 (dk_at dksX2_next_10 11 rfl rfl)
theorem dX2_next_246 : decode cX2_next 246 = .ok (.putfield 68, 3) := dk_181 0 68 (dk_at dksX2_next_10 12 rfl rfl)
theorem dX2_next_249 : decode cX2_next 249 = .ok (.aload_n 0, 1) := dk_42 (dk_at dksX2_next_10 15 rfl rfl)
theorem dX2_next_250 : decode cX2_next 250 = .ok (.dup, 1) := dk_89 (dk_at dksX2_next_10 16 rfl rfl)
theorem dX2_next_251 : decode cX2_next 251 = .ok (.getfield 40, 3) := dk_180 0 40 (dk_at dksX2_next_10 17 rfl rfl)
theorem dX2_next_254 : decode cX2_next 254 = .ok (.iconst 1, 1) := dk_4 (dk_at dksX2_next_10 20 rfl rfl)
theorem dX2_next_255 : decode cX2_next 255 = .ok (.iadd, 1) := dk_96 (dk_at dksX2_next_10 21 rfl rfl)
theorem dX2_next_256 : decode cX2_next 256 = .ok (.putfield 40, 3) := dk_181 0 40 (dk_at dksX2_next_11 0 rfl rfl)
theorem dX2_next_259 : decode cX2_next 259 = .ok (.goto (-57), 3) := dk_167 255 199 (dk_at dksX2_next_11 3 rfl rfl)
theorem dX2_next_262 : decode cX2_next 262 = .ok (.aload_n 0, 1) := dk_42 (dk_at dksX2_next_11 6 rfl rfl)
theorem dX2_next_263 : decode cX2_next 263 = .ok (.aload_n 0, 1) := dk_42 (dk_at dksX2_next_11 7 rfl rfl)
theorem dX2_next_264 : decode cX2_next 264 = .ok (.getfield 40, 3) := dk_180 0 40 (dk_at dksX2_next_11 8 rfl rfl)
theorem dX2_next_267 : decode cX2_next 267 = .ok (.iload_n 1, 1) := dk_27 (dk_at dksX2_next_11 11 rfl rfl)
theorem dX2_next_268 : decode cX2_next 268 = .ok (.isub, 1) := dk_100 (dk_at dksX2_next_11 12 rfl rfl)
theorem dX2_next_269 : decode cX2_next 269 = .ok (.iconst 2, 1) := dk_5 (dk_at dksX2_next_11 13 rfl rfl)
theorem dX2_next_270 : decode cX2_next 270 = .ok (.if_icmp .le 7, 3) := dk_164 0 7 (dk_at dksX2_next_11 14 rfl rfl)
theorem dX2_next_273 : decode cX2_next 273 = .ok (.iconst 1, 1) := dk_4 (dk_at dksX2_next_11 17 rfl rfl)
theorem dX2_next_274 : decode cX2_next 274 = .ok (.goto 4, 3) := dk_167 0 4 (dk_at dksX2_next_11 18 rfl rfl)
theorem dX2_next_277 : decode cX2_next 277 = .ok (.iconst 3, 1) := dk_6 (dk_at dksX2_next_11 21 rfl rfl)
theorem dX2_next_278 : decode cX2_next 278 = .ok (.putfield 47, 3) := dk_181 0 47 (dk_at dksX2_next_12 0 rfl rfl)
theorem dX2_next_281 : decode cX2_next 281 = .ok (.goto 18, 3) := dk_167 0 18 (dk_at dksX2_next_12 3 rfl rfl)
theorem dX2_next_284 : decode cX2_next 284 = .ok (.aload_n 0, 1) := dk_42 (dk_at dksX2_next_12 6 rfl rfl)
theorem dX2_next_285 : decode cX2_next 285 = .ok (.iload_n 2, 1) := dk_28 (dk_at dksX2_next_12 7 rfl rfl)
theorem dX2_next_286 : decode cX2_next 286 = .ok (.bipush 59, 2) := dk_16 59 (dk_at dksX2_next_12 8 rfl rfl)
theorem dX2_next_288 : decode cX2_next 288 = .ok (.if_icmp .ne 7, 3) := dk_160 0 7 (dk_at dksX2_next_12 10 rfl rfl)
theorem dX2_next_291 : decode cX2_next 291 = .ok (.iload_n 2, 1) := dk_28 (dk_at dksX2_next_12 13 rfl rfl)
theorem dX2_next_292 : decode cX2_next 292 = .ok (.goto 4, 3) := dk_167 0 4 (dk_at dksX2_next_12 14 rfl rfl)
theorem dX2_next_295 : decode cX2_next 295 = .ok (.iconst 1, 1) := dk_4 (dk_at dksX2_next_12 17 rfl rfl)
theorem dX2_next_296 : decode cX2_next 296 = .ok (.putfield 47, 3) := dk_181 0 47 (dk_at dksX2_next_12 18 rfl rfl)
theorem dX2_next_299 : decode cX2_next 299 = .ok (.return_, 1) := dk_177 (dk_at dksX2_next_12 21 rfl rfl)
abbrev cX2_see : ByteArray := prog_19_method_3_code
def yX2_see : MethodName := ⟨RX2, "see", "(I)I"⟩
def dkwX2_see_0 : List UInt8 := [27, 42, 180, 0, 33, 162, 0, 16, 42, 180, 0, 22, 27, 51, 17, 0, 255, 126, 167, 0, 4, 2, 172]
abbrev dktX2_see_0 : List UInt8 := dkwX2_see_0 ++ []
theorem dksX2_see_0 : cX2_see.data.toList.drop 0 = dktX2_see_0 := by decide +kernel
theorem dX2_see_0 : decode cX2_see 0 = .ok (.iload_n 1, 1) := dk_27 (dk_at dksX2_see_0 0 rfl rfl)
theorem dX2_see_1 : decode cX2_see 1 = .ok (.aload_n 0, 1) := dk_42 (dk_at dksX2_see_0 1 rfl rfl)
theorem dX2_see_2 : decode cX2_see 2 = .ok (.getfield 33, 3) := dk_180 0 33 (dk_at dksX2_see_0 2 rfl rfl)
theorem dX2_see_5 : decode cX2_see 5 = .ok (.if_icmp .ge 16, 3) := dk_162 0 16 (dk_at dksX2_see_0 5 rfl rfl)
theorem dX2_see_8 : decode cX2_see 8 = .ok (.aload_n 0, 1) := dk_42 (dk_at dksX2_see_0 8 rfl rfl)
theorem dX2_see_9 : decode cX2_see 9 = .ok (.getfield 22, 3) := dk_180 0 22 (dk_at dksX2_see_0 9 rfl rfl)
theorem dX2_see_12 : decode cX2_see 12 = .ok (.iload_n 1, 1) := dk_27 (dk_at dksX2_see_0 12 rfl rfl)
theorem dX2_see_13 : decode cX2_see 13 = .ok (.baload, 1) := dk_51 (dk_at dksX2_see_0 13 rfl rfl)
theorem dX2_see_14 : decode cX2_see 14 = .ok (.sipush 255, 3) := dk_17 0 255 (dk_at dksX2_see_0 14 rfl rfl)
theorem dX2_see_17 : decode cX2_see 17 = .ok (.iand, 1) := dk_126 (dk_at dksX2_see_0 17 rfl rfl)
theorem dX2_see_18 : decode cX2_see 18 = .ok (.goto 4, 3) := dk_167 0 4 (dk_at dksX2_see_0 18 rfl rfl)
theorem dX2_see_21 : decode cX2_see 21 = .ok (.iconst (-1), 1) := dk_2 (dk_at dksX2_see_0 21 rfl rfl)
theorem dX2_see_22 : decode cX2_see 22 = .ok (.ireturn, 1) := dk_172 (dk_at dksX2_see_0 22 rfl rfl)
abbrev cX2_isSmall : ByteArray := prog_19_method_4_code
def yX2_isSmall : MethodName := ⟨RX2, "isSmall", "(I)Z"⟩
def dkwX2_isSmall_0 : List UInt8 := [26, 16, 97, 16, 122, 184, 0, 36, 172]
abbrev dktX2_isSmall_0 : List UInt8 := dkwX2_isSmall_0 ++ []
theorem dksX2_isSmall_0 : cX2_isSmall.data.toList.drop 0 = dktX2_isSmall_0 := by decide +kernel
theorem dX2_isSmall_0 : decode cX2_isSmall 0 = .ok (.iload_n 0, 1) := dk_26 (dk_at dksX2_isSmall_0 0 rfl rfl)
theorem dX2_isSmall_1 : decode cX2_isSmall 1 = .ok (.bipush 97, 2) := dk_16 97 (dk_at dksX2_isSmall_0 1 rfl rfl)
theorem dX2_isSmall_3 : decode cX2_isSmall 3 = .ok (.bipush 122, 2) := dk_16 122 (dk_at dksX2_isSmall_0 3 rfl rfl)
theorem dX2_isSmall_5 : decode cX2_isSmall 5 = .ok (.invokestatic 36, 3) := dk_184 0 36 (dk_at dksX2_isSmall_0 5 rfl rfl)
theorem dX2_isSmall_8 : decode cX2_isSmall 8 = .ok (.ireturn, 1) := dk_172 (dk_at dksX2_isSmall_0 8 rfl rfl)
abbrev cX2_isDigit : ByteArray := prog_19_method_5_code
def yX2_isDigit : MethodName := ⟨RX2, "isDigit", "(I)Z"⟩
def dkwX2_isDigit_0 : List UInt8 := [26, 16, 48, 16, 57, 184, 0, 36, 172]
abbrev dktX2_isDigit_0 : List UInt8 := dkwX2_isDigit_0 ++ []
theorem dksX2_isDigit_0 : cX2_isDigit.data.toList.drop 0 = dktX2_isDigit_0 := by decide +kernel
theorem dX2_isDigit_0 : decode cX2_isDigit 0 = .ok (.iload_n 0, 1) := dk_26 (dk_at dksX2_isDigit_0 0 rfl rfl)
theorem dX2_isDigit_1 : decode cX2_isDigit 1 = .ok (.bipush 48, 2) := dk_16 48 (dk_at dksX2_isDigit_0 1 rfl rfl)
theorem dX2_isDigit_3 : decode cX2_isDigit 3 = .ok (.bipush 57, 2) := dk_16 57 (dk_at dksX2_isDigit_0 3 rfl rfl)
theorem dX2_isDigit_5 : decode cX2_isDigit 5 = .ok (.invokestatic 36, 3) := dk_184 0 36 (dk_at dksX2_isDigit_0 5 rfl rfl)
theorem dX2_isDigit_8 : decode cX2_isDigit 8 = .ok (.ireturn, 1) := dk_172 (dk_at dksX2_isDigit_0 8 rfl rfl)
abbrev cX2_line : ByteArray := prog_19_method_18_code
def yX2_line : MethodName := ⟨RX2, "line", "()V"⟩
def dkwX2_line_11 : List UInt8 := [167, 0, 16, 42, 182, 0, 171, 167, 0, 9, 42, 4, 182, 0, 82, 191, 177]
abbrev dktX2_line_11 : List UInt8 := dkwX2_line_11 ++ []
def dkwX2_line_10 : List UInt8 := [182, 0, 159, 167, 0, 37, 42, 182, 0, 162, 167, 0, 30, 42, 182, 0, 165, 167, 0, 23, 42, 182, 0, 168]
abbrev dktX2_line_10 : List UInt8 := dkwX2_line_10 ++ dktX2_line_11
def dkwX2_line_9 : List UInt8 := [42, 182, 0, 150, 167, 0, 58, 42, 182, 0, 153, 167, 0, 51, 42, 182, 0, 156, 167, 0, 44, 42]
abbrev dktX2_line_9 : List UInt8 := dkwX2_line_9 ++ dktX2_line_10
def dkwX2_line_8 : List UInt8 := [170, 0, 0, 0, 0, 0, 0, 104, 0, 0, 0, 0, 0, 0, 0, 7, 0, 0, 0, 48, 0, 0, 0, 55, 0, 0, 0, 62, 0, 0, 0, 69, 0, 0, 0, 76, 0, 0, 0, 83, 0, 0, 0, 90, 0, 0, 0, 97]
abbrev dktX2_line_8 : List UInt8 := dkwX2_line_8 ++ dktX2_line_9
def dkwX2_line_7 : List UInt8 := [61, 167, 0, 15, 43, 18, 104, 182, 0, 71, 153, 0, 6, 16, 7, 61, 28]
abbrev dktX2_line_7 : List UInt8 := dkwX2_line_7 ++ dktX2_line_8
def dkwX2_line_6 : List UInt8 := [18, 100, 182, 0, 71, 153, 0, 35, 8, 61, 167, 0, 30, 43, 18, 102, 182, 0, 71, 153, 0, 21, 16, 6]
abbrev dktX2_line_6 : List UInt8 := dkwX2_line_6 ++ dktX2_line_7
def dkwX2_line_5 : List UInt8 := [153, 0, 63, 6, 61, 167, 0, 58, 43, 18, 98, 182, 0, 71, 153, 0, 49, 7, 61, 167, 0, 44, 43]
abbrev dktX2_line_5 : List UInt8 := dkwX2_line_5 ++ dktX2_line_6
def dkwX2_line_4 : List UInt8 := [61, 167, 0, 86, 43, 18, 94, 182, 0, 71, 153, 0, 77, 5, 61, 167, 0, 72, 43, 18, 96, 182, 0, 71]
abbrev dktX2_line_4 : List UInt8 := dkwX2_line_4 ++ dktX2_line_5
def dkwX2_line_3 : List UInt8 := [43, 18, 90, 182, 0, 71, 153, 0, 105, 3, 61, 167, 0, 100, 43, 18, 92, 182, 0, 71, 153, 0, 91, 4]
abbrev dktX2_line_3 : List UInt8 := dkwX2_line_3 ++ dktX2_line_4
def dkwX2_line_2 : List UInt8 := [171, 0, 0, 0, 0, 0, 186, 0, 0, 0, 8, 173, 161, 173, 68, 0, 0, 0, 103, 175, 15, 95, 183, 0, 0, 0, 174, 175, 66, 209, 74, 0, 0, 0, 75, 196, 227, 155, 85, 0, 0, 0, 89, 0, 50, 160, 7, 0, 0, 0, 131, 0, 50, 160, 255, 0, 0, 0, 117, 0, 53, 75, 148, 0, 0, 0, 159, 44, 11, 98, 180, 0, 0, 0, 145]
abbrev dktX2_line_2 : List UInt8 := dkwX2_line_2 ++ dktX2_line_3
def dkwX2_line_1 : List UInt8 := [182, 0, 86]
abbrev dktX2_line_1 : List UInt8 := dkwX2_line_1 ++ dktX2_line_2
def dkwX2_line_0 : List UInt8 := [42, 180, 0, 47, 5, 159, 0, 9, 42, 4, 182, 0, 82, 191, 42, 180, 0, 61, 76, 2, 61, 43]
abbrev dktX2_line_0 : List UInt8 := dkwX2_line_0 ++ dktX2_line_1
theorem dksX2_line_0 : cX2_line.data.toList.drop 0 = dktX2_line_0 := by decide +kernel
theorem dksX2_line_1 : cX2_line.data.toList.drop 22 = dktX2_line_1 := dk_seg dksX2_line_0 22 rfl rfl
theorem dksX2_line_2 : cX2_line.data.toList.drop 25 = dktX2_line_2 := dk_seg dksX2_line_1 3 rfl rfl
theorem dksX2_line_3 : cX2_line.data.toList.drop 100 = dktX2_line_3 := dk_seg dksX2_line_2 75 rfl rfl
theorem dksX2_line_4 : cX2_line.data.toList.drop 124 = dktX2_line_4 := dk_seg dksX2_line_3 24 rfl rfl
theorem dksX2_line_5 : cX2_line.data.toList.drop 148 = dktX2_line_5 := dk_seg dksX2_line_4 24 rfl rfl
theorem dksX2_line_6 : cX2_line.data.toList.drop 171 = dktX2_line_6 := dk_seg dksX2_line_5 23 rfl rfl
theorem dksX2_line_7 : cX2_line.data.toList.drop 195 = dktX2_line_7 := dk_seg dksX2_line_6 24 rfl rfl
theorem dksX2_line_8 : cX2_line.data.toList.drop 212 = dktX2_line_8 := dk_seg dksX2_line_7 17 rfl rfl
theorem dksX2_line_9 : cX2_line.data.toList.drop 260 = dktX2_line_9 := dk_seg dksX2_line_8 48 rfl rfl
theorem dksX2_line_10 : cX2_line.data.toList.drop 282 = dktX2_line_10 := dk_seg dksX2_line_9 22 rfl rfl
theorem dksX2_line_11 : cX2_line.data.toList.drop 306 = dktX2_line_11 := dk_seg dksX2_line_10 24 rfl rfl
theorem dX2_line_0 : decode cX2_line 0 = .ok (.aload_n 0, 1) := dk_42 (dk_at dksX2_line_0 0 rfl rfl)
theorem dX2_line_1 : decode cX2_line 1 = .ok (.getfield 47, 3) := dk_180 0 47 (dk_at dksX2_line_0 1 rfl rfl)
theorem dX2_line_4 : decode cX2_line 4 = .ok (.iconst 2, 1) := dk_5 (dk_at dksX2_line_0 4 rfl rfl)
theorem dX2_line_5 : decode cX2_line 5 = .ok (.if_icmp .eq 9, 3) := dk_159 0 9 (dk_at dksX2_line_0 5 rfl rfl)
theorem dX2_line_8 : decode cX2_line 8 = .ok (.aload_n 0, 1) := dk_42 (dk_at dksX2_line_0 8 rfl rfl)
theorem dX2_line_9 : decode cX2_line 9 = .ok (.iconst 1, 1) := dk_4 (dk_at dksX2_line_0 9 rfl rfl)
theorem dX2_line_10 : decode cX2_line 10 = .ok (.invokevirtual 82, 3) := dk_182 0 82 (dk_at dksX2_line_0 10 rfl rfl)
theorem dX2_line_13 : decode cX2_line 13 = .ok (.athrow, 1) := dk_191 (dk_at dksX2_line_0 13 rfl rfl)
theorem dX2_line_14 : decode cX2_line 14 = .ok (.aload_n 0, 1) := dk_42 (dk_at dksX2_line_0 14 rfl rfl)
theorem dX2_line_15 : decode cX2_line 15 = .ok (.getfield 61, 3) := dk_180 0 61 (dk_at dksX2_line_0 15 rfl rfl)
theorem dX2_line_18 : decode cX2_line 18 = .ok (.astore_n 1, 1) := dk_76 (dk_at dksX2_line_0 18 rfl rfl)
theorem dX2_line_19 : decode cX2_line 19 = .ok (.iconst (-1), 1) := dk_2 (dk_at dksX2_line_0 19 rfl rfl)
theorem dX2_line_20 : decode cX2_line 20 = .ok (.istore_n 2, 1) := dk_61 (dk_at dksX2_line_0 20 rfl rfl)
theorem dX2_line_21 : decode cX2_line 21 = .ok (.aload_n 1, 1) := dk_43 (dk_at dksX2_line_0 21 rfl rfl)
theorem dX2_line_22 : decode cX2_line 22 = .ok (.invokevirtual 86, 3) := dk_182 0 86 (dk_at dksX2_line_1 0 rfl rfl)
theorem dX2_line_25 : decode cX2_line 25 = .ok (.lookupswitch 186 #[(-1381913276, 103), (-1357946953, 174), (-1354575542, 75), (-991716523, 89), (3317767, 131), (3318015, 117), (3492756, 159), (738943668, 145)], 75) := by decide +kernel
theorem dX2_line_100 : decode cX2_line 100 = .ok (.aload_n 1, 1) := dk_43 (dk_at dksX2_line_3 0 rfl rfl)
theorem dX2_line_101 : decode cX2_line 101 = .ok (.ldc 90, 2) := dk_18 90 (dk_at dksX2_line_3 1 rfl rfl)
theorem dX2_line_103 : decode cX2_line 103 = .ok (.invokevirtual 71, 3) := dk_182 0 71 (dk_at dksX2_line_3 3 rfl rfl)
theorem dX2_line_106 : decode cX2_line 106 = .ok (.ifCond .eq 105, 3) := dk_153 0 105 (dk_at dksX2_line_3 6 rfl rfl)
theorem dX2_line_109 : decode cX2_line 109 = .ok (.iconst 0, 1) := dk_3 (dk_at dksX2_line_3 9 rfl rfl)
theorem dX2_line_110 : decode cX2_line 110 = .ok (.istore_n 2, 1) := dk_61 (dk_at dksX2_line_3 10 rfl rfl)
theorem dX2_line_111 : decode cX2_line 111 = .ok (.goto 100, 3) := dk_167 0 100 (dk_at dksX2_line_3 11 rfl rfl)
theorem dX2_line_114 : decode cX2_line 114 = .ok (.aload_n 1, 1) := dk_43 (dk_at dksX2_line_3 14 rfl rfl)
theorem dX2_line_115 : decode cX2_line 115 = .ok (.ldc 92, 2) := dk_18 92 (dk_at dksX2_line_3 15 rfl rfl)
theorem dX2_line_117 : decode cX2_line 117 = .ok (.invokevirtual 71, 3) := dk_182 0 71 (dk_at dksX2_line_3 17 rfl rfl)
theorem dX2_line_120 : decode cX2_line 120 = .ok (.ifCond .eq 91, 3) := dk_153 0 91 (dk_at dksX2_line_3 20 rfl rfl)
theorem dX2_line_123 : decode cX2_line 123 = .ok (.iconst 1, 1) := dk_4 (dk_at dksX2_line_3 23 rfl rfl)
theorem dX2_line_124 : decode cX2_line 124 = .ok (.istore_n 2, 1) := dk_61 (dk_at dksX2_line_4 0 rfl rfl)
theorem dX2_line_125 : decode cX2_line 125 = .ok (.goto 86, 3) := dk_167 0 86 (dk_at dksX2_line_4 1 rfl rfl)
theorem dX2_line_128 : decode cX2_line 128 = .ok (.aload_n 1, 1) := dk_43 (dk_at dksX2_line_4 4 rfl rfl)
theorem dX2_line_129 : decode cX2_line 129 = .ok (.ldc 94, 2) := dk_18 94 (dk_at dksX2_line_4 5 rfl rfl)
theorem dX2_line_131 : decode cX2_line 131 = .ok (.invokevirtual 71, 3) := dk_182 0 71 (dk_at dksX2_line_4 7 rfl rfl)
theorem dX2_line_134 : decode cX2_line 134 = .ok (.ifCond .eq 77, 3) := dk_153 0 77 (dk_at dksX2_line_4 10 rfl rfl)
theorem dX2_line_137 : decode cX2_line 137 = .ok (.iconst 2, 1) := dk_5 (dk_at dksX2_line_4 13 rfl rfl)
theorem dX2_line_138 : decode cX2_line 138 = .ok (.istore_n 2, 1) := dk_61 (dk_at dksX2_line_4 14 rfl rfl)
theorem dX2_line_139 : decode cX2_line 139 = .ok (.goto 72, 3) := dk_167 0 72 (dk_at dksX2_line_4 15 rfl rfl)
theorem dX2_line_142 : decode cX2_line 142 = .ok (.aload_n 1, 1) := dk_43 (dk_at dksX2_line_4 18 rfl rfl)
theorem dX2_line_143 : decode cX2_line 143 = .ok (.ldc 96, 2) := dk_18 96 (dk_at dksX2_line_4 19 rfl rfl)
theorem dX2_line_145 : decode cX2_line 145 = .ok (.invokevirtual 71, 3) := dk_182 0 71 (dk_at dksX2_line_4 21 rfl rfl)
theorem dX2_line_148 : decode cX2_line 148 = .ok (.ifCond .eq 63, 3) := dk_153 0 63 (dk_at dksX2_line_5 0 rfl rfl)
theorem dX2_line_151 : decode cX2_line 151 = .ok (.iconst 3, 1) := dk_6 (dk_at dksX2_line_5 3 rfl rfl)
theorem dX2_line_152 : decode cX2_line 152 = .ok (.istore_n 2, 1) := dk_61 (dk_at dksX2_line_5 4 rfl rfl)
theorem dX2_line_153 : decode cX2_line 153 = .ok (.goto 58, 3) := dk_167 0 58 (dk_at dksX2_line_5 5 rfl rfl)
theorem dX2_line_156 : decode cX2_line 156 = .ok (.aload_n 1, 1) := dk_43 (dk_at dksX2_line_5 8 rfl rfl)
theorem dX2_line_157 : decode cX2_line 157 = .ok (.ldc 98, 2) := dk_18 98 (dk_at dksX2_line_5 9 rfl rfl)
theorem dX2_line_159 : decode cX2_line 159 = .ok (.invokevirtual 71, 3) := dk_182 0 71 (dk_at dksX2_line_5 11 rfl rfl)
theorem dX2_line_162 : decode cX2_line 162 = .ok (.ifCond .eq 49, 3) := dk_153 0 49 (dk_at dksX2_line_5 14 rfl rfl)
theorem dX2_line_165 : decode cX2_line 165 = .ok (.iconst 4, 1) := dk_7 (dk_at dksX2_line_5 17 rfl rfl)
theorem dX2_line_166 : decode cX2_line 166 = .ok (.istore_n 2, 1) := dk_61 (dk_at dksX2_line_5 18 rfl rfl)
theorem dX2_line_167 : decode cX2_line 167 = .ok (.goto 44, 3) := dk_167 0 44 (dk_at dksX2_line_5 19 rfl rfl)
theorem dX2_line_170 : decode cX2_line 170 = .ok (.aload_n 1, 1) := dk_43 (dk_at dksX2_line_5 22 rfl rfl)
theorem dX2_line_171 : decode cX2_line 171 = .ok (.ldc 100, 2) := dk_18 100 (dk_at dksX2_line_6 0 rfl rfl)
theorem dX2_line_173 : decode cX2_line 173 = .ok (.invokevirtual 71, 3) := dk_182 0 71 (dk_at dksX2_line_6 2 rfl rfl)
theorem dX2_line_176 : decode cX2_line 176 = .ok (.ifCond .eq 35, 3) := dk_153 0 35 (dk_at dksX2_line_6 5 rfl rfl)
theorem dX2_line_179 : decode cX2_line 179 = .ok (.iconst 5, 1) := dk_8 (dk_at dksX2_line_6 8 rfl rfl)
theorem dX2_line_180 : decode cX2_line 180 = .ok (.istore_n 2, 1) := dk_61 (dk_at dksX2_line_6 9 rfl rfl)
theorem dX2_line_181 : decode cX2_line 181 = .ok (.goto 30, 3) := dk_167 0 30 (dk_at dksX2_line_6 10 rfl rfl)
theorem dX2_line_184 : decode cX2_line 184 = .ok (.aload_n 1, 1) := dk_43 (dk_at dksX2_line_6 13 rfl rfl)
theorem dX2_line_185 : decode cX2_line 185 = .ok (.ldc 102, 2) := dk_18 102 (dk_at dksX2_line_6 14 rfl rfl)
theorem dX2_line_187 : decode cX2_line 187 = .ok (.invokevirtual 71, 3) := dk_182 0 71 (dk_at dksX2_line_6 16 rfl rfl)
theorem dX2_line_190 : decode cX2_line 190 = .ok (.ifCond .eq 21, 3) := dk_153 0 21 (dk_at dksX2_line_6 19 rfl rfl)
theorem dX2_line_193 : decode cX2_line 193 = .ok (.bipush 6, 2) := dk_16 6 (dk_at dksX2_line_6 22 rfl rfl)
theorem dX2_line_195 : decode cX2_line 195 = .ok (.istore_n 2, 1) := dk_61 (dk_at dksX2_line_7 0 rfl rfl)
theorem dX2_line_196 : decode cX2_line 196 = .ok (.goto 15, 3) := dk_167 0 15 (dk_at dksX2_line_7 1 rfl rfl)
theorem dX2_line_199 : decode cX2_line 199 = .ok (.aload_n 1, 1) := dk_43 (dk_at dksX2_line_7 4 rfl rfl)
theorem dX2_line_200 : decode cX2_line 200 = .ok (.ldc 104, 2) := dk_18 104 (dk_at dksX2_line_7 5 rfl rfl)
theorem dX2_line_202 : decode cX2_line 202 = .ok (.invokevirtual 71, 3) := dk_182 0 71 (dk_at dksX2_line_7 7 rfl rfl)
theorem dX2_line_205 : decode cX2_line 205 = .ok (.ifCond .eq 6, 3) := dk_153 0 6 (dk_at dksX2_line_7 10 rfl rfl)
theorem dX2_line_208 : decode cX2_line 208 = .ok (.bipush 7, 2) := dk_16 7 (dk_at dksX2_line_7 13 rfl rfl)
theorem dX2_line_210 : decode cX2_line 210 = .ok (.istore_n 2, 1) := dk_61 (dk_at dksX2_line_7 15 rfl rfl)
theorem dX2_line_211 : decode cX2_line 211 = .ok (.iload_n 2, 1) := dk_28 (dk_at dksX2_line_7 16 rfl rfl)
theorem dX2_line_212 : decode cX2_line 212 = .ok (.tableswitch 104 0 7 #[48, 55, 62, 69, 76, 83, 90, 97], 48) := by decide +kernel
theorem dX2_line_260 : decode cX2_line 260 = .ok (.aload_n 0, 1) := dk_42 (dk_at dksX2_line_9 0 rfl rfl)
theorem dX2_line_261 : decode cX2_line 261 = .ok (.invokevirtual 150, 3) := dk_182 0 150 (dk_at dksX2_line_9 1 rfl rfl)
theorem dX2_line_264 : decode cX2_line 264 = .ok (.goto 58, 3) := dk_167 0 58 (dk_at dksX2_line_9 4 rfl rfl)
theorem dX2_line_267 : decode cX2_line 267 = .ok (.aload_n 0, 1) := dk_42 (dk_at dksX2_line_9 7 rfl rfl)
theorem dX2_line_268 : decode cX2_line 268 = .ok (.invokevirtual 153, 3) := dk_182 0 153 (dk_at dksX2_line_9 8 rfl rfl)
theorem dX2_line_271 : decode cX2_line 271 = .ok (.goto 51, 3) := dk_167 0 51 (dk_at dksX2_line_9 11 rfl rfl)
theorem dX2_line_274 : decode cX2_line 274 = .ok (.aload_n 0, 1) := dk_42 (dk_at dksX2_line_9 14 rfl rfl)
theorem dX2_line_275 : decode cX2_line 275 = .ok (.invokevirtual 156, 3) := dk_182 0 156 (dk_at dksX2_line_9 15 rfl rfl)
theorem dX2_line_278 : decode cX2_line 278 = .ok (.goto 44, 3) := dk_167 0 44 (dk_at dksX2_line_9 18 rfl rfl)
theorem dX2_line_281 : decode cX2_line 281 = .ok (.aload_n 0, 1) := dk_42 (dk_at dksX2_line_9 21 rfl rfl)
theorem dX2_line_282 : decode cX2_line 282 = .ok (.invokevirtual 159, 3) := dk_182 0 159 (dk_at dksX2_line_10 0 rfl rfl)
theorem dX2_line_285 : decode cX2_line 285 = .ok (.goto 37, 3) := dk_167 0 37 (dk_at dksX2_line_10 3 rfl rfl)
theorem dX2_line_288 : decode cX2_line 288 = .ok (.aload_n 0, 1) := dk_42 (dk_at dksX2_line_10 6 rfl rfl)
theorem dX2_line_289 : decode cX2_line 289 = .ok (.invokevirtual 162, 3) := dk_182 0 162 (dk_at dksX2_line_10 7 rfl rfl)
theorem dX2_line_292 : decode cX2_line 292 = .ok (.goto 30, 3) := dk_167 0 30 (dk_at dksX2_line_10 10 rfl rfl)
theorem dX2_line_295 : decode cX2_line 295 = .ok (.aload_n 0, 1) := dk_42 (dk_at dksX2_line_10 13 rfl rfl)
theorem dX2_line_296 : decode cX2_line 296 = .ok (.invokevirtual 165, 3) := dk_182 0 165 (dk_at dksX2_line_10 14 rfl rfl)
theorem dX2_line_299 : decode cX2_line 299 = .ok (.goto 23, 3) := dk_167 0 23 (dk_at dksX2_line_10 17 rfl rfl)
theorem dX2_line_302 : decode cX2_line 302 = .ok (.aload_n 0, 1) := dk_42 (dk_at dksX2_line_10 20 rfl rfl)
theorem dX2_line_303 : decode cX2_line 303 = .ok (.invokevirtual 168, 3) := dk_182 0 168 (dk_at dksX2_line_10 21 rfl rfl)
theorem dX2_line_306 : decode cX2_line 306 = .ok (.goto 16, 3) := dk_167 0 16 (dk_at dksX2_line_11 0 rfl rfl)
theorem dX2_line_309 : decode cX2_line 309 = .ok (.aload_n 0, 1) := dk_42 (dk_at dksX2_line_11 3 rfl rfl)
theorem dX2_line_310 : decode cX2_line 310 = .ok (.invokevirtual 171, 3) := dk_182 0 171 (dk_at dksX2_line_11 4 rfl rfl)
theorem dX2_line_313 : decode cX2_line 313 = .ok (.goto 9, 3) := dk_167 0 9 (dk_at dksX2_line_11 7 rfl rfl)
theorem dX2_line_316 : decode cX2_line 316 = .ok (.aload_n 0, 1) := dk_42 (dk_at dksX2_line_11 10 rfl rfl)
theorem dX2_line_317 : decode cX2_line 317 = .ok (.iconst 1, 1) := dk_4 (dk_at dksX2_line_11 11 rfl rfl)
theorem dX2_line_318 : decode cX2_line 318 = .ok (.invokevirtual 82, 3) := dk_182 0 82 (dk_at dksX2_line_11 12 rfl rfl)
theorem dX2_line_321 : decode cX2_line 321 = .ok (.athrow, 1) := dk_191 (dk_at dksX2_line_11 15 rfl rfl)
theorem dX2_line_322 : decode cX2_line 322 = .ok (.return_, 1) := dk_177 (dk_at dksX2_line_11 16 rfl rfl)
abbrev cX2_fail : ByteArray := prog_19_method_2_code
def yX2_fail : MethodName := ⟨RX2, "fail", "(I)LUmbrellaHeir$Refused;"⟩
def dkwX2_fail_0 : List UInt8 := [42, 180, 0, 12, 27, 42, 180, 0, 26, 182, 0, 30, 176]
abbrev dktX2_fail_0 : List UInt8 := dkwX2_fail_0 ++ []
theorem dksX2_fail_0 : cX2_fail.data.toList.drop 0 = dktX2_fail_0 := by decide +kernel
theorem dX2_fail_0 : decode cX2_fail 0 = .ok (.aload_n 0, 1) := dk_42 (dk_at dksX2_fail_0 0 rfl rfl)
theorem dX2_fail_1 : decode cX2_fail 1 = .ok (.getfield 12, 3) := dk_180 0 12 (dk_at dksX2_fail_0 1 rfl rfl)
theorem dX2_fail_4 : decode cX2_fail 4 = .ok (.iload_n 1, 1) := dk_27 (dk_at dksX2_fail_0 4 rfl rfl)
theorem dX2_fail_5 : decode cX2_fail 5 = .ok (.aload_n 0, 1) := dk_42 (dk_at dksX2_fail_0 5 rfl rfl)
theorem dX2_fail_6 : decode cX2_fail 6 = .ok (.getfield 26, 3) := dk_180 0 26 (dk_at dksX2_fail_0 6 rfl rfl)
theorem dX2_fail_9 : decode cX2_fail 9 = .ok (.invokevirtual 30, 3) := dk_182 0 30 (dk_at dksX2_fail_0 9 rfl rfl)
theorem dX2_fail_12 : decode cX2_fail 12 = .ok (.areturn, 1) := dk_176 (dk_at dksX2_fail_0 12 rfl rfl)
abbrev cX2_countyLine : ByteArray := prog_19_method_19_code
def yX2_countyLine : MethodName := ⟨RX2, "countyLine", "()V"⟩
def dkwX2_countyLine_2 : List UInt8 := [180, 0, 109, 42, 18, 183, 3, 16, 99, 182, 0, 175, 181, 0, 185, 42, 180, 0, 109, 27, 181, 0, 137, 177]
abbrev dktX2_countyLine_2 : List UInt8 := dkwX2_countyLine_2 ++ []
def dkwX2_countyLine_1 : List UInt8 := [16, 30, 182, 0, 175, 60, 42, 180, 0, 109, 42, 18, 179, 3, 16, 99, 182, 0, 175, 181, 0, 181, 42]
abbrev dktX2_countyLine_1 : List UInt8 := dkwX2_countyLine_1 ++ dktX2_countyLine_2
def dkwX2_countyLine_0 : List UInt8 := [42, 180, 0, 109, 180, 0, 137, 158, 0, 9, 42, 6, 182, 0, 82, 191, 42, 182, 0, 75, 42, 18, 174, 4]
abbrev dktX2_countyLine_0 : List UInt8 := dkwX2_countyLine_0 ++ dktX2_countyLine_1
theorem dksX2_countyLine_0 : cX2_countyLine.data.toList.drop 0 = dktX2_countyLine_0 := by decide +kernel
theorem dksX2_countyLine_1 : cX2_countyLine.data.toList.drop 24 = dktX2_countyLine_1 := dk_seg dksX2_countyLine_0 24 rfl rfl
theorem dksX2_countyLine_2 : cX2_countyLine.data.toList.drop 47 = dktX2_countyLine_2 := dk_seg dksX2_countyLine_1 23 rfl rfl
theorem dX2_countyLine_0 : decode cX2_countyLine 0 = .ok (.aload_n 0, 1) := dk_42 (dk_at dksX2_countyLine_0 0 rfl rfl)
theorem dX2_countyLine_1 : decode cX2_countyLine 1 = .ok (.getfield 109, 3) := dk_180 0 109 (dk_at dksX2_countyLine_0 1 rfl rfl)
theorem dX2_countyLine_4 : decode cX2_countyLine 4 = .ok (.getfield 137, 3) := dk_180 0 137 (dk_at dksX2_countyLine_0 4 rfl rfl)
theorem dX2_countyLine_7 : decode cX2_countyLine 7 = .ok (.ifCond .le 9, 3) := dk_158 0 9 (dk_at dksX2_countyLine_0 7 rfl rfl)
theorem dX2_countyLine_10 : decode cX2_countyLine 10 = .ok (.aload_n 0, 1) := dk_42 (dk_at dksX2_countyLine_0 10 rfl rfl)
theorem dX2_countyLine_11 : decode cX2_countyLine 11 = .ok (.iconst 3, 1) := dk_6 (dk_at dksX2_countyLine_0 11 rfl rfl)
theorem dX2_countyLine_12 : decode cX2_countyLine 12 = .ok (.invokevirtual 82, 3) := dk_182 0 82 (dk_at dksX2_countyLine_0 12 rfl rfl)
theorem dX2_countyLine_15 : decode cX2_countyLine 15 = .ok (.athrow, 1) := dk_191 (dk_at dksX2_countyLine_0 15 rfl rfl)
theorem dX2_countyLine_16 : decode cX2_countyLine 16 = .ok (.aload_n 0, 1) := dk_42 (dk_at dksX2_countyLine_0 16 rfl rfl)
theorem dX2_countyLine_17 : decode cX2_countyLine 17 = .ok (.invokevirtual 75, 3) := dk_182 0 75 (dk_at dksX2_countyLine_0 17 rfl rfl)
theorem dX2_countyLine_20 : decode cX2_countyLine 20 = .ok (.aload_n 0, 1) := dk_42 (dk_at dksX2_countyLine_0 20 rfl rfl)
theorem dX2_countyLine_21 : decode cX2_countyLine 21 = .ok (.ldc 174, 2) := dk_18 174 (dk_at dksX2_countyLine_0 21 rfl rfl)
theorem dX2_countyLine_23 : decode cX2_countyLine 23 = .ok (.iconst 1, 1) := dk_4 (dk_at dksX2_countyLine_0 23 rfl rfl)
theorem dX2_countyLine_24 : decode cX2_countyLine 24 = .ok (.bipush 30, 2) := dk_16 30 (dk_at dksX2_countyLine_1 0 rfl rfl)
theorem dX2_countyLine_26 : decode cX2_countyLine 26 = .ok (.invokevirtual 175, 3) := dk_182 0 175 (dk_at dksX2_countyLine_1 2 rfl rfl)
theorem dX2_countyLine_29 : decode cX2_countyLine 29 = .ok (.istore_n 1, 1) := dk_60 (dk_at dksX2_countyLine_1 5 rfl rfl)
theorem dX2_countyLine_30 : decode cX2_countyLine 30 = .ok (.aload_n 0, 1) := dk_42 (dk_at dksX2_countyLine_1 6 rfl rfl)
theorem dX2_countyLine_31 : decode cX2_countyLine 31 = .ok (.getfield 109, 3) := dk_180 0 109 (dk_at dksX2_countyLine_1 7 rfl rfl)
theorem dX2_countyLine_34 : decode cX2_countyLine 34 = .ok (.aload_n 0, 1) := dk_42 (dk_at dksX2_countyLine_1 10 rfl rfl)
theorem dX2_countyLine_35 : decode cX2_countyLine 35 = .ok (.ldc 179, 2) := dk_18 179 (dk_at dksX2_countyLine_1 11 rfl rfl)
theorem dX2_countyLine_37 : decode cX2_countyLine 37 = .ok (.iconst 0, 1) := dk_3 (dk_at dksX2_countyLine_1 13 rfl rfl)
theorem dX2_countyLine_38 : decode cX2_countyLine 38 = .ok (.bipush 99, 2) := dk_16 99 (dk_at dksX2_countyLine_1 14 rfl rfl)
theorem dX2_countyLine_40 : decode cX2_countyLine 40 = .ok (.invokevirtual 175, 3) := dk_182 0 175 (dk_at dksX2_countyLine_1 16 rfl rfl)
theorem dX2_countyLine_43 : decode cX2_countyLine 43 = .ok (.putfield 181, 3) := dk_181 0 181 (dk_at dksX2_countyLine_1 19 rfl rfl)
theorem dX2_countyLine_46 : decode cX2_countyLine 46 = .ok (.aload_n 0, 1) := dk_42 (dk_at dksX2_countyLine_1 22 rfl rfl)
theorem dX2_countyLine_47 : decode cX2_countyLine 47 = .ok (.getfield 109, 3) := dk_180 0 109 (dk_at dksX2_countyLine_2 0 rfl rfl)
theorem dX2_countyLine_50 : decode cX2_countyLine 50 = .ok (.aload_n 0, 1) := dk_42 (dk_at dksX2_countyLine_2 3 rfl rfl)
theorem dX2_countyLine_51 : decode cX2_countyLine 51 = .ok (.ldc 183, 2) := dk_18 183 (dk_at dksX2_countyLine_2 4 rfl rfl)
theorem dX2_countyLine_53 : decode cX2_countyLine 53 = .ok (.iconst 0, 1) := dk_3 (dk_at dksX2_countyLine_2 6 rfl rfl)
theorem dX2_countyLine_54 : decode cX2_countyLine 54 = .ok (.bipush 99, 2) := dk_16 99 (dk_at dksX2_countyLine_2 7 rfl rfl)
theorem dX2_countyLine_56 : decode cX2_countyLine 56 = .ok (.invokevirtual 175, 3) := dk_182 0 175 (dk_at dksX2_countyLine_2 9 rfl rfl)
theorem dX2_countyLine_59 : decode cX2_countyLine 59 = .ok (.putfield 185, 3) := dk_181 0 185 (dk_at dksX2_countyLine_2 12 rfl rfl)
theorem dX2_countyLine_62 : decode cX2_countyLine 62 = .ok (.aload_n 0, 1) := dk_42 (dk_at dksX2_countyLine_2 15 rfl rfl)
theorem dX2_countyLine_63 : decode cX2_countyLine 63 = .ok (.getfield 109, 3) := dk_180 0 109 (dk_at dksX2_countyLine_2 16 rfl rfl)
theorem dX2_countyLine_66 : decode cX2_countyLine 66 = .ok (.iload_n 1, 1) := dk_27 (dk_at dksX2_countyLine_2 19 rfl rfl)
theorem dX2_countyLine_67 : decode cX2_countyLine 67 = .ok (.putfield 137, 3) := dk_181 0 137 (dk_at dksX2_countyLine_2 20 rfl rfl)
theorem dX2_countyLine_70 : decode cX2_countyLine 70 = .ok (.return_, 1) := dk_177 (dk_at dksX2_countyLine_2 23 rfl rfl)
abbrev cX2_after : ByteArray := prog_19_method_15_code
def yX2_after : MethodName := ⟨RX2, "after", "(Ljava/lang/String;II)I"⟩
def dkwX2_after_0 : List UInt8 := [42, 43, 182, 0, 130, 42, 28, 29, 182, 0, 134, 172]
abbrev dktX2_after_0 : List UInt8 := dkwX2_after_0 ++ []
theorem dksX2_after_0 : cX2_after.data.toList.drop 0 = dktX2_after_0 := by decide +kernel
theorem dX2_after_0 : decode cX2_after 0 = .ok (.aload_n 0, 1) := dk_42 (dk_at dksX2_after_0 0 rfl rfl)
theorem dX2_after_1 : decode cX2_after 1 = .ok (.aload_n 1, 1) := dk_43 (dk_at dksX2_after_0 1 rfl rfl)
theorem dX2_after_2 : decode cX2_after 2 = .ok (.invokevirtual 130, 3) := dk_182 0 130 (dk_at dksX2_after_0 2 rfl rfl)
theorem dX2_after_5 : decode cX2_after 5 = .ok (.aload_n 0, 1) := dk_42 (dk_at dksX2_after_0 5 rfl rfl)
theorem dX2_after_6 : decode cX2_after 6 = .ok (.iload_n 2, 1) := dk_28 (dk_at dksX2_after_0 6 rfl rfl)
theorem dX2_after_7 : decode cX2_after 7 = .ok (.iload_n 3, 1) := dk_29 (dk_at dksX2_after_0 7 rfl rfl)
theorem dX2_after_8 : decode cX2_after 8 = .ok (.invokevirtual 134, 3) := dk_182 0 134 (dk_at dksX2_after_0 8 rfl rfl)
theorem dX2_after_11 : decode cX2_after 11 = .ok (.ireturn, 1) := dk_172 (dk_at dksX2_after_0 11 rfl rfl)
abbrev cX2_must : ByteArray := prog_19_method_8_code
def yX2_must : MethodName := ⟨RX2, "must", "(Ljava/lang/String;)V"⟩
def dkwX2_must_0 : List UInt8 := [42, 43, 182, 0, 78, 154, 0, 9, 42, 4, 182, 0, 82, 191, 177]
abbrev dktX2_must_0 : List UInt8 := dkwX2_must_0 ++ []
theorem dksX2_must_0 : cX2_must.data.toList.drop 0 = dktX2_must_0 := by decide +kernel
theorem dX2_must_0 : decode cX2_must 0 = .ok (.aload_n 0, 1) := dk_42 (dk_at dksX2_must_0 0 rfl rfl)
theorem dX2_must_1 : decode cX2_must 1 = .ok (.aload_n 1, 1) := dk_43 (dk_at dksX2_must_0 1 rfl rfl)
theorem dX2_must_2 : decode cX2_must 2 = .ok (.invokevirtual 78, 3) := dk_182 0 78 (dk_at dksX2_must_0 2 rfl rfl)
theorem dX2_must_5 : decode cX2_must 5 = .ok (.ifCond .ne 9, 3) := dk_154 0 9 (dk_at dksX2_must_0 5 rfl rfl)
theorem dX2_must_8 : decode cX2_must 8 = .ok (.aload_n 0, 1) := dk_42 (dk_at dksX2_must_0 8 rfl rfl)
theorem dX2_must_9 : decode cX2_must 9 = .ok (.iconst 1, 1) := dk_4 (dk_at dksX2_must_0 9 rfl rfl)
theorem dX2_must_10 : decode cX2_must 10 = .ok (.invokevirtual 82, 3) := dk_182 0 82 (dk_at dksX2_must_0 10 rfl rfl)
theorem dX2_must_13 : decode cX2_must 13 = .ok (.athrow, 1) := dk_191 (dk_at dksX2_must_0 13 rfl rfl)
theorem dX2_must_14 : decode cX2_must 14 = .ok (.return_, 1) := dk_177 (dk_at dksX2_must_0 14 rfl rfl)
abbrev cX2_takes : ByteArray := prog_19_method_7_code
def yX2_takes : MethodName := ⟨RX2, "takes", "(Ljava/lang/String;)Z"⟩
def dkwX2_takes_1 : List UInt8 := [182, 0, 75, 4, 172]
abbrev dktX2_takes_1 : List UInt8 := dkwX2_takes_1 ++ []
def dkwX2_takes_0 : List UInt8 := [42, 180, 0, 47, 5, 160, 0, 14, 42, 180, 0, 61, 43, 182, 0, 71, 154, 0, 5, 3, 172, 42]
abbrev dktX2_takes_0 : List UInt8 := dkwX2_takes_0 ++ dktX2_takes_1
theorem dksX2_takes_0 : cX2_takes.data.toList.drop 0 = dktX2_takes_0 := by decide +kernel
theorem dksX2_takes_1 : cX2_takes.data.toList.drop 22 = dktX2_takes_1 := dk_seg dksX2_takes_0 22 rfl rfl
theorem dX2_takes_0 : decode cX2_takes 0 = .ok (.aload_n 0, 1) := dk_42 (dk_at dksX2_takes_0 0 rfl rfl)
theorem dX2_takes_1 : decode cX2_takes 1 = .ok (.getfield 47, 3) := dk_180 0 47 (dk_at dksX2_takes_0 1 rfl rfl)
theorem dX2_takes_4 : decode cX2_takes 4 = .ok (.iconst 2, 1) := dk_5 (dk_at dksX2_takes_0 4 rfl rfl)
theorem dX2_takes_5 : decode cX2_takes 5 = .ok (.if_icmp .ne 14, 3) := dk_160 0 14 (dk_at dksX2_takes_0 5 rfl rfl)
theorem dX2_takes_8 : decode cX2_takes 8 = .ok (.aload_n 0, 1) := dk_42 (dk_at dksX2_takes_0 8 rfl rfl)
theorem dX2_takes_9 : decode cX2_takes 9 = .ok (.getfield 61, 3) := dk_180 0 61 (dk_at dksX2_takes_0 9 rfl rfl)
theorem dX2_takes_12 : decode cX2_takes 12 = .ok (.aload_n 1, 1) := dk_43 (dk_at dksX2_takes_0 12 rfl rfl)
theorem dX2_takes_13 : decode cX2_takes 13 = .ok (.invokevirtual 71, 3) := dk_182 0 71 (dk_at dksX2_takes_0 13 rfl rfl)
theorem dX2_takes_16 : decode cX2_takes 16 = .ok (.ifCond .ne 5, 3) := dk_154 0 5 (dk_at dksX2_takes_0 16 rfl rfl)
theorem dX2_takes_19 : decode cX2_takes 19 = .ok (.iconst 0, 1) := dk_3 (dk_at dksX2_takes_0 19 rfl rfl)
theorem dX2_takes_20 : decode cX2_takes 20 = .ok (.ireturn, 1) := dk_172 (dk_at dksX2_takes_0 20 rfl rfl)
theorem dX2_takes_21 : decode cX2_takes 21 = .ok (.aload_n 0, 1) := dk_42 (dk_at dksX2_takes_0 21 rfl rfl)
theorem dX2_takes_22 : decode cX2_takes 22 = .ok (.invokevirtual 75, 3) := dk_182 0 75 (dk_at dksX2_takes_1 0 rfl rfl)
theorem dX2_takes_25 : decode cX2_takes 25 = .ok (.iconst 1, 1) := dk_4 (dk_at dksX2_takes_1 3 rfl rfl)
theorem dX2_takes_26 : decode cX2_takes 26 = .ok (.ireturn, 1) := dk_172 (dk_at dksX2_takes_1 4 rfl rfl)
abbrev cX2_number : ByteArray := prog_19_method_14_code
def yX2_number : MethodName := ⟨RX2, "number", "(II)I"⟩
def dkwX2_number_1 : List UInt8 := [154, 0, 9, 42, 7, 182, 0, 82, 191, 42, 180, 0, 68, 62, 42, 182, 0, 75, 29, 172]
abbrev dktX2_number_1 : List UInt8 := dkwX2_number_1 ++ []
def dkwX2_number_0 : List UInt8 := [42, 180, 0, 47, 6, 159, 0, 9, 42, 4, 182, 0, 82, 191, 42, 180, 0, 68, 27, 28, 184, 0, 36]
abbrev dktX2_number_0 : List UInt8 := dkwX2_number_0 ++ dktX2_number_1
theorem dksX2_number_0 : cX2_number.data.toList.drop 0 = dktX2_number_0 := by decide +kernel
theorem dksX2_number_1 : cX2_number.data.toList.drop 23 = dktX2_number_1 := dk_seg dksX2_number_0 23 rfl rfl
theorem dX2_number_0 : decode cX2_number 0 = .ok (.aload_n 0, 1) := dk_42 (dk_at dksX2_number_0 0 rfl rfl)
theorem dX2_number_1 : decode cX2_number 1 = .ok (.getfield 47, 3) := dk_180 0 47 (dk_at dksX2_number_0 1 rfl rfl)
theorem dX2_number_4 : decode cX2_number 4 = .ok (.iconst 3, 1) := dk_6 (dk_at dksX2_number_0 4 rfl rfl)
theorem dX2_number_5 : decode cX2_number 5 = .ok (.if_icmp .eq 9, 3) := dk_159 0 9 (dk_at dksX2_number_0 5 rfl rfl)
theorem dX2_number_8 : decode cX2_number 8 = .ok (.aload_n 0, 1) := dk_42 (dk_at dksX2_number_0 8 rfl rfl)
theorem dX2_number_9 : decode cX2_number 9 = .ok (.iconst 1, 1) := dk_4 (dk_at dksX2_number_0 9 rfl rfl)
theorem dX2_number_10 : decode cX2_number 10 = .ok (.invokevirtual 82, 3) := dk_182 0 82 (dk_at dksX2_number_0 10 rfl rfl)
theorem dX2_number_13 : decode cX2_number 13 = .ok (.athrow, 1) := dk_191 (dk_at dksX2_number_0 13 rfl rfl)
theorem dX2_number_14 : decode cX2_number 14 = .ok (.aload_n 0, 1) := dk_42 (dk_at dksX2_number_0 14 rfl rfl)
theorem dX2_number_15 : decode cX2_number 15 = .ok (.getfield 68, 3) := dk_180 0 68 (dk_at dksX2_number_0 15 rfl rfl)
theorem dX2_number_18 : decode cX2_number 18 = .ok (.iload_n 1, 1) := dk_27 (dk_at dksX2_number_0 18 rfl rfl)
theorem dX2_number_19 : decode cX2_number 19 = .ok (.iload_n 2, 1) := dk_28 (dk_at dksX2_number_0 19 rfl rfl)
theorem dX2_number_20 : decode cX2_number 20 = .ok (.invokestatic 36, 3) := dk_184 0 36 (dk_at dksX2_number_0 20 rfl rfl)
theorem dX2_number_23 : decode cX2_number 23 = .ok (.ifCond .ne 9, 3) := dk_154 0 9 (dk_at dksX2_number_1 0 rfl rfl)
theorem dX2_number_26 : decode cX2_number 26 = .ok (.aload_n 0, 1) := dk_42 (dk_at dksX2_number_1 3 rfl rfl)
theorem dX2_number_27 : decode cX2_number 27 = .ok (.iconst 4, 1) := dk_7 (dk_at dksX2_number_1 4 rfl rfl)
theorem dX2_number_28 : decode cX2_number 28 = .ok (.invokevirtual 82, 3) := dk_182 0 82 (dk_at dksX2_number_1 5 rfl rfl)
theorem dX2_number_31 : decode cX2_number 31 = .ok (.athrow, 1) := dk_191 (dk_at dksX2_number_1 8 rfl rfl)
theorem dX2_number_32 : decode cX2_number 32 = .ok (.aload_n 0, 1) := dk_42 (dk_at dksX2_number_1 9 rfl rfl)
theorem dX2_number_33 : decode cX2_number 33 = .ok (.getfield 68, 3) := dk_180 0 68 (dk_at dksX2_number_1 10 rfl rfl)
theorem dX2_number_36 : decode cX2_number 36 = .ok (.istore_n 3, 1) := dk_62 (dk_at dksX2_number_1 13 rfl rfl)
theorem dX2_number_37 : decode cX2_number 37 = .ok (.aload_n 0, 1) := dk_42 (dk_at dksX2_number_1 14 rfl rfl)
theorem dX2_number_38 : decode cX2_number 38 = .ok (.invokevirtual 75, 3) := dk_182 0 75 (dk_at dksX2_number_1 15 rfl rfl)
theorem dX2_number_41 : decode cX2_number 41 = .ok (.iload_n 3, 1) := dk_29 (dk_at dksX2_number_1 18 rfl rfl)
theorem dX2_number_42 : decode cX2_number 42 = .ok (.ireturn, 1) := dk_172 (dk_at dksX2_number_1 19 rfl rfl)
abbrev cX2_personLine : ByteArray := prog_19_method_21_code
def yX2_personLine : MethodName := ⟨RX2, "personLine", "()V"⟩
def dkwX2_personLine_2 : List UInt8 := [180, 0, 144, 182, 0, 216, 83, 42, 180, 0, 109, 89, 180, 0, 144, 4, 96, 181, 0, 144, 177]
abbrev dktX2_personLine_2 : List UInt8 := dkwX2_personLine_2 ++ []
def dkwX2_personLine_1 : List UInt8 := [180, 0, 109, 180, 0, 208, 42, 180, 0, 109, 180, 0, 144, 42, 42, 182, 0, 212, 42, 180, 0, 109]
abbrev dktX2_personLine_1 : List UInt8 := dkwX2_personLine_1 ++ dktX2_personLine_2
def dkwX2_personLine_0 : List UInt8 := [42, 42, 180, 0, 109, 180, 0, 144, 16, 6, 162, 0, 7, 4, 167, 0, 4, 3, 182, 0, 204, 42]
abbrev dktX2_personLine_0 : List UInt8 := dkwX2_personLine_0 ++ dktX2_personLine_1
theorem dksX2_personLine_0 : cX2_personLine.data.toList.drop 0 = dktX2_personLine_0 := by decide +kernel
theorem dksX2_personLine_1 : cX2_personLine.data.toList.drop 22 = dktX2_personLine_1 := dk_seg dksX2_personLine_0 22 rfl rfl
theorem dksX2_personLine_2 : cX2_personLine.data.toList.drop 44 = dktX2_personLine_2 := dk_seg dksX2_personLine_1 22 rfl rfl
theorem dX2_personLine_0 : decode cX2_personLine 0 = .ok (.aload_n 0, 1) := dk_42 (dk_at dksX2_personLine_0 0 rfl rfl)
theorem dX2_personLine_1 : decode cX2_personLine 1 = .ok (.aload_n 0, 1) := dk_42 (dk_at dksX2_personLine_0 1 rfl rfl)
theorem dX2_personLine_2 : decode cX2_personLine 2 = .ok (.getfield 109, 3) := dk_180 0 109 (dk_at dksX2_personLine_0 2 rfl rfl)
theorem dX2_personLine_5 : decode cX2_personLine 5 = .ok (.getfield 144, 3) := dk_180 0 144 (dk_at dksX2_personLine_0 5 rfl rfl)
theorem dX2_personLine_8 : decode cX2_personLine 8 = .ok (.bipush 6, 2) := dk_16 6 (dk_at dksX2_personLine_0 8 rfl rfl)
theorem dX2_personLine_10 : decode cX2_personLine 10 = .ok (.if_icmp .ge 7, 3) := dk_162 0 7 (dk_at dksX2_personLine_0 10 rfl rfl)
theorem dX2_personLine_13 : decode cX2_personLine 13 = .ok (.iconst 1, 1) := dk_4 (dk_at dksX2_personLine_0 13 rfl rfl)
theorem dX2_personLine_14 : decode cX2_personLine 14 = .ok (.goto 4, 3) := dk_167 0 4 (dk_at dksX2_personLine_0 14 rfl rfl)
theorem dX2_personLine_17 : decode cX2_personLine 17 = .ok (.iconst 0, 1) := dk_3 (dk_at dksX2_personLine_0 17 rfl rfl)
theorem dX2_personLine_18 : decode cX2_personLine 18 = .ok (.invokevirtual 204, 3) := dk_182 0 204 (dk_at dksX2_personLine_0 18 rfl rfl)
theorem dX2_personLine_21 : decode cX2_personLine 21 = .ok (.aload_n 0, 1) := dk_42 (dk_at dksX2_personLine_0 21 rfl rfl)
theorem dX2_personLine_22 : decode cX2_personLine 22 = .ok (.getfield 109, 3) := dk_180 0 109 (dk_at dksX2_personLine_1 0 rfl rfl)
theorem dX2_personLine_25 : decode cX2_personLine 25 = .ok (.getfield 208, 3) := dk_180 0 208 (dk_at dksX2_personLine_1 3 rfl rfl)
theorem dX2_personLine_28 : decode cX2_personLine 28 = .ok (.aload_n 0, 1) := dk_42 (dk_at dksX2_personLine_1 6 rfl rfl)
theorem dX2_personLine_29 : decode cX2_personLine 29 = .ok (.getfield 109, 3) := dk_180 0 109 (dk_at dksX2_personLine_1 7 rfl rfl)
theorem dX2_personLine_32 : decode cX2_personLine 32 = .ok (.getfield 144, 3) := dk_180 0 144 (dk_at dksX2_personLine_1 10 rfl rfl)
theorem dX2_personLine_35 : decode cX2_personLine 35 = .ok (.aload_n 0, 1) := dk_42 (dk_at dksX2_personLine_1 13 rfl rfl)
theorem dX2_personLine_36 : decode cX2_personLine 36 = .ok (.aload_n 0, 1) := dk_42 (dk_at dksX2_personLine_1 14 rfl rfl)
theorem dX2_personLine_37 : decode cX2_personLine 37 = .ok (.invokevirtual 212, 3) := dk_182 0 212 (dk_at dksX2_personLine_1 15 rfl rfl)
theorem dX2_personLine_40 : decode cX2_personLine 40 = .ok (.aload_n 0, 1) := dk_42 (dk_at dksX2_personLine_1 18 rfl rfl)
theorem dX2_personLine_41 : decode cX2_personLine 41 = .ok (.getfield 109, 3) := dk_180 0 109 (dk_at dksX2_personLine_1 19 rfl rfl)
theorem dX2_personLine_44 : decode cX2_personLine 44 = .ok (.getfield 144, 3) := dk_180 0 144 (dk_at dksX2_personLine_2 0 rfl rfl)
theorem dX2_personLine_47 : decode cX2_personLine 47 = .ok (.invokevirtual 216, 3) := dk_182 0 216 (dk_at dksX2_personLine_2 3 rfl rfl)
theorem dX2_personLine_50 : decode cX2_personLine 50 = .ok (.aastore, 1) := dk_83 (dk_at dksX2_personLine_2 6 rfl rfl)
theorem dX2_personLine_51 : decode cX2_personLine 51 = .ok (.aload_n 0, 1) := dk_42 (dk_at dksX2_personLine_2 7 rfl rfl)
theorem dX2_personLine_52 : decode cX2_personLine 52 = .ok (.getfield 109, 3) := dk_180 0 109 (dk_at dksX2_personLine_2 8 rfl rfl)
theorem dX2_personLine_55 : decode cX2_personLine 55 = .ok (.dup, 1) := dk_89 (dk_at dksX2_personLine_2 11 rfl rfl)
theorem dX2_personLine_56 : decode cX2_personLine 56 = .ok (.getfield 144, 3) := dk_180 0 144 (dk_at dksX2_personLine_2 12 rfl rfl)
theorem dX2_personLine_59 : decode cX2_personLine 59 = .ok (.iconst 1, 1) := dk_4 (dk_at dksX2_personLine_2 15 rfl rfl)
theorem dX2_personLine_60 : decode cX2_personLine 60 = .ok (.iadd, 1) := dk_96 (dk_at dksX2_personLine_2 16 rfl rfl)
theorem dX2_personLine_61 : decode cX2_personLine 61 = .ok (.putfield 144, 3) := dk_181 0 144 (dk_at dksX2_personLine_2 17 rfl rfl)
theorem dX2_personLine_64 : decode cX2_personLine 64 = .ok (.return_, 1) := dk_177 (dk_at dksX2_personLine_2 20 rfl rfl)
abbrev cX2_begins : ByteArray := prog_19_method_16_code
def yX2_begins : MethodName := ⟨RX2, "begins", "(Z)V"⟩
def dkwX2_begins_1 : List UInt8 := [182, 0, 82, 191, 42, 182, 0, 75, 177]
abbrev dktX2_begins_1 : List UInt8 := dkwX2_begins_1 ++ []
def dkwX2_begins_0 : List UInt8 := [27, 154, 0, 9, 42, 8, 182, 0, 82, 191, 42, 180, 0, 109, 180, 0, 137, 154, 0, 10, 42, 16, 6]
abbrev dktX2_begins_0 : List UInt8 := dkwX2_begins_0 ++ dktX2_begins_1
theorem dksX2_begins_0 : cX2_begins.data.toList.drop 0 = dktX2_begins_0 := by decide +kernel
theorem dksX2_begins_1 : cX2_begins.data.toList.drop 23 = dktX2_begins_1 := dk_seg dksX2_begins_0 23 rfl rfl
theorem dX2_begins_0 : decode cX2_begins 0 = .ok (.iload_n 1, 1) := dk_27 (dk_at dksX2_begins_0 0 rfl rfl)
theorem dX2_begins_1 : decode cX2_begins 1 = .ok (.ifCond .ne 9, 3) := dk_154 0 9 (dk_at dksX2_begins_0 1 rfl rfl)
theorem dX2_begins_4 : decode cX2_begins 4 = .ok (.aload_n 0, 1) := dk_42 (dk_at dksX2_begins_0 4 rfl rfl)
theorem dX2_begins_5 : decode cX2_begins 5 = .ok (.iconst 5, 1) := dk_8 (dk_at dksX2_begins_0 5 rfl rfl)
theorem dX2_begins_6 : decode cX2_begins 6 = .ok (.invokevirtual 82, 3) := dk_182 0 82 (dk_at dksX2_begins_0 6 rfl rfl)
theorem dX2_begins_9 : decode cX2_begins 9 = .ok (.athrow, 1) := dk_191 (dk_at dksX2_begins_0 9 rfl rfl)
theorem dX2_begins_10 : decode cX2_begins 10 = .ok (.aload_n 0, 1) := dk_42 (dk_at dksX2_begins_0 10 rfl rfl)
theorem dX2_begins_11 : decode cX2_begins 11 = .ok (.getfield 109, 3) := dk_180 0 109 (dk_at dksX2_begins_0 11 rfl rfl)
theorem dX2_begins_14 : decode cX2_begins 14 = .ok (.getfield 137, 3) := dk_180 0 137 (dk_at dksX2_begins_0 14 rfl rfl)
theorem dX2_begins_17 : decode cX2_begins 17 = .ok (.ifCond .ne 10, 3) := dk_154 0 10 (dk_at dksX2_begins_0 17 rfl rfl)
theorem dX2_begins_20 : decode cX2_begins 20 = .ok (.aload_n 0, 1) := dk_42 (dk_at dksX2_begins_0 20 rfl rfl)
theorem dX2_begins_21 : decode cX2_begins 21 = .ok (.bipush 6, 2) := dk_16 6 (dk_at dksX2_begins_0 21 rfl rfl)
theorem dX2_begins_23 : decode cX2_begins 23 = .ok (.invokevirtual 82, 3) := dk_182 0 82 (dk_at dksX2_begins_1 0 rfl rfl)
theorem dX2_begins_26 : decode cX2_begins 26 = .ok (.athrow, 1) := dk_191 (dk_at dksX2_begins_1 3 rfl rfl)
theorem dX2_begins_27 : decode cX2_begins 27 = .ok (.aload_n 0, 1) := dk_42 (dk_at dksX2_begins_1 4 rfl rfl)
theorem dX2_begins_28 : decode cX2_begins 28 = .ok (.invokevirtual 75, 3) := dk_182 0 75 (dk_at dksX2_begins_1 5 rfl rfl)
theorem dX2_begins_31 : decode cX2_begins 31 = .ok (.return_, 1) := dk_177 (dk_at dksX2_begins_1 8 rfl rfl)
abbrev cX2_newName : ByteArray := prog_19_method_10_code
def yX2_newName : MethodName := ⟨RX2, "newName", "()Ljava/lang/String;"⟩
def dkwX2_newName_1 : List UInt8 := [42, 180, 0, 61, 76, 42, 182, 0, 75, 43, 176]
abbrev dktX2_newName_1 : List UInt8 := dkwX2_newName_1 ++ []
def dkwX2_newName_0 : List UInt8 := [42, 182, 0, 106, 42, 180, 0, 109, 42, 180, 0, 61, 182, 0, 112, 198, 0, 9, 42, 6, 182, 0, 82, 191]
abbrev dktX2_newName_0 : List UInt8 := dkwX2_newName_0 ++ dktX2_newName_1
theorem dksX2_newName_0 : cX2_newName.data.toList.drop 0 = dktX2_newName_0 := by decide +kernel
theorem dksX2_newName_1 : cX2_newName.data.toList.drop 24 = dktX2_newName_1 := dk_seg dksX2_newName_0 24 rfl rfl
theorem dX2_newName_0 : decode cX2_newName 0 = .ok (.aload_n 0, 1) := dk_42 (dk_at dksX2_newName_0 0 rfl rfl)
theorem dX2_newName_1 : decode cX2_newName 1 = .ok (.invokevirtual 106, 3) := dk_182 0 106 (dk_at dksX2_newName_0 1 rfl rfl)
theorem dX2_newName_4 : decode cX2_newName 4 = .ok (.aload_n 0, 1) := dk_42 (dk_at dksX2_newName_0 4 rfl rfl)
theorem dX2_newName_5 : decode cX2_newName 5 = .ok (.getfield 109, 3) := dk_180 0 109 (dk_at dksX2_newName_0 5 rfl rfl)
theorem dX2_newName_8 : decode cX2_newName 8 = .ok (.aload_n 0, 1) := dk_42 (dk_at dksX2_newName_0 8 rfl rfl)
theorem dX2_newName_9 : decode cX2_newName 9 = .ok (.getfield 61, 3) := dk_180 0 61 (dk_at dksX2_newName_0 9 rfl rfl)
theorem dX2_newName_12 : decode cX2_newName 12 = .ok (.invokevirtual 112, 3) := dk_182 0 112 (dk_at dksX2_newName_0 12 rfl rfl)
theorem dX2_newName_15 : decode cX2_newName 15 = .ok (.ifnull 9, 3) := dk_198 0 9 (dk_at dksX2_newName_0 15 rfl rfl)
theorem dX2_newName_18 : decode cX2_newName 18 = .ok (.aload_n 0, 1) := dk_42 (dk_at dksX2_newName_0 18 rfl rfl)
theorem dX2_newName_19 : decode cX2_newName 19 = .ok (.iconst 3, 1) := dk_6 (dk_at dksX2_newName_0 19 rfl rfl)
theorem dX2_newName_20 : decode cX2_newName 20 = .ok (.invokevirtual 82, 3) := dk_182 0 82 (dk_at dksX2_newName_0 20 rfl rfl)
theorem dX2_newName_23 : decode cX2_newName 23 = .ok (.athrow, 1) := dk_191 (dk_at dksX2_newName_0 23 rfl rfl)
theorem dX2_newName_24 : decode cX2_newName 24 = .ok (.aload_n 0, 1) := dk_42 (dk_at dksX2_newName_1 0 rfl rfl)
theorem dX2_newName_25 : decode cX2_newName 25 = .ok (.getfield 61, 3) := dk_180 0 61 (dk_at dksX2_newName_1 1 rfl rfl)
theorem dX2_newName_28 : decode cX2_newName 28 = .ok (.astore_n 1, 1) := dk_76 (dk_at dksX2_newName_1 4 rfl rfl)
theorem dX2_newName_29 : decode cX2_newName 29 = .ok (.aload_n 0, 1) := dk_42 (dk_at dksX2_newName_1 5 rfl rfl)
theorem dX2_newName_30 : decode cX2_newName 30 = .ok (.invokevirtual 75, 3) := dk_182 0 75 (dk_at dksX2_newName_1 6 rfl rfl)
theorem dX2_newName_33 : decode cX2_newName 33 = .ok (.aload_n 1, 1) := dk_43 (dk_at dksX2_newName_1 9 rfl rfl)
theorem dX2_newName_34 : decode cX2_newName 34 = .ok (.areturn, 1) := dk_176 (dk_at dksX2_newName_1 10 rfl rfl)
abbrev cX2_mustName : ByteArray := prog_19_method_9_code
def yX2_mustName : MethodName := ⟨RX2, "mustName", "()V"⟩
def dkwX2_mustName_9 : List UInt8 := [42, 4, 182, 0, 82, 191, 177]
abbrev dktX2_mustName_9 : List UInt8 := dkwX2_mustName_9 ++ []
def dkwX2_mustName_8 : List UInt8 := [170, 0, 0, 0, 0, 0, 0, 54, 0, 0, 0, 0, 0, 0, 0, 7, 0, 0, 0, 48, 0, 0, 0, 48, 0, 0, 0, 48, 0, 0, 0, 48, 0, 0, 0, 48, 0, 0, 0, 48, 0, 0, 0, 48, 0, 0, 0, 48]
abbrev dktX2_mustName_8 : List UInt8 := dkwX2_mustName_8 ++ dktX2_mustName_9
def dkwX2_mustName_7 : List UInt8 := [61, 167, 0, 15, 43, 18, 104, 182, 0, 71, 153, 0, 6, 16, 7, 61, 28]
abbrev dktX2_mustName_7 : List UInt8 := dkwX2_mustName_7 ++ dktX2_mustName_8
def dkwX2_mustName_6 : List UInt8 := [18, 100, 182, 0, 71, 153, 0, 35, 8, 61, 167, 0, 30, 43, 18, 102, 182, 0, 71, 153, 0, 21, 16, 6]
abbrev dktX2_mustName_6 : List UInt8 := dkwX2_mustName_6 ++ dktX2_mustName_7
def dkwX2_mustName_5 : List UInt8 := [153, 0, 63, 6, 61, 167, 0, 58, 43, 18, 98, 182, 0, 71, 153, 0, 49, 7, 61, 167, 0, 44, 43]
abbrev dktX2_mustName_5 : List UInt8 := dkwX2_mustName_5 ++ dktX2_mustName_6
def dkwX2_mustName_4 : List UInt8 := [61, 167, 0, 86, 43, 18, 94, 182, 0, 71, 153, 0, 77, 5, 61, 167, 0, 72, 43, 18, 96, 182, 0, 71]
abbrev dktX2_mustName_4 : List UInt8 := dkwX2_mustName_4 ++ dktX2_mustName_5
def dkwX2_mustName_3 : List UInt8 := [43, 18, 90, 182, 0, 71, 153, 0, 105, 3, 61, 167, 0, 100, 43, 18, 92, 182, 0, 71, 153, 0, 91, 4]
abbrev dktX2_mustName_3 : List UInt8 := dkwX2_mustName_3 ++ dktX2_mustName_4
def dkwX2_mustName_2 : List UInt8 := [171, 0, 0, 0, 0, 0, 186, 0, 0, 0, 8, 173, 161, 173, 68, 0, 0, 0, 103, 175, 15, 95, 183, 0, 0, 0, 174, 175, 66, 209, 74, 0, 0, 0, 75, 196, 227, 155, 85, 0, 0, 0, 89, 0, 50, 160, 7, 0, 0, 0, 131, 0, 50, 160, 255, 0, 0, 0, 117, 0, 53, 75, 148, 0, 0, 0, 159, 44, 11, 98, 180, 0, 0, 0, 145]
abbrev dktX2_mustName_2 : List UInt8 := dkwX2_mustName_2 ++ dktX2_mustName_3
def dkwX2_mustName_1 : List UInt8 := [182, 0, 86]
abbrev dktX2_mustName_1 : List UInt8 := dkwX2_mustName_1 ++ dktX2_mustName_2
def dkwX2_mustName_0 : List UInt8 := [42, 180, 0, 47, 5, 159, 0, 9, 42, 4, 182, 0, 82, 191, 42, 180, 0, 61, 76, 2, 61, 43]
abbrev dktX2_mustName_0 : List UInt8 := dkwX2_mustName_0 ++ dktX2_mustName_1
theorem dksX2_mustName_0 : cX2_mustName.data.toList.drop 0 = dktX2_mustName_0 := by decide +kernel
theorem dksX2_mustName_1 : cX2_mustName.data.toList.drop 22 = dktX2_mustName_1 := dk_seg dksX2_mustName_0 22 rfl rfl
theorem dksX2_mustName_2 : cX2_mustName.data.toList.drop 25 = dktX2_mustName_2 := dk_seg dksX2_mustName_1 3 rfl rfl
theorem dksX2_mustName_3 : cX2_mustName.data.toList.drop 100 = dktX2_mustName_3 := dk_seg dksX2_mustName_2 75 rfl rfl
theorem dksX2_mustName_4 : cX2_mustName.data.toList.drop 124 = dktX2_mustName_4 := dk_seg dksX2_mustName_3 24 rfl rfl
theorem dksX2_mustName_5 : cX2_mustName.data.toList.drop 148 = dktX2_mustName_5 := dk_seg dksX2_mustName_4 24 rfl rfl
theorem dksX2_mustName_6 : cX2_mustName.data.toList.drop 171 = dktX2_mustName_6 := dk_seg dksX2_mustName_5 23 rfl rfl
theorem dksX2_mustName_7 : cX2_mustName.data.toList.drop 195 = dktX2_mustName_7 := dk_seg dksX2_mustName_6 24 rfl rfl
theorem dksX2_mustName_8 : cX2_mustName.data.toList.drop 212 = dktX2_mustName_8 := dk_seg dksX2_mustName_7 17 rfl rfl
theorem dksX2_mustName_9 : cX2_mustName.data.toList.drop 260 = dktX2_mustName_9 := dk_seg dksX2_mustName_8 48 rfl rfl
theorem dX2_mustName_0 : decode cX2_mustName 0 = .ok (.aload_n 0, 1) := dk_42 (dk_at dksX2_mustName_0 0 rfl rfl)
theorem dX2_mustName_1 : decode cX2_mustName 1 = .ok (.getfield 47, 3) := dk_180 0 47 (dk_at dksX2_mustName_0 1 rfl rfl)
theorem dX2_mustName_4 : decode cX2_mustName 4 = .ok (.iconst 2, 1) := dk_5 (dk_at dksX2_mustName_0 4 rfl rfl)
theorem dX2_mustName_5 : decode cX2_mustName 5 = .ok (.if_icmp .eq 9, 3) := dk_159 0 9 (dk_at dksX2_mustName_0 5 rfl rfl)
theorem dX2_mustName_8 : decode cX2_mustName 8 = .ok (.aload_n 0, 1) := dk_42 (dk_at dksX2_mustName_0 8 rfl rfl)
theorem dX2_mustName_9 : decode cX2_mustName 9 = .ok (.iconst 1, 1) := dk_4 (dk_at dksX2_mustName_0 9 rfl rfl)
theorem dX2_mustName_10 : decode cX2_mustName 10 = .ok (.invokevirtual 82, 3) := dk_182 0 82 (dk_at dksX2_mustName_0 10 rfl rfl)
theorem dX2_mustName_13 : decode cX2_mustName 13 = .ok (.athrow, 1) := dk_191 (dk_at dksX2_mustName_0 13 rfl rfl)
theorem dX2_mustName_14 : decode cX2_mustName 14 = .ok (.aload_n 0, 1) := dk_42 (dk_at dksX2_mustName_0 14 rfl rfl)
theorem dX2_mustName_15 : decode cX2_mustName 15 = .ok (.getfield 61, 3) := dk_180 0 61 (dk_at dksX2_mustName_0 15 rfl rfl)
theorem dX2_mustName_18 : decode cX2_mustName 18 = .ok (.astore_n 1, 1) := dk_76 (dk_at dksX2_mustName_0 18 rfl rfl)
theorem dX2_mustName_19 : decode cX2_mustName 19 = .ok (.iconst (-1), 1) := dk_2 (dk_at dksX2_mustName_0 19 rfl rfl)
theorem dX2_mustName_20 : decode cX2_mustName 20 = .ok (.istore_n 2, 1) := dk_61 (dk_at dksX2_mustName_0 20 rfl rfl)
theorem dX2_mustName_21 : decode cX2_mustName 21 = .ok (.aload_n 1, 1) := dk_43 (dk_at dksX2_mustName_0 21 rfl rfl)
theorem dX2_mustName_22 : decode cX2_mustName 22 = .ok (.invokevirtual 86, 3) := dk_182 0 86 (dk_at dksX2_mustName_1 0 rfl rfl)
theorem dX2_mustName_25 : decode cX2_mustName 25 = .ok (.lookupswitch 186 #[(-1381913276, 103), (-1357946953, 174), (-1354575542, 75), (-991716523, 89), (3317767, 131), (3318015, 117), (3492756, 159), (738943668, 145)], 75) := by decide +kernel
theorem dX2_mustName_100 : decode cX2_mustName 100 = .ok (.aload_n 1, 1) := dk_43 (dk_at dksX2_mustName_3 0 rfl rfl)
theorem dX2_mustName_101 : decode cX2_mustName 101 = .ok (.ldc 90, 2) := dk_18 90 (dk_at dksX2_mustName_3 1 rfl rfl)
theorem dX2_mustName_103 : decode cX2_mustName 103 = .ok (.invokevirtual 71, 3) := dk_182 0 71 (dk_at dksX2_mustName_3 3 rfl rfl)
theorem dX2_mustName_106 : decode cX2_mustName 106 = .ok (.ifCond .eq 105, 3) := dk_153 0 105 (dk_at dksX2_mustName_3 6 rfl rfl)
theorem dX2_mustName_109 : decode cX2_mustName 109 = .ok (.iconst 0, 1) := dk_3 (dk_at dksX2_mustName_3 9 rfl rfl)
theorem dX2_mustName_110 : decode cX2_mustName 110 = .ok (.istore_n 2, 1) := dk_61 (dk_at dksX2_mustName_3 10 rfl rfl)
theorem dX2_mustName_111 : decode cX2_mustName 111 = .ok (.goto 100, 3) := dk_167 0 100 (dk_at dksX2_mustName_3 11 rfl rfl)
theorem dX2_mustName_114 : decode cX2_mustName 114 = .ok (.aload_n 1, 1) := dk_43 (dk_at dksX2_mustName_3 14 rfl rfl)
theorem dX2_mustName_115 : decode cX2_mustName 115 = .ok (.ldc 92, 2) := dk_18 92 (dk_at dksX2_mustName_3 15 rfl rfl)
theorem dX2_mustName_117 : decode cX2_mustName 117 = .ok (.invokevirtual 71, 3) := dk_182 0 71 (dk_at dksX2_mustName_3 17 rfl rfl)
theorem dX2_mustName_120 : decode cX2_mustName 120 = .ok (.ifCond .eq 91, 3) := dk_153 0 91 (dk_at dksX2_mustName_3 20 rfl rfl)
theorem dX2_mustName_123 : decode cX2_mustName 123 = .ok (.iconst 1, 1) := dk_4 (dk_at dksX2_mustName_3 23 rfl rfl)
theorem dX2_mustName_124 : decode cX2_mustName 124 = .ok (.istore_n 2, 1) := dk_61 (dk_at dksX2_mustName_4 0 rfl rfl)
theorem dX2_mustName_125 : decode cX2_mustName 125 = .ok (.goto 86, 3) := dk_167 0 86 (dk_at dksX2_mustName_4 1 rfl rfl)
theorem dX2_mustName_128 : decode cX2_mustName 128 = .ok (.aload_n 1, 1) := dk_43 (dk_at dksX2_mustName_4 4 rfl rfl)
theorem dX2_mustName_129 : decode cX2_mustName 129 = .ok (.ldc 94, 2) := dk_18 94 (dk_at dksX2_mustName_4 5 rfl rfl)
theorem dX2_mustName_131 : decode cX2_mustName 131 = .ok (.invokevirtual 71, 3) := dk_182 0 71 (dk_at dksX2_mustName_4 7 rfl rfl)
theorem dX2_mustName_134 : decode cX2_mustName 134 = .ok (.ifCond .eq 77, 3) := dk_153 0 77 (dk_at dksX2_mustName_4 10 rfl rfl)
theorem dX2_mustName_137 : decode cX2_mustName 137 = .ok (.iconst 2, 1) := dk_5 (dk_at dksX2_mustName_4 13 rfl rfl)
theorem dX2_mustName_138 : decode cX2_mustName 138 = .ok (.istore_n 2, 1) := dk_61 (dk_at dksX2_mustName_4 14 rfl rfl)
theorem dX2_mustName_139 : decode cX2_mustName 139 = .ok (.goto 72, 3) := dk_167 0 72 (dk_at dksX2_mustName_4 15 rfl rfl)
theorem dX2_mustName_142 : decode cX2_mustName 142 = .ok (.aload_n 1, 1) := dk_43 (dk_at dksX2_mustName_4 18 rfl rfl)
theorem dX2_mustName_143 : decode cX2_mustName 143 = .ok (.ldc 96, 2) := dk_18 96 (dk_at dksX2_mustName_4 19 rfl rfl)
theorem dX2_mustName_145 : decode cX2_mustName 145 = .ok (.invokevirtual 71, 3) := dk_182 0 71 (dk_at dksX2_mustName_4 21 rfl rfl)
theorem dX2_mustName_148 : decode cX2_mustName 148 = .ok (.ifCond .eq 63, 3) := dk_153 0 63 (dk_at dksX2_mustName_5 0 rfl rfl)
theorem dX2_mustName_151 : decode cX2_mustName 151 = .ok (.iconst 3, 1) := dk_6 (dk_at dksX2_mustName_5 3 rfl rfl)
theorem dX2_mustName_152 : decode cX2_mustName 152 = .ok (.istore_n 2, 1) := dk_61 (dk_at dksX2_mustName_5 4 rfl rfl)
theorem dX2_mustName_153 : decode cX2_mustName 153 = .ok (.goto 58, 3) := dk_167 0 58 (dk_at dksX2_mustName_5 5 rfl rfl)
theorem dX2_mustName_156 : decode cX2_mustName 156 = .ok (.aload_n 1, 1) := dk_43 (dk_at dksX2_mustName_5 8 rfl rfl)
theorem dX2_mustName_157 : decode cX2_mustName 157 = .ok (.ldc 98, 2) := dk_18 98 (dk_at dksX2_mustName_5 9 rfl rfl)
theorem dX2_mustName_159 : decode cX2_mustName 159 = .ok (.invokevirtual 71, 3) := dk_182 0 71 (dk_at dksX2_mustName_5 11 rfl rfl)
theorem dX2_mustName_162 : decode cX2_mustName 162 = .ok (.ifCond .eq 49, 3) := dk_153 0 49 (dk_at dksX2_mustName_5 14 rfl rfl)
theorem dX2_mustName_165 : decode cX2_mustName 165 = .ok (.iconst 4, 1) := dk_7 (dk_at dksX2_mustName_5 17 rfl rfl)
theorem dX2_mustName_166 : decode cX2_mustName 166 = .ok (.istore_n 2, 1) := dk_61 (dk_at dksX2_mustName_5 18 rfl rfl)
theorem dX2_mustName_167 : decode cX2_mustName 167 = .ok (.goto 44, 3) := dk_167 0 44 (dk_at dksX2_mustName_5 19 rfl rfl)
theorem dX2_mustName_170 : decode cX2_mustName 170 = .ok (.aload_n 1, 1) := dk_43 (dk_at dksX2_mustName_5 22 rfl rfl)
theorem dX2_mustName_171 : decode cX2_mustName 171 = .ok (.ldc 100, 2) := dk_18 100 (dk_at dksX2_mustName_6 0 rfl rfl)
theorem dX2_mustName_173 : decode cX2_mustName 173 = .ok (.invokevirtual 71, 3) := dk_182 0 71 (dk_at dksX2_mustName_6 2 rfl rfl)
theorem dX2_mustName_176 : decode cX2_mustName 176 = .ok (.ifCond .eq 35, 3) := dk_153 0 35 (dk_at dksX2_mustName_6 5 rfl rfl)
theorem dX2_mustName_179 : decode cX2_mustName 179 = .ok (.iconst 5, 1) := dk_8 (dk_at dksX2_mustName_6 8 rfl rfl)
theorem dX2_mustName_180 : decode cX2_mustName 180 = .ok (.istore_n 2, 1) := dk_61 (dk_at dksX2_mustName_6 9 rfl rfl)
theorem dX2_mustName_181 : decode cX2_mustName 181 = .ok (.goto 30, 3) := dk_167 0 30 (dk_at dksX2_mustName_6 10 rfl rfl)
theorem dX2_mustName_184 : decode cX2_mustName 184 = .ok (.aload_n 1, 1) := dk_43 (dk_at dksX2_mustName_6 13 rfl rfl)
theorem dX2_mustName_185 : decode cX2_mustName 185 = .ok (.ldc 102, 2) := dk_18 102 (dk_at dksX2_mustName_6 14 rfl rfl)
theorem dX2_mustName_187 : decode cX2_mustName 187 = .ok (.invokevirtual 71, 3) := dk_182 0 71 (dk_at dksX2_mustName_6 16 rfl rfl)
theorem dX2_mustName_190 : decode cX2_mustName 190 = .ok (.ifCond .eq 21, 3) := dk_153 0 21 (dk_at dksX2_mustName_6 19 rfl rfl)
theorem dX2_mustName_193 : decode cX2_mustName 193 = .ok (.bipush 6, 2) := dk_16 6 (dk_at dksX2_mustName_6 22 rfl rfl)
theorem dX2_mustName_195 : decode cX2_mustName 195 = .ok (.istore_n 2, 1) := dk_61 (dk_at dksX2_mustName_7 0 rfl rfl)
theorem dX2_mustName_196 : decode cX2_mustName 196 = .ok (.goto 15, 3) := dk_167 0 15 (dk_at dksX2_mustName_7 1 rfl rfl)
theorem dX2_mustName_199 : decode cX2_mustName 199 = .ok (.aload_n 1, 1) := dk_43 (dk_at dksX2_mustName_7 4 rfl rfl)
theorem dX2_mustName_200 : decode cX2_mustName 200 = .ok (.ldc 104, 2) := dk_18 104 (dk_at dksX2_mustName_7 5 rfl rfl)
theorem dX2_mustName_202 : decode cX2_mustName 202 = .ok (.invokevirtual 71, 3) := dk_182 0 71 (dk_at dksX2_mustName_7 7 rfl rfl)
theorem dX2_mustName_205 : decode cX2_mustName 205 = .ok (.ifCond .eq 6, 3) := dk_153 0 6 (dk_at dksX2_mustName_7 10 rfl rfl)
theorem dX2_mustName_208 : decode cX2_mustName 208 = .ok (.bipush 7, 2) := dk_16 7 (dk_at dksX2_mustName_7 13 rfl rfl)
theorem dX2_mustName_210 : decode cX2_mustName 210 = .ok (.istore_n 2, 1) := dk_61 (dk_at dksX2_mustName_7 15 rfl rfl)
theorem dX2_mustName_211 : decode cX2_mustName 211 = .ok (.iload_n 2, 1) := dk_28 (dk_at dksX2_mustName_7 16 rfl rfl)
theorem dX2_mustName_212 : decode cX2_mustName 212 = .ok (.tableswitch 54 0 7 #[48, 48, 48, 48, 48, 48, 48, 48], 48) := by decide +kernel
theorem dX2_mustName_260 : decode cX2_mustName 260 = .ok (.aload_n 0, 1) := dk_42 (dk_at dksX2_mustName_9 0 rfl rfl)
theorem dX2_mustName_261 : decode cX2_mustName 261 = .ok (.iconst 1, 1) := dk_4 (dk_at dksX2_mustName_9 1 rfl rfl)
theorem dX2_mustName_262 : decode cX2_mustName 262 = .ok (.invokevirtual 82, 3) := dk_182 0 82 (dk_at dksX2_mustName_9 2 rfl rfl)
theorem dX2_mustName_265 : decode cX2_mustName 265 = .ok (.athrow, 1) := dk_191 (dk_at dksX2_mustName_9 5 rfl rfl)
theorem dX2_mustName_266 : decode cX2_mustName 266 = .ok (.return_, 1) := dk_177 (dk_at dksX2_mustName_9 6 rfl rfl)
abbrev cX2_personOf : ByteArray := prog_19_method_20_code
def yX2_personOf : MethodName := ⟨RX2, "personOf", "(Ljava/lang/String;I)LUmbrellaHeir$Person;"⟩
def dkwX2_personOf_2 : List UInt8 := [187, 0, 201, 89, 43, 28, 183, 0, 203, 176]
abbrev dktX2_personOf_2 : List UInt8 := dkwX2_personOf_2 ++ []
def dkwX2_personOf_1 : List UInt8 := [182, 0, 78, 153, 0, 13, 187, 0, 196, 89, 43, 28, 183, 0, 198, 176, 42, 18, 199, 182, 0, 130]
abbrev dktX2_personOf_1 : List UInt8 := dkwX2_personOf_1 ++ dktX2_personOf_2
def dkwX2_personOf_0 : List UInt8 := [42, 18, 187, 182, 0, 78, 153, 0, 13, 187, 0, 189, 89, 43, 28, 183, 0, 191, 176, 42, 18, 194]
abbrev dktX2_personOf_0 : List UInt8 := dkwX2_personOf_0 ++ dktX2_personOf_1
theorem dksX2_personOf_0 : cX2_personOf.data.toList.drop 0 = dktX2_personOf_0 := by decide +kernel
theorem dksX2_personOf_1 : cX2_personOf.data.toList.drop 22 = dktX2_personOf_1 := dk_seg dksX2_personOf_0 22 rfl rfl
theorem dksX2_personOf_2 : cX2_personOf.data.toList.drop 44 = dktX2_personOf_2 := dk_seg dksX2_personOf_1 22 rfl rfl
theorem dX2_personOf_0 : decode cX2_personOf 0 = .ok (.aload_n 0, 1) := dk_42 (dk_at dksX2_personOf_0 0 rfl rfl)
theorem dX2_personOf_1 : decode cX2_personOf 1 = .ok (.ldc 187, 2) := dk_18 187 (dk_at dksX2_personOf_0 1 rfl rfl)
theorem dX2_personOf_3 : decode cX2_personOf 3 = .ok (.invokevirtual 78, 3) := dk_182 0 78 (dk_at dksX2_personOf_0 3 rfl rfl)
theorem dX2_personOf_6 : decode cX2_personOf 6 = .ok (.ifCond .eq 13, 3) := dk_153 0 13 (dk_at dksX2_personOf_0 6 rfl rfl)
theorem dX2_personOf_9 : decode cX2_personOf 9 = .ok (.new 189, 3) := dk_187 0 189 (dk_at dksX2_personOf_0 9 rfl rfl)
theorem dX2_personOf_12 : decode cX2_personOf 12 = .ok (.dup, 1) := dk_89 (dk_at dksX2_personOf_0 12 rfl rfl)
theorem dX2_personOf_13 : decode cX2_personOf 13 = .ok (.aload_n 1, 1) := dk_43 (dk_at dksX2_personOf_0 13 rfl rfl)
theorem dX2_personOf_14 : decode cX2_personOf 14 = .ok (.iload_n 2, 1) := dk_28 (dk_at dksX2_personOf_0 14 rfl rfl)
theorem dX2_personOf_15 : decode cX2_personOf 15 = .ok (.invokespecial 191, 3) := dk_183 0 191 (dk_at dksX2_personOf_0 15 rfl rfl)
theorem dX2_personOf_18 : decode cX2_personOf 18 = .ok (.areturn, 1) := dk_176 (dk_at dksX2_personOf_0 18 rfl rfl)
theorem dX2_personOf_19 : decode cX2_personOf 19 = .ok (.aload_n 0, 1) := dk_42 (dk_at dksX2_personOf_0 19 rfl rfl)
theorem dX2_personOf_20 : decode cX2_personOf 20 = .ok (.ldc 194, 2) := dk_18 194 (dk_at dksX2_personOf_0 20 rfl rfl)
theorem dX2_personOf_22 : decode cX2_personOf 22 = .ok (.invokevirtual 78, 3) := dk_182 0 78 (dk_at dksX2_personOf_1 0 rfl rfl)
theorem dX2_personOf_25 : decode cX2_personOf 25 = .ok (.ifCond .eq 13, 3) := dk_153 0 13 (dk_at dksX2_personOf_1 3 rfl rfl)
theorem dX2_personOf_28 : decode cX2_personOf 28 = .ok (.new 196, 3) := dk_187 0 196 (dk_at dksX2_personOf_1 6 rfl rfl)
theorem dX2_personOf_31 : decode cX2_personOf 31 = .ok (.dup, 1) := dk_89 (dk_at dksX2_personOf_1 9 rfl rfl)
theorem dX2_personOf_32 : decode cX2_personOf 32 = .ok (.aload_n 1, 1) := dk_43 (dk_at dksX2_personOf_1 10 rfl rfl)
theorem dX2_personOf_33 : decode cX2_personOf 33 = .ok (.iload_n 2, 1) := dk_28 (dk_at dksX2_personOf_1 11 rfl rfl)
theorem dX2_personOf_34 : decode cX2_personOf 34 = .ok (.invokespecial 198, 3) := dk_183 0 198 (dk_at dksX2_personOf_1 12 rfl rfl)
theorem dX2_personOf_37 : decode cX2_personOf 37 = .ok (.areturn, 1) := dk_176 (dk_at dksX2_personOf_1 15 rfl rfl)
theorem dX2_personOf_38 : decode cX2_personOf 38 = .ok (.aload_n 0, 1) := dk_42 (dk_at dksX2_personOf_1 16 rfl rfl)
theorem dX2_personOf_39 : decode cX2_personOf 39 = .ok (.ldc 199, 2) := dk_18 199 (dk_at dksX2_personOf_1 17 rfl rfl)
theorem dX2_personOf_41 : decode cX2_personOf 41 = .ok (.invokevirtual 130, 3) := dk_182 0 130 (dk_at dksX2_personOf_1 19 rfl rfl)
theorem dX2_personOf_44 : decode cX2_personOf 44 = .ok (.new 201, 3) := dk_187 0 201 (dk_at dksX2_personOf_2 0 rfl rfl)
theorem dX2_personOf_47 : decode cX2_personOf 47 = .ok (.dup, 1) := dk_89 (dk_at dksX2_personOf_2 3 rfl rfl)
theorem dX2_personOf_48 : decode cX2_personOf 48 = .ok (.aload_n 1, 1) := dk_43 (dk_at dksX2_personOf_2 4 rfl rfl)
theorem dX2_personOf_49 : decode cX2_personOf 49 = .ok (.iload_n 2, 1) := dk_28 (dk_at dksX2_personOf_2 5 rfl rfl)
theorem dX2_personOf_50 : decode cX2_personOf 50 = .ok (.invokespecial 203, 3) := dk_183 0 203 (dk_at dksX2_personOf_2 6 rfl rfl)
theorem dX2_personOf_53 : decode cX2_personOf 53 = .ok (.areturn, 1) := dk_176 (dk_at dksX2_personOf_2 9 rfl rfl)
abbrev cX2_umbrellaLine : ByteArray := prog_19_method_23_code
def yX2_umbrellaLine : MethodName := ⟨RX2, "umbrellaLine", "()V"⟩
def dkwX2_umbrellaLine_4 : List UInt8 := [180, 0, 147, 43, 83, 42, 180, 0, 109, 89, 180, 0, 147, 4, 96, 181, 0, 147, 177]
abbrev dktX2_umbrellaLine_4 : List UInt8 := dkwX2_umbrellaLine_4 ++ []
def dkwX2_umbrellaLine_3 : List UInt8 := [153, 0, 11, 43, 42, 182, 0, 254, 181, 1, 0, 42, 180, 0, 109, 180, 1, 3, 42, 180, 0, 109]
abbrev dktX2_umbrellaLine_3 : List UInt8 := dkwX2_umbrellaLine_3 ++ dktX2_umbrellaLine_4
def dkwX2_umbrellaLine_2 : List UInt8 := [181, 0, 246, 43, 42, 18, 248, 7, 16, 12, 182, 0, 175, 181, 0, 250, 42, 18, 252, 182, 0, 78]
abbrev dktX2_umbrellaLine_2 : List UInt8 := dkwX2_umbrellaLine_2 ++ dktX2_umbrellaLine_3
def dkwX2_umbrellaLine_1 : List UInt8 := [182, 0, 212, 42, 180, 0, 109, 180, 0, 147, 182, 0, 240, 76, 43, 42, 18, 244, 3, 16, 99, 182, 0, 175]
abbrev dktX2_umbrellaLine_1 : List UInt8 := dkwX2_umbrellaLine_1 ++ dktX2_umbrellaLine_2
def dkwX2_umbrellaLine_0 : List UInt8 := [42, 42, 180, 0, 109, 180, 0, 147, 8, 162, 0, 7, 4, 167, 0, 4, 3, 182, 0, 204, 42, 42]
abbrev dktX2_umbrellaLine_0 : List UInt8 := dkwX2_umbrellaLine_0 ++ dktX2_umbrellaLine_1
theorem dksX2_umbrellaLine_0 : cX2_umbrellaLine.data.toList.drop 0 = dktX2_umbrellaLine_0 := by decide +kernel
theorem dksX2_umbrellaLine_1 : cX2_umbrellaLine.data.toList.drop 22 = dktX2_umbrellaLine_1 := dk_seg dksX2_umbrellaLine_0 22 rfl rfl
theorem dksX2_umbrellaLine_2 : cX2_umbrellaLine.data.toList.drop 46 = dktX2_umbrellaLine_2 := dk_seg dksX2_umbrellaLine_1 24 rfl rfl
theorem dksX2_umbrellaLine_3 : cX2_umbrellaLine.data.toList.drop 68 = dktX2_umbrellaLine_3 := dk_seg dksX2_umbrellaLine_2 22 rfl rfl
theorem dksX2_umbrellaLine_4 : cX2_umbrellaLine.data.toList.drop 90 = dktX2_umbrellaLine_4 := dk_seg dksX2_umbrellaLine_3 22 rfl rfl
theorem dX2_umbrellaLine_0 : decode cX2_umbrellaLine 0 = .ok (.aload_n 0, 1) := dk_42 (dk_at dksX2_umbrellaLine_0 0 rfl rfl)
theorem dX2_umbrellaLine_1 : decode cX2_umbrellaLine 1 = .ok (.aload_n 0, 1) := dk_42 (dk_at dksX2_umbrellaLine_0 1 rfl rfl)
theorem dX2_umbrellaLine_2 : decode cX2_umbrellaLine 2 = .ok (.getfield 109, 3) := dk_180 0 109 (dk_at dksX2_umbrellaLine_0 2 rfl rfl)
theorem dX2_umbrellaLine_5 : decode cX2_umbrellaLine 5 = .ok (.getfield 147, 3) := dk_180 0 147 (dk_at dksX2_umbrellaLine_0 5 rfl rfl)
theorem dX2_umbrellaLine_8 : decode cX2_umbrellaLine 8 = .ok (.iconst 5, 1) := dk_8 (dk_at dksX2_umbrellaLine_0 8 rfl rfl)
theorem dX2_umbrellaLine_9 : decode cX2_umbrellaLine 9 = .ok (.if_icmp .ge 7, 3) := dk_162 0 7 (dk_at dksX2_umbrellaLine_0 9 rfl rfl)
theorem dX2_umbrellaLine_12 : decode cX2_umbrellaLine 12 = .ok (.iconst 1, 1) := dk_4 (dk_at dksX2_umbrellaLine_0 12 rfl rfl)
theorem dX2_umbrellaLine_13 : decode cX2_umbrellaLine 13 = .ok (.goto 4, 3) := dk_167 0 4 (dk_at dksX2_umbrellaLine_0 13 rfl rfl)
theorem dX2_umbrellaLine_16 : decode cX2_umbrellaLine 16 = .ok (.iconst 0, 1) := dk_3 (dk_at dksX2_umbrellaLine_0 16 rfl rfl)
theorem dX2_umbrellaLine_17 : decode cX2_umbrellaLine 17 = .ok (.invokevirtual 204, 3) := dk_182 0 204 (dk_at dksX2_umbrellaLine_0 17 rfl rfl)
theorem dX2_umbrellaLine_20 : decode cX2_umbrellaLine 20 = .ok (.aload_n 0, 1) := dk_42 (dk_at dksX2_umbrellaLine_0 20 rfl rfl)
theorem dX2_umbrellaLine_21 : decode cX2_umbrellaLine 21 = .ok (.aload_n 0, 1) := dk_42 (dk_at dksX2_umbrellaLine_0 21 rfl rfl)
theorem dX2_umbrellaLine_22 : decode cX2_umbrellaLine 22 = .ok (.invokevirtual 212, 3) := dk_182 0 212 (dk_at dksX2_umbrellaLine_1 0 rfl rfl)
theorem dX2_umbrellaLine_25 : decode cX2_umbrellaLine 25 = .ok (.aload_n 0, 1) := dk_42 (dk_at dksX2_umbrellaLine_1 3 rfl rfl)
theorem dX2_umbrellaLine_26 : decode cX2_umbrellaLine 26 = .ok (.getfield 109, 3) := dk_180 0 109 (dk_at dksX2_umbrellaLine_1 4 rfl rfl)
theorem dX2_umbrellaLine_29 : decode cX2_umbrellaLine 29 = .ok (.getfield 147, 3) := dk_180 0 147 (dk_at dksX2_umbrellaLine_1 7 rfl rfl)
theorem dX2_umbrellaLine_32 : decode cX2_umbrellaLine 32 = .ok (.invokevirtual 240, 3) := dk_182 0 240 (dk_at dksX2_umbrellaLine_1 10 rfl rfl)
theorem dX2_umbrellaLine_35 : decode cX2_umbrellaLine 35 = .ok (.astore_n 1, 1) := dk_76 (dk_at dksX2_umbrellaLine_1 13 rfl rfl)
theorem dX2_umbrellaLine_36 : decode cX2_umbrellaLine 36 = .ok (.aload_n 1, 1) := dk_43 (dk_at dksX2_umbrellaLine_1 14 rfl rfl)
theorem dX2_umbrellaLine_37 : decode cX2_umbrellaLine 37 = .ok (.aload_n 0, 1) := dk_42 (dk_at dksX2_umbrellaLine_1 15 rfl rfl)
theorem dX2_umbrellaLine_38 : decode cX2_umbrellaLine 38 = .ok (.ldc 244, 2) := dk_18 244 (dk_at dksX2_umbrellaLine_1 16 rfl rfl)
theorem dX2_umbrellaLine_40 : decode cX2_umbrellaLine 40 = .ok (.iconst 0, 1) := dk_3 (dk_at dksX2_umbrellaLine_1 18 rfl rfl)
theorem dX2_umbrellaLine_41 : decode cX2_umbrellaLine 41 = .ok (.bipush 99, 2) := dk_16 99 (dk_at dksX2_umbrellaLine_1 19 rfl rfl)
theorem dX2_umbrellaLine_43 : decode cX2_umbrellaLine 43 = .ok (.invokevirtual 175, 3) := dk_182 0 175 (dk_at dksX2_umbrellaLine_1 21 rfl rfl)
theorem dX2_umbrellaLine_46 : decode cX2_umbrellaLine 46 = .ok (.putfield 246, 3) := dk_181 0 246 (dk_at dksX2_umbrellaLine_2 0 rfl rfl)
theorem dX2_umbrellaLine_49 : decode cX2_umbrellaLine 49 = .ok (.aload_n 1, 1) := dk_43 (dk_at dksX2_umbrellaLine_2 3 rfl rfl)
theorem dX2_umbrellaLine_50 : decode cX2_umbrellaLine 50 = .ok (.aload_n 0, 1) := dk_42 (dk_at dksX2_umbrellaLine_2 4 rfl rfl)
theorem dX2_umbrellaLine_51 : decode cX2_umbrellaLine 51 = .ok (.ldc 248, 2) := dk_18 248 (dk_at dksX2_umbrellaLine_2 5 rfl rfl)
theorem dX2_umbrellaLine_53 : decode cX2_umbrellaLine 53 = .ok (.iconst 4, 1) := dk_7 (dk_at dksX2_umbrellaLine_2 7 rfl rfl)
theorem dX2_umbrellaLine_54 : decode cX2_umbrellaLine 54 = .ok (.bipush 12, 2) := dk_16 12 (dk_at dksX2_umbrellaLine_2 8 rfl rfl)
theorem dX2_umbrellaLine_56 : decode cX2_umbrellaLine 56 = .ok (.invokevirtual 175, 3) := dk_182 0 175 (dk_at dksX2_umbrellaLine_2 10 rfl rfl)
theorem dX2_umbrellaLine_59 : decode cX2_umbrellaLine 59 = .ok (.putfield 250, 3) := dk_181 0 250 (dk_at dksX2_umbrellaLine_2 13 rfl rfl)
theorem dX2_umbrellaLine_62 : decode cX2_umbrellaLine 62 = .ok (.aload_n 0, 1) := dk_42 (dk_at dksX2_umbrellaLine_2 16 rfl rfl)
theorem dX2_umbrellaLine_63 : decode cX2_umbrellaLine 63 = .ok (.ldc 252, 2) := dk_18 252 (dk_at dksX2_umbrellaLine_2 17 rfl rfl)
theorem dX2_umbrellaLine_65 : decode cX2_umbrellaLine 65 = .ok (.invokevirtual 78, 3) := dk_182 0 78 (dk_at dksX2_umbrellaLine_2 19 rfl rfl)
theorem dX2_umbrellaLine_68 : decode cX2_umbrellaLine 68 = .ok (.ifCond .eq 11, 3) := dk_153 0 11 (dk_at dksX2_umbrellaLine_3 0 rfl rfl)
theorem dX2_umbrellaLine_71 : decode cX2_umbrellaLine 71 = .ok (.aload_n 1, 1) := dk_43 (dk_at dksX2_umbrellaLine_3 3 rfl rfl)
theorem dX2_umbrellaLine_72 : decode cX2_umbrellaLine 72 = .ok (.aload_n 0, 1) := dk_42 (dk_at dksX2_umbrellaLine_3 4 rfl rfl)
theorem dX2_umbrellaLine_73 : decode cX2_umbrellaLine 73 = .ok (.invokevirtual 254, 3) := dk_182 0 254 (dk_at dksX2_umbrellaLine_3 5 rfl rfl)
theorem dX2_umbrellaLine_76 : decode cX2_umbrellaLine 76 = .ok (.putfield 256, 3) := dk_181 1 0 (dk_at dksX2_umbrellaLine_3 8 rfl rfl)
theorem dX2_umbrellaLine_79 : decode cX2_umbrellaLine 79 = .ok (.aload_n 0, 1) := dk_42 (dk_at dksX2_umbrellaLine_3 11 rfl rfl)
theorem dX2_umbrellaLine_80 : decode cX2_umbrellaLine 80 = .ok (.getfield 109, 3) := dk_180 0 109 (dk_at dksX2_umbrellaLine_3 12 rfl rfl)
theorem dX2_umbrellaLine_83 : decode cX2_umbrellaLine 83 = .ok (.getfield 259, 3) := dk_180 1 3 (dk_at dksX2_umbrellaLine_3 15 rfl rfl)
theorem dX2_umbrellaLine_86 : decode cX2_umbrellaLine 86 = .ok (.aload_n 0, 1) := dk_42 (dk_at dksX2_umbrellaLine_3 18 rfl rfl)
theorem dX2_umbrellaLine_87 : decode cX2_umbrellaLine 87 = .ok (.getfield 109, 3) := dk_180 0 109 (dk_at dksX2_umbrellaLine_3 19 rfl rfl)
theorem dX2_umbrellaLine_90 : decode cX2_umbrellaLine 90 = .ok (.getfield 147, 3) := dk_180 0 147 (dk_at dksX2_umbrellaLine_4 0 rfl rfl)
theorem dX2_umbrellaLine_93 : decode cX2_umbrellaLine 93 = .ok (.aload_n 1, 1) := dk_43 (dk_at dksX2_umbrellaLine_4 3 rfl rfl)
theorem dX2_umbrellaLine_94 : decode cX2_umbrellaLine 94 = .ok (.aastore, 1) := dk_83 (dk_at dksX2_umbrellaLine_4 4 rfl rfl)
theorem dX2_umbrellaLine_95 : decode cX2_umbrellaLine 95 = .ok (.aload_n 0, 1) := dk_42 (dk_at dksX2_umbrellaLine_4 5 rfl rfl)
theorem dX2_umbrellaLine_96 : decode cX2_umbrellaLine 96 = .ok (.getfield 109, 3) := dk_180 0 109 (dk_at dksX2_umbrellaLine_4 6 rfl rfl)
theorem dX2_umbrellaLine_99 : decode cX2_umbrellaLine 99 = .ok (.dup, 1) := dk_89 (dk_at dksX2_umbrellaLine_4 9 rfl rfl)
theorem dX2_umbrellaLine_100 : decode cX2_umbrellaLine 100 = .ok (.getfield 147, 3) := dk_180 0 147 (dk_at dksX2_umbrellaLine_4 10 rfl rfl)
theorem dX2_umbrellaLine_103 : decode cX2_umbrellaLine 103 = .ok (.iconst 1, 1) := dk_4 (dk_at dksX2_umbrellaLine_4 13 rfl rfl)
theorem dX2_umbrellaLine_104 : decode cX2_umbrellaLine 104 = .ok (.iadd, 1) := dk_96 (dk_at dksX2_umbrellaLine_4 14 rfl rfl)
theorem dX2_umbrellaLine_105 : decode cX2_umbrellaLine 105 = .ok (.putfield 147, 3) := dk_181 0 147 (dk_at dksX2_umbrellaLine_4 15 rfl rfl)
theorem dX2_umbrellaLine_108 : decode cX2_umbrellaLine 108 = .ok (.return_, 1) := dk_177 (dk_at dksX2_umbrellaLine_4 18 rfl rfl)
abbrev cX2_umbrellaOf : ByteArray := prog_19_method_22_code
def yX2_umbrellaOf : MethodName := ⟨RX2, "umbrellaOf", "(Ljava/lang/String;I)LUmbrellaHeir$Umbrella;"⟩
def dkwX2_umbrellaOf_3 : List UInt8 := [28, 183, 0, 239, 176]
abbrev dktX2_umbrellaOf_3 : List UInt8 := dkwX2_umbrellaOf_3 ++ []
def dkwX2_umbrellaOf_2 : List UInt8 := [153, 0, 13, 187, 0, 232, 89, 43, 28, 183, 0, 234, 176, 42, 18, 235, 182, 0, 130, 187, 0, 237, 89, 43]
abbrev dktX2_umbrellaOf_2 : List UInt8 := dkwX2_umbrellaOf_2 ++ dktX2_umbrellaOf_3
def dkwX2_umbrellaOf_1 : List UInt8 := [182, 0, 78, 153, 0, 13, 187, 0, 227, 89, 43, 28, 183, 0, 229, 176, 42, 18, 230, 182, 0, 78]
abbrev dktX2_umbrellaOf_1 : List UInt8 := dkwX2_umbrellaOf_1 ++ dktX2_umbrellaOf_2
def dkwX2_umbrellaOf_0 : List UInt8 := [42, 18, 220, 182, 0, 78, 153, 0, 13, 187, 0, 222, 89, 43, 28, 183, 0, 224, 176, 42, 18, 225]
abbrev dktX2_umbrellaOf_0 : List UInt8 := dkwX2_umbrellaOf_0 ++ dktX2_umbrellaOf_1
theorem dksX2_umbrellaOf_0 : cX2_umbrellaOf.data.toList.drop 0 = dktX2_umbrellaOf_0 := by decide +kernel
theorem dksX2_umbrellaOf_1 : cX2_umbrellaOf.data.toList.drop 22 = dktX2_umbrellaOf_1 := dk_seg dksX2_umbrellaOf_0 22 rfl rfl
theorem dksX2_umbrellaOf_2 : cX2_umbrellaOf.data.toList.drop 44 = dktX2_umbrellaOf_2 := dk_seg dksX2_umbrellaOf_1 22 rfl rfl
theorem dksX2_umbrellaOf_3 : cX2_umbrellaOf.data.toList.drop 68 = dktX2_umbrellaOf_3 := dk_seg dksX2_umbrellaOf_2 24 rfl rfl
theorem dX2_umbrellaOf_0 : decode cX2_umbrellaOf 0 = .ok (.aload_n 0, 1) := dk_42 (dk_at dksX2_umbrellaOf_0 0 rfl rfl)
theorem dX2_umbrellaOf_1 : decode cX2_umbrellaOf 1 = .ok (.ldc 220, 2) := dk_18 220 (dk_at dksX2_umbrellaOf_0 1 rfl rfl)
theorem dX2_umbrellaOf_3 : decode cX2_umbrellaOf 3 = .ok (.invokevirtual 78, 3) := dk_182 0 78 (dk_at dksX2_umbrellaOf_0 3 rfl rfl)
theorem dX2_umbrellaOf_6 : decode cX2_umbrellaOf 6 = .ok (.ifCond .eq 13, 3) := dk_153 0 13 (dk_at dksX2_umbrellaOf_0 6 rfl rfl)
theorem dX2_umbrellaOf_9 : decode cX2_umbrellaOf 9 = .ok (.new 222, 3) := dk_187 0 222 (dk_at dksX2_umbrellaOf_0 9 rfl rfl)
theorem dX2_umbrellaOf_12 : decode cX2_umbrellaOf 12 = .ok (.dup, 1) := dk_89 (dk_at dksX2_umbrellaOf_0 12 rfl rfl)
theorem dX2_umbrellaOf_13 : decode cX2_umbrellaOf 13 = .ok (.aload_n 1, 1) := dk_43 (dk_at dksX2_umbrellaOf_0 13 rfl rfl)
theorem dX2_umbrellaOf_14 : decode cX2_umbrellaOf 14 = .ok (.iload_n 2, 1) := dk_28 (dk_at dksX2_umbrellaOf_0 14 rfl rfl)
theorem dX2_umbrellaOf_15 : decode cX2_umbrellaOf 15 = .ok (.invokespecial 224, 3) := dk_183 0 224 (dk_at dksX2_umbrellaOf_0 15 rfl rfl)
theorem dX2_umbrellaOf_18 : decode cX2_umbrellaOf 18 = .ok (.areturn, 1) := dk_176 (dk_at dksX2_umbrellaOf_0 18 rfl rfl)
theorem dX2_umbrellaOf_19 : decode cX2_umbrellaOf 19 = .ok (.aload_n 0, 1) := dk_42 (dk_at dksX2_umbrellaOf_0 19 rfl rfl)
theorem dX2_umbrellaOf_20 : decode cX2_umbrellaOf 20 = .ok (.ldc 225, 2) := dk_18 225 (dk_at dksX2_umbrellaOf_0 20 rfl rfl)
theorem dX2_umbrellaOf_22 : decode cX2_umbrellaOf 22 = .ok (.invokevirtual 78, 3) := dk_182 0 78 (dk_at dksX2_umbrellaOf_1 0 rfl rfl)
theorem dX2_umbrellaOf_25 : decode cX2_umbrellaOf 25 = .ok (.ifCond .eq 13, 3) := dk_153 0 13 (dk_at dksX2_umbrellaOf_1 3 rfl rfl)
theorem dX2_umbrellaOf_28 : decode cX2_umbrellaOf 28 = .ok (.new 227, 3) := dk_187 0 227 (dk_at dksX2_umbrellaOf_1 6 rfl rfl)
theorem dX2_umbrellaOf_31 : decode cX2_umbrellaOf 31 = .ok (.dup, 1) := dk_89 (dk_at dksX2_umbrellaOf_1 9 rfl rfl)
theorem dX2_umbrellaOf_32 : decode cX2_umbrellaOf 32 = .ok (.aload_n 1, 1) := dk_43 (dk_at dksX2_umbrellaOf_1 10 rfl rfl)
theorem dX2_umbrellaOf_33 : decode cX2_umbrellaOf 33 = .ok (.iload_n 2, 1) := dk_28 (dk_at dksX2_umbrellaOf_1 11 rfl rfl)
theorem dX2_umbrellaOf_34 : decode cX2_umbrellaOf 34 = .ok (.invokespecial 229, 3) := dk_183 0 229 (dk_at dksX2_umbrellaOf_1 12 rfl rfl)
theorem dX2_umbrellaOf_37 : decode cX2_umbrellaOf 37 = .ok (.areturn, 1) := dk_176 (dk_at dksX2_umbrellaOf_1 15 rfl rfl)
theorem dX2_umbrellaOf_38 : decode cX2_umbrellaOf 38 = .ok (.aload_n 0, 1) := dk_42 (dk_at dksX2_umbrellaOf_1 16 rfl rfl)
theorem dX2_umbrellaOf_39 : decode cX2_umbrellaOf 39 = .ok (.ldc 230, 2) := dk_18 230 (dk_at dksX2_umbrellaOf_1 17 rfl rfl)
theorem dX2_umbrellaOf_41 : decode cX2_umbrellaOf 41 = .ok (.invokevirtual 78, 3) := dk_182 0 78 (dk_at dksX2_umbrellaOf_1 19 rfl rfl)
theorem dX2_umbrellaOf_44 : decode cX2_umbrellaOf 44 = .ok (.ifCond .eq 13, 3) := dk_153 0 13 (dk_at dksX2_umbrellaOf_2 0 rfl rfl)
theorem dX2_umbrellaOf_47 : decode cX2_umbrellaOf 47 = .ok (.new 232, 3) := dk_187 0 232 (dk_at dksX2_umbrellaOf_2 3 rfl rfl)
theorem dX2_umbrellaOf_50 : decode cX2_umbrellaOf 50 = .ok (.dup, 1) := dk_89 (dk_at dksX2_umbrellaOf_2 6 rfl rfl)
theorem dX2_umbrellaOf_51 : decode cX2_umbrellaOf 51 = .ok (.aload_n 1, 1) := dk_43 (dk_at dksX2_umbrellaOf_2 7 rfl rfl)
theorem dX2_umbrellaOf_52 : decode cX2_umbrellaOf 52 = .ok (.iload_n 2, 1) := dk_28 (dk_at dksX2_umbrellaOf_2 8 rfl rfl)
theorem dX2_umbrellaOf_53 : decode cX2_umbrellaOf 53 = .ok (.invokespecial 234, 3) := dk_183 0 234 (dk_at dksX2_umbrellaOf_2 9 rfl rfl)
theorem dX2_umbrellaOf_56 : decode cX2_umbrellaOf 56 = .ok (.areturn, 1) := dk_176 (dk_at dksX2_umbrellaOf_2 12 rfl rfl)
theorem dX2_umbrellaOf_57 : decode cX2_umbrellaOf 57 = .ok (.aload_n 0, 1) := dk_42 (dk_at dksX2_umbrellaOf_2 13 rfl rfl)
theorem dX2_umbrellaOf_58 : decode cX2_umbrellaOf 58 = .ok (.ldc 235, 2) := dk_18 235 (dk_at dksX2_umbrellaOf_2 14 rfl rfl)
theorem dX2_umbrellaOf_60 : decode cX2_umbrellaOf 60 = .ok (.invokevirtual 130, 3) := dk_182 0 130 (dk_at dksX2_umbrellaOf_2 16 rfl rfl)
theorem dX2_umbrellaOf_63 : decode cX2_umbrellaOf 63 = .ok (.new 237, 3) := dk_187 0 237 (dk_at dksX2_umbrellaOf_2 19 rfl rfl)
theorem dX2_umbrellaOf_66 : decode cX2_umbrellaOf 66 = .ok (.dup, 1) := dk_89 (dk_at dksX2_umbrellaOf_2 22 rfl rfl)
theorem dX2_umbrellaOf_67 : decode cX2_umbrellaOf 67 = .ok (.aload_n 1, 1) := dk_43 (dk_at dksX2_umbrellaOf_2 23 rfl rfl)
theorem dX2_umbrellaOf_68 : decode cX2_umbrellaOf 68 = .ok (.iload_n 2, 1) := dk_28 (dk_at dksX2_umbrellaOf_3 0 rfl rfl)
theorem dX2_umbrellaOf_69 : decode cX2_umbrellaOf 69 = .ok (.invokespecial 239, 3) := dk_183 0 239 (dk_at dksX2_umbrellaOf_3 1 rfl rfl)
theorem dX2_umbrellaOf_72 : decode cX2_umbrellaOf 72 = .ok (.areturn, 1) := dk_176 (dk_at dksX2_umbrellaOf_3 4 rfl rfl)
abbrev cX2_person : ByteArray := prog_19_method_11_code
def yX2_person : MethodName := ⟨RX2, "person", "()I"⟩
def dkwX2_person_1 : List UInt8 := [5, 182, 0, 82, 191, 42, 182, 0, 75, 43, 180, 0, 120, 172]
abbrev dktX2_person_1 : List UInt8 := dkwX2_person_1 ++ []
def dkwX2_person_0 : List UInt8 := [42, 182, 0, 106, 42, 180, 0, 109, 42, 180, 0, 61, 182, 0, 112, 76, 43, 193, 0, 118, 154, 0, 9, 42]
abbrev dktX2_person_0 : List UInt8 := dkwX2_person_0 ++ dktX2_person_1
theorem dksX2_person_0 : cX2_person.data.toList.drop 0 = dktX2_person_0 := by decide +kernel
theorem dksX2_person_1 : cX2_person.data.toList.drop 24 = dktX2_person_1 := dk_seg dksX2_person_0 24 rfl rfl
theorem dX2_person_0 : decode cX2_person 0 = .ok (.aload_n 0, 1) := dk_42 (dk_at dksX2_person_0 0 rfl rfl)
theorem dX2_person_1 : decode cX2_person 1 = .ok (.invokevirtual 106, 3) := dk_182 0 106 (dk_at dksX2_person_0 1 rfl rfl)
theorem dX2_person_4 : decode cX2_person 4 = .ok (.aload_n 0, 1) := dk_42 (dk_at dksX2_person_0 4 rfl rfl)
theorem dX2_person_5 : decode cX2_person 5 = .ok (.getfield 109, 3) := dk_180 0 109 (dk_at dksX2_person_0 5 rfl rfl)
theorem dX2_person_8 : decode cX2_person 8 = .ok (.aload_n 0, 1) := dk_42 (dk_at dksX2_person_0 8 rfl rfl)
theorem dX2_person_9 : decode cX2_person 9 = .ok (.getfield 61, 3) := dk_180 0 61 (dk_at dksX2_person_0 9 rfl rfl)
theorem dX2_person_12 : decode cX2_person 12 = .ok (.invokevirtual 112, 3) := dk_182 0 112 (dk_at dksX2_person_0 12 rfl rfl)
theorem dX2_person_15 : decode cX2_person 15 = .ok (.astore_n 1, 1) := dk_76 (dk_at dksX2_person_0 15 rfl rfl)
theorem dX2_person_16 : decode cX2_person 16 = .ok (.aload_n 1, 1) := dk_43 (dk_at dksX2_person_0 16 rfl rfl)
theorem dX2_person_17 : decode cX2_person 17 = .ok (.instanceof 118, 3) := dk_193 0 118 (dk_at dksX2_person_0 17 rfl rfl)
theorem dX2_person_20 : decode cX2_person 20 = .ok (.ifCond .ne 9, 3) := dk_154 0 9 (dk_at dksX2_person_0 20 rfl rfl)
theorem dX2_person_23 : decode cX2_person 23 = .ok (.aload_n 0, 1) := dk_42 (dk_at dksX2_person_0 23 rfl rfl)
theorem dX2_person_24 : decode cX2_person 24 = .ok (.iconst 2, 1) := dk_5 (dk_at dksX2_person_1 0 rfl rfl)
theorem dX2_person_25 : decode cX2_person 25 = .ok (.invokevirtual 82, 3) := dk_182 0 82 (dk_at dksX2_person_1 1 rfl rfl)
theorem dX2_person_28 : decode cX2_person 28 = .ok (.athrow, 1) := dk_191 (dk_at dksX2_person_1 4 rfl rfl)
theorem dX2_person_29 : decode cX2_person 29 = .ok (.aload_n 0, 1) := dk_42 (dk_at dksX2_person_1 5 rfl rfl)
theorem dX2_person_30 : decode cX2_person 30 = .ok (.invokevirtual 75, 3) := dk_182 0 75 (dk_at dksX2_person_1 6 rfl rfl)
theorem dX2_person_33 : decode cX2_person 33 = .ok (.aload_n 1, 1) := dk_43 (dk_at dksX2_person_1 9 rfl rfl)
theorem dX2_person_34 : decode cX2_person 34 = .ok (.getfield 120, 3) := dk_180 0 120 (dk_at dksX2_person_1 10 rfl rfl)
theorem dX2_person_37 : decode cX2_person 37 = .ok (.ireturn, 1) := dk_172 (dk_at dksX2_person_1 13 rfl rfl)
abbrev cX2_lentLine : ByteArray := prog_19_method_26_code
def yX2_lentLine : MethodName := ⟨RX2, "lentLine", "()V"⟩
def dkwX2_lentLine_1 : List UInt8 := [183, 1, 28, 182, 1, 31, 177]
abbrev dktX2_lentLine_1 : List UInt8 := dkwX2_lentLine_1 ++ []
def dkwX2_lentLine_0 : List UInt8 := [42, 42, 182, 1, 20, 182, 0, 204, 42, 182, 1, 24, 60, 42, 187, 1, 26, 89, 27, 42, 182, 0, 254]
abbrev dktX2_lentLine_0 : List UInt8 := dkwX2_lentLine_0 ++ dktX2_lentLine_1
theorem dksX2_lentLine_0 : cX2_lentLine.data.toList.drop 0 = dktX2_lentLine_0 := by decide +kernel
theorem dksX2_lentLine_1 : cX2_lentLine.data.toList.drop 23 = dktX2_lentLine_1 := dk_seg dksX2_lentLine_0 23 rfl rfl
theorem dX2_lentLine_0 : decode cX2_lentLine 0 = .ok (.aload_n 0, 1) := dk_42 (dk_at dksX2_lentLine_0 0 rfl rfl)
theorem dX2_lentLine_1 : decode cX2_lentLine 1 = .ok (.aload_n 0, 1) := dk_42 (dk_at dksX2_lentLine_0 1 rfl rfl)
theorem dX2_lentLine_2 : decode cX2_lentLine 2 = .ok (.invokevirtual 276, 3) := dk_182 1 20 (dk_at dksX2_lentLine_0 2 rfl rfl)
theorem dX2_lentLine_5 : decode cX2_lentLine 5 = .ok (.invokevirtual 204, 3) := dk_182 0 204 (dk_at dksX2_lentLine_0 5 rfl rfl)
theorem dX2_lentLine_8 : decode cX2_lentLine 8 = .ok (.aload_n 0, 1) := dk_42 (dk_at dksX2_lentLine_0 8 rfl rfl)
theorem dX2_lentLine_9 : decode cX2_lentLine 9 = .ok (.invokevirtual 280, 3) := dk_182 1 24 (dk_at dksX2_lentLine_0 9 rfl rfl)
theorem dX2_lentLine_12 : decode cX2_lentLine 12 = .ok (.istore_n 1, 1) := dk_60 (dk_at dksX2_lentLine_0 12 rfl rfl)
theorem dX2_lentLine_13 : decode cX2_lentLine 13 = .ok (.aload_n 0, 1) := dk_42 (dk_at dksX2_lentLine_0 13 rfl rfl)
theorem dX2_lentLine_14 : decode cX2_lentLine 14 = .ok (.new 282, 3) := dk_187 1 26 (dk_at dksX2_lentLine_0 14 rfl rfl)
theorem dX2_lentLine_17 : decode cX2_lentLine 17 = .ok (.dup, 1) := dk_89 (dk_at dksX2_lentLine_0 17 rfl rfl)
theorem dX2_lentLine_18 : decode cX2_lentLine 18 = .ok (.iload_n 1, 1) := dk_27 (dk_at dksX2_lentLine_0 18 rfl rfl)
theorem dX2_lentLine_19 : decode cX2_lentLine 19 = .ok (.aload_n 0, 1) := dk_42 (dk_at dksX2_lentLine_0 19 rfl rfl)
theorem dX2_lentLine_20 : decode cX2_lentLine 20 = .ok (.invokevirtual 254, 3) := dk_182 0 254 (dk_at dksX2_lentLine_0 20 rfl rfl)
theorem dX2_lentLine_23 : decode cX2_lentLine 23 = .ok (.invokespecial 284, 3) := dk_183 1 28 (dk_at dksX2_lentLine_1 0 rfl rfl)
theorem dX2_lentLine_26 : decode cX2_lentLine 26 = .ok (.invokevirtual 287, 3) := dk_182 1 31 (dk_at dksX2_lentLine_1 3 rfl rfl)
theorem dX2_lentLine_29 : decode cX2_lentLine 29 = .ok (.return_, 1) := dk_177 (dk_at dksX2_lentLine_1 6 rfl rfl)
abbrev cX2_hasRoom : ByteArray := prog_19_method_25_code
def yX2_hasRoom : MethodName := ⟨RX2, "hasRoom", "()Z"⟩
def dkwX2_hasRoom_0 : List UInt8 := [42, 180, 0, 109, 180, 1, 9, 16, 16, 162, 0, 7, 4, 167, 0, 4, 3, 172]
abbrev dktX2_hasRoom_0 : List UInt8 := dkwX2_hasRoom_0 ++ []
theorem dksX2_hasRoom_0 : cX2_hasRoom.data.toList.drop 0 = dktX2_hasRoom_0 := by decide +kernel
theorem dX2_hasRoom_0 : decode cX2_hasRoom 0 = .ok (.aload_n 0, 1) := dk_42 (dk_at dksX2_hasRoom_0 0 rfl rfl)
theorem dX2_hasRoom_1 : decode cX2_hasRoom 1 = .ok (.getfield 109, 3) := dk_180 0 109 (dk_at dksX2_hasRoom_0 1 rfl rfl)
theorem dX2_hasRoom_4 : decode cX2_hasRoom 4 = .ok (.getfield 265, 3) := dk_180 1 9 (dk_at dksX2_hasRoom_0 4 rfl rfl)
theorem dX2_hasRoom_7 : decode cX2_hasRoom 7 = .ok (.bipush 16, 2) := dk_16 16 (dk_at dksX2_hasRoom_0 7 rfl rfl)
theorem dX2_hasRoom_9 : decode cX2_hasRoom 9 = .ok (.if_icmp .ge 7, 3) := dk_162 0 7 (dk_at dksX2_hasRoom_0 9 rfl rfl)
theorem dX2_hasRoom_12 : decode cX2_hasRoom 12 = .ok (.iconst 1, 1) := dk_4 (dk_at dksX2_hasRoom_0 12 rfl rfl)
theorem dX2_hasRoom_13 : decode cX2_hasRoom 13 = .ok (.goto 4, 3) := dk_167 0 4 (dk_at dksX2_hasRoom_0 13 rfl rfl)
theorem dX2_hasRoom_16 : decode cX2_hasRoom 16 = .ok (.iconst 0, 1) := dk_3 (dk_at dksX2_hasRoom_0 16 rfl rfl)
theorem dX2_hasRoom_17 : decode cX2_hasRoom 17 = .ok (.ireturn, 1) := dk_172 (dk_at dksX2_hasRoom_0 17 rfl rfl)
abbrev cX2_umbrella : ByteArray := prog_19_method_13_code
def yX2_umbrella : MethodName := ⟨RX2, "umbrella", "()I"⟩
def dkwX2_umbrella_0 : List UInt8 := [42, 182, 0, 127, 60, 42, 182, 0, 75, 27, 172]
abbrev dktX2_umbrella_0 : List UInt8 := dkwX2_umbrella_0 ++ []
theorem dksX2_umbrella_0 : cX2_umbrella.data.toList.drop 0 = dktX2_umbrella_0 := by decide +kernel
theorem dX2_umbrella_0 : decode cX2_umbrella 0 = .ok (.aload_n 0, 1) := dk_42 (dk_at dksX2_umbrella_0 0 rfl rfl)
theorem dX2_umbrella_1 : decode cX2_umbrella 1 = .ok (.invokevirtual 127, 3) := dk_182 0 127 (dk_at dksX2_umbrella_0 1 rfl rfl)
theorem dX2_umbrella_4 : decode cX2_umbrella 4 = .ok (.istore_n 1, 1) := dk_60 (dk_at dksX2_umbrella_0 4 rfl rfl)
theorem dX2_umbrella_5 : decode cX2_umbrella 5 = .ok (.aload_n 0, 1) := dk_42 (dk_at dksX2_umbrella_0 5 rfl rfl)
theorem dX2_umbrella_6 : decode cX2_umbrella 6 = .ok (.invokevirtual 75, 3) := dk_182 0 75 (dk_at dksX2_umbrella_0 6 rfl rfl)
theorem dX2_umbrella_9 : decode cX2_umbrella 9 = .ok (.iload_n 1, 1) := dk_27 (dk_at dksX2_umbrella_0 9 rfl rfl)
theorem dX2_umbrella_10 : decode cX2_umbrella 10 = .ok (.ireturn, 1) := dk_172 (dk_at dksX2_umbrella_0 10 rfl rfl)
abbrev cX2_umbrellaHere : ByteArray := prog_19_method_12_code
def yX2_umbrellaHere : MethodName := ⟨RX2, "umbrellaHere", "()I"⟩
def dkwX2_umbrellaHere_1 : List UInt8 := [5, 182, 0, 82, 191, 43, 180, 0, 120, 172]
abbrev dktX2_umbrellaHere_1 : List UInt8 := dkwX2_umbrellaHere_1 ++ []
def dkwX2_umbrellaHere_0 : List UInt8 := [42, 182, 0, 106, 42, 180, 0, 109, 42, 180, 0, 61, 182, 0, 112, 76, 43, 193, 0, 125, 154, 0, 9, 42]
abbrev dktX2_umbrellaHere_0 : List UInt8 := dkwX2_umbrellaHere_0 ++ dktX2_umbrellaHere_1
theorem dksX2_umbrellaHere_0 : cX2_umbrellaHere.data.toList.drop 0 = dktX2_umbrellaHere_0 := by decide +kernel
theorem dksX2_umbrellaHere_1 : cX2_umbrellaHere.data.toList.drop 24 = dktX2_umbrellaHere_1 := dk_seg dksX2_umbrellaHere_0 24 rfl rfl
theorem dX2_umbrellaHere_0 : decode cX2_umbrellaHere 0 = .ok (.aload_n 0, 1) := dk_42 (dk_at dksX2_umbrellaHere_0 0 rfl rfl)
theorem dX2_umbrellaHere_1 : decode cX2_umbrellaHere 1 = .ok (.invokevirtual 106, 3) := dk_182 0 106 (dk_at dksX2_umbrellaHere_0 1 rfl rfl)
theorem dX2_umbrellaHere_4 : decode cX2_umbrellaHere 4 = .ok (.aload_n 0, 1) := dk_42 (dk_at dksX2_umbrellaHere_0 4 rfl rfl)
theorem dX2_umbrellaHere_5 : decode cX2_umbrellaHere 5 = .ok (.getfield 109, 3) := dk_180 0 109 (dk_at dksX2_umbrellaHere_0 5 rfl rfl)
theorem dX2_umbrellaHere_8 : decode cX2_umbrellaHere 8 = .ok (.aload_n 0, 1) := dk_42 (dk_at dksX2_umbrellaHere_0 8 rfl rfl)
theorem dX2_umbrellaHere_9 : decode cX2_umbrellaHere 9 = .ok (.getfield 61, 3) := dk_180 0 61 (dk_at dksX2_umbrellaHere_0 9 rfl rfl)
theorem dX2_umbrellaHere_12 : decode cX2_umbrellaHere 12 = .ok (.invokevirtual 112, 3) := dk_182 0 112 (dk_at dksX2_umbrellaHere_0 12 rfl rfl)
theorem dX2_umbrellaHere_15 : decode cX2_umbrellaHere 15 = .ok (.astore_n 1, 1) := dk_76 (dk_at dksX2_umbrellaHere_0 15 rfl rfl)
theorem dX2_umbrellaHere_16 : decode cX2_umbrellaHere 16 = .ok (.aload_n 1, 1) := dk_43 (dk_at dksX2_umbrellaHere_0 16 rfl rfl)
theorem dX2_umbrellaHere_17 : decode cX2_umbrellaHere 17 = .ok (.instanceof 125, 3) := dk_193 0 125 (dk_at dksX2_umbrellaHere_0 17 rfl rfl)
theorem dX2_umbrellaHere_20 : decode cX2_umbrellaHere 20 = .ok (.ifCond .ne 9, 3) := dk_154 0 9 (dk_at dksX2_umbrellaHere_0 20 rfl rfl)
theorem dX2_umbrellaHere_23 : decode cX2_umbrellaHere 23 = .ok (.aload_n 0, 1) := dk_42 (dk_at dksX2_umbrellaHere_0 23 rfl rfl)
theorem dX2_umbrellaHere_24 : decode cX2_umbrellaHere 24 = .ok (.iconst 2, 1) := dk_5 (dk_at dksX2_umbrellaHere_1 0 rfl rfl)
theorem dX2_umbrellaHere_25 : decode cX2_umbrellaHere 25 = .ok (.invokevirtual 82, 3) := dk_182 0 82 (dk_at dksX2_umbrellaHere_1 1 rfl rfl)
theorem dX2_umbrellaHere_28 : decode cX2_umbrellaHere 28 = .ok (.athrow, 1) := dk_191 (dk_at dksX2_umbrellaHere_1 4 rfl rfl)
theorem dX2_umbrellaHere_29 : decode cX2_umbrellaHere 29 = .ok (.aload_n 1, 1) := dk_43 (dk_at dksX2_umbrellaHere_1 5 rfl rfl)
theorem dX2_umbrellaHere_30 : decode cX2_umbrellaHere 30 = .ok (.getfield 120, 3) := dk_180 0 120 (dk_at dksX2_umbrellaHere_1 6 rfl rfl)
theorem dX2_umbrellaHere_33 : decode cX2_umbrellaHere 33 = .ok (.ireturn, 1) := dk_172 (dk_at dksX2_umbrellaHere_1 9 rfl rfl)
abbrev cX2_logs : ByteArray := prog_19_method_24_code
def yX2_logs : MethodName := ⟨RX2, "logs", "(LUmbrellaHeir$Event;)V"⟩
def dkwX2_logs_3 : List UInt8 := [4, 96, 181, 1, 9, 177]
abbrev dktX2_logs_3 : List UInt8 := dkwX2_logs_3 ++ []
def dkwX2_logs_2 : List UInt8 := [42, 180, 0, 109, 180, 1, 12, 42, 180, 0, 109, 180, 1, 9, 43, 83, 42, 180, 0, 109, 89, 180, 1, 9]
abbrev dktX2_logs_2 : List UInt8 := dkwX2_logs_2 ++ dktX2_logs_3
def dkwX2_logs_1 : List UInt8 := [180, 1, 12, 42, 180, 0, 109, 180, 1, 9, 4, 100, 50, 180, 1, 16, 16, 40, 182, 0, 175, 181, 1, 16]
abbrev dktX2_logs_1 : List UInt8 := dkwX2_logs_1 ++ dktX2_logs_2
def dkwX2_logs_0 : List UInt8 := [43, 42, 19, 1, 7, 42, 180, 0, 109, 180, 1, 9, 154, 0, 7, 3, 167, 0, 23, 42, 180, 0, 109]
abbrev dktX2_logs_0 : List UInt8 := dkwX2_logs_0 ++ dktX2_logs_1
theorem dksX2_logs_0 : cX2_logs.data.toList.drop 0 = dktX2_logs_0 := by decide +kernel
theorem dksX2_logs_1 : cX2_logs.data.toList.drop 23 = dktX2_logs_1 := dk_seg dksX2_logs_0 23 rfl rfl
theorem dksX2_logs_2 : cX2_logs.data.toList.drop 47 = dktX2_logs_2 := dk_seg dksX2_logs_1 24 rfl rfl
theorem dksX2_logs_3 : cX2_logs.data.toList.drop 71 = dktX2_logs_3 := dk_seg dksX2_logs_2 24 rfl rfl
theorem dX2_logs_0 : decode cX2_logs 0 = .ok (.aload_n 1, 1) := dk_43 (dk_at dksX2_logs_0 0 rfl rfl)
theorem dX2_logs_1 : decode cX2_logs 1 = .ok (.aload_n 0, 1) := dk_42 (dk_at dksX2_logs_0 1 rfl rfl)
theorem dX2_logs_2 : decode cX2_logs 2 = .ok (.ldc_w 263, 3) := dk_19 1 7 (dk_at dksX2_logs_0 2 rfl rfl)
theorem dX2_logs_5 : decode cX2_logs 5 = .ok (.aload_n 0, 1) := dk_42 (dk_at dksX2_logs_0 5 rfl rfl)
theorem dX2_logs_6 : decode cX2_logs 6 = .ok (.getfield 109, 3) := dk_180 0 109 (dk_at dksX2_logs_0 6 rfl rfl)
theorem dX2_logs_9 : decode cX2_logs 9 = .ok (.getfield 265, 3) := dk_180 1 9 (dk_at dksX2_logs_0 9 rfl rfl)
theorem dX2_logs_12 : decode cX2_logs 12 = .ok (.ifCond .ne 7, 3) := dk_154 0 7 (dk_at dksX2_logs_0 12 rfl rfl)
theorem dX2_logs_15 : decode cX2_logs 15 = .ok (.iconst 0, 1) := dk_3 (dk_at dksX2_logs_0 15 rfl rfl)
theorem dX2_logs_16 : decode cX2_logs 16 = .ok (.goto 23, 3) := dk_167 0 23 (dk_at dksX2_logs_0 16 rfl rfl)
theorem dX2_logs_19 : decode cX2_logs 19 = .ok (.aload_n 0, 1) := dk_42 (dk_at dksX2_logs_0 19 rfl rfl)
theorem dX2_logs_20 : decode cX2_logs 20 = .ok (.getfield 109, 3) := dk_180 0 109 (dk_at dksX2_logs_0 20 rfl rfl)
theorem dX2_logs_23 : decode cX2_logs 23 = .ok (.getfield 268, 3) := dk_180 1 12 (dk_at dksX2_logs_1 0 rfl rfl)
theorem dX2_logs_26 : decode cX2_logs 26 = .ok (.aload_n 0, 1) := dk_42 (dk_at dksX2_logs_1 3 rfl rfl)
theorem dX2_logs_27 : decode cX2_logs 27 = .ok (.getfield 109, 3) := dk_180 0 109 (dk_at dksX2_logs_1 4 rfl rfl)
theorem dX2_logs_30 : decode cX2_logs 30 = .ok (.getfield 265, 3) := dk_180 1 9 (dk_at dksX2_logs_1 7 rfl rfl)
theorem dX2_logs_33 : decode cX2_logs 33 = .ok (.iconst 1, 1) := dk_4 (dk_at dksX2_logs_1 10 rfl rfl)
theorem dX2_logs_34 : decode cX2_logs 34 = .ok (.isub, 1) := dk_100 (dk_at dksX2_logs_1 11 rfl rfl)
theorem dX2_logs_35 : decode cX2_logs 35 = .ok (.aaload, 1) := dk_50 (dk_at dksX2_logs_1 12 rfl rfl)
theorem dX2_logs_36 : decode cX2_logs 36 = .ok (.getfield 272, 3) := dk_180 1 16 (dk_at dksX2_logs_1 13 rfl rfl)
theorem dX2_logs_39 : decode cX2_logs 39 = .ok (.bipush 40, 2) := dk_16 40 (dk_at dksX2_logs_1 16 rfl rfl)
theorem dX2_logs_41 : decode cX2_logs 41 = .ok (.invokevirtual 175, 3) := dk_182 0 175 (dk_at dksX2_logs_1 18 rfl rfl)
theorem dX2_logs_44 : decode cX2_logs 44 = .ok (.putfield 272, 3) := dk_181 1 16 (dk_at dksX2_logs_1 21 rfl rfl)
theorem dX2_logs_47 : decode cX2_logs 47 = .ok (.aload_n 0, 1) := dk_42 (dk_at dksX2_logs_2 0 rfl rfl)
theorem dX2_logs_48 : decode cX2_logs 48 = .ok (.getfield 109, 3) := dk_180 0 109 (dk_at dksX2_logs_2 1 rfl rfl)
theorem dX2_logs_51 : decode cX2_logs 51 = .ok (.getfield 268, 3) := dk_180 1 12 (dk_at dksX2_logs_2 4 rfl rfl)
theorem dX2_logs_54 : decode cX2_logs 54 = .ok (.aload_n 0, 1) := dk_42 (dk_at dksX2_logs_2 7 rfl rfl)
theorem dX2_logs_55 : decode cX2_logs 55 = .ok (.getfield 109, 3) := dk_180 0 109 (dk_at dksX2_logs_2 8 rfl rfl)
theorem dX2_logs_58 : decode cX2_logs 58 = .ok (.getfield 265, 3) := dk_180 1 9 (dk_at dksX2_logs_2 11 rfl rfl)
theorem dX2_logs_61 : decode cX2_logs 61 = .ok (.aload_n 1, 1) := dk_43 (dk_at dksX2_logs_2 14 rfl rfl)
theorem dX2_logs_62 : decode cX2_logs 62 = .ok (.aastore, 1) := dk_83 (dk_at dksX2_logs_2 15 rfl rfl)
theorem dX2_logs_63 : decode cX2_logs 63 = .ok (.aload_n 0, 1) := dk_42 (dk_at dksX2_logs_2 16 rfl rfl)
theorem dX2_logs_64 : decode cX2_logs 64 = .ok (.getfield 109, 3) := dk_180 0 109 (dk_at dksX2_logs_2 17 rfl rfl)
theorem dX2_logs_67 : decode cX2_logs 67 = .ok (.dup, 1) := dk_89 (dk_at dksX2_logs_2 20 rfl rfl)
theorem dX2_logs_68 : decode cX2_logs 68 = .ok (.getfield 265, 3) := dk_180 1 9 (dk_at dksX2_logs_2 21 rfl rfl)
theorem dX2_logs_71 : decode cX2_logs 71 = .ok (.iconst 1, 1) := dk_4 (dk_at dksX2_logs_3 0 rfl rfl)
theorem dX2_logs_72 : decode cX2_logs 72 = .ok (.iadd, 1) := dk_96 (dk_at dksX2_logs_3 1 rfl rfl)
theorem dX2_logs_73 : decode cX2_logs 73 = .ok (.putfield 265, 3) := dk_181 1 9 (dk_at dksX2_logs_3 2 rfl rfl)
theorem dX2_logs_76 : decode cX2_logs 76 = .ok (.return_, 1) := dk_177 (dk_at dksX2_logs_3 5 rfl rfl)
abbrev cX2_leftLine : ByteArray := prog_19_method_27_code
def yX2_leftLine : MethodName := ⟨RX2, "leftLine", "()V"⟩
def dkwX2_leftLine_0 : List UInt8 := [42, 42, 182, 1, 20, 182, 0, 204, 42, 187, 1, 35, 89, 42, 182, 1, 24, 183, 1, 37, 182, 1, 31, 177]
abbrev dktX2_leftLine_0 : List UInt8 := dkwX2_leftLine_0 ++ []
theorem dksX2_leftLine_0 : cX2_leftLine.data.toList.drop 0 = dktX2_leftLine_0 := by decide +kernel
theorem dX2_leftLine_0 : decode cX2_leftLine 0 = .ok (.aload_n 0, 1) := dk_42 (dk_at dksX2_leftLine_0 0 rfl rfl)
theorem dX2_leftLine_1 : decode cX2_leftLine 1 = .ok (.aload_n 0, 1) := dk_42 (dk_at dksX2_leftLine_0 1 rfl rfl)
theorem dX2_leftLine_2 : decode cX2_leftLine 2 = .ok (.invokevirtual 276, 3) := dk_182 1 20 (dk_at dksX2_leftLine_0 2 rfl rfl)
theorem dX2_leftLine_5 : decode cX2_leftLine 5 = .ok (.invokevirtual 204, 3) := dk_182 0 204 (dk_at dksX2_leftLine_0 5 rfl rfl)
theorem dX2_leftLine_8 : decode cX2_leftLine 8 = .ok (.aload_n 0, 1) := dk_42 (dk_at dksX2_leftLine_0 8 rfl rfl)
theorem dX2_leftLine_9 : decode cX2_leftLine 9 = .ok (.new 291, 3) := dk_187 1 35 (dk_at dksX2_leftLine_0 9 rfl rfl)
theorem dX2_leftLine_12 : decode cX2_leftLine 12 = .ok (.dup, 1) := dk_89 (dk_at dksX2_leftLine_0 12 rfl rfl)
theorem dX2_leftLine_13 : decode cX2_leftLine 13 = .ok (.aload_n 0, 1) := dk_42 (dk_at dksX2_leftLine_0 13 rfl rfl)
theorem dX2_leftLine_14 : decode cX2_leftLine 14 = .ok (.invokevirtual 280, 3) := dk_182 1 24 (dk_at dksX2_leftLine_0 14 rfl rfl)
theorem dX2_leftLine_17 : decode cX2_leftLine 17 = .ok (.invokespecial 293, 3) := dk_183 1 37 (dk_at dksX2_leftLine_0 17 rfl rfl)
theorem dX2_leftLine_20 : decode cX2_leftLine 20 = .ok (.invokevirtual 287, 3) := dk_182 1 31 (dk_at dksX2_leftLine_0 20 rfl rfl)
theorem dX2_leftLine_23 : decode cX2_leftLine 23 = .ok (.return_, 1) := dk_177 (dk_at dksX2_leftLine_0 23 rfl rfl)
abbrev cX2_changedLine : ByteArray := prog_19_method_28_code
def yX2_changedLine : MethodName := ⟨RX2, "changedLine", "()V"⟩
def dkwX2_changedLine_1 : List UInt8 := [6, 182, 0, 82, 191, 42, 182, 0, 75, 42, 187, 1, 40, 89, 27, 28, 183, 1, 42, 182, 1, 31, 177]
abbrev dktX2_changedLine_1 : List UInt8 := dkwX2_changedLine_1 ++ []
def dkwX2_changedLine_0 : List UInt8 := [42, 42, 182, 1, 20, 182, 0, 204, 42, 182, 1, 24, 60, 42, 182, 0, 127, 61, 27, 28, 160, 0, 9, 42]
abbrev dktX2_changedLine_0 : List UInt8 := dkwX2_changedLine_0 ++ dktX2_changedLine_1
theorem dksX2_changedLine_0 : cX2_changedLine.data.toList.drop 0 = dktX2_changedLine_0 := by decide +kernel
theorem dksX2_changedLine_1 : cX2_changedLine.data.toList.drop 24 = dktX2_changedLine_1 := dk_seg dksX2_changedLine_0 24 rfl rfl
theorem dX2_changedLine_0 : decode cX2_changedLine 0 = .ok (.aload_n 0, 1) := dk_42 (dk_at dksX2_changedLine_0 0 rfl rfl)
theorem dX2_changedLine_1 : decode cX2_changedLine 1 = .ok (.aload_n 0, 1) := dk_42 (dk_at dksX2_changedLine_0 1 rfl rfl)
theorem dX2_changedLine_2 : decode cX2_changedLine 2 = .ok (.invokevirtual 276, 3) := dk_182 1 20 (dk_at dksX2_changedLine_0 2 rfl rfl)
theorem dX2_changedLine_5 : decode cX2_changedLine 5 = .ok (.invokevirtual 204, 3) := dk_182 0 204 (dk_at dksX2_changedLine_0 5 rfl rfl)
theorem dX2_changedLine_8 : decode cX2_changedLine 8 = .ok (.aload_n 0, 1) := dk_42 (dk_at dksX2_changedLine_0 8 rfl rfl)
theorem dX2_changedLine_9 : decode cX2_changedLine 9 = .ok (.invokevirtual 280, 3) := dk_182 1 24 (dk_at dksX2_changedLine_0 9 rfl rfl)
theorem dX2_changedLine_12 : decode cX2_changedLine 12 = .ok (.istore_n 1, 1) := dk_60 (dk_at dksX2_changedLine_0 12 rfl rfl)
theorem dX2_changedLine_13 : decode cX2_changedLine 13 = .ok (.aload_n 0, 1) := dk_42 (dk_at dksX2_changedLine_0 13 rfl rfl)
theorem dX2_changedLine_14 : decode cX2_changedLine 14 = .ok (.invokevirtual 127, 3) := dk_182 0 127 (dk_at dksX2_changedLine_0 14 rfl rfl)
theorem dX2_changedLine_17 : decode cX2_changedLine 17 = .ok (.istore_n 2, 1) := dk_61 (dk_at dksX2_changedLine_0 17 rfl rfl)
theorem dX2_changedLine_18 : decode cX2_changedLine 18 = .ok (.iload_n 1, 1) := dk_27 (dk_at dksX2_changedLine_0 18 rfl rfl)
theorem dX2_changedLine_19 : decode cX2_changedLine 19 = .ok (.iload_n 2, 1) := dk_28 (dk_at dksX2_changedLine_0 19 rfl rfl)
theorem dX2_changedLine_20 : decode cX2_changedLine 20 = .ok (.if_icmp .ne 9, 3) := dk_160 0 9 (dk_at dksX2_changedLine_0 20 rfl rfl)
theorem dX2_changedLine_23 : decode cX2_changedLine 23 = .ok (.aload_n 0, 1) := dk_42 (dk_at dksX2_changedLine_0 23 rfl rfl)
theorem dX2_changedLine_24 : decode cX2_changedLine 24 = .ok (.iconst 3, 1) := dk_6 (dk_at dksX2_changedLine_1 0 rfl rfl)
theorem dX2_changedLine_25 : decode cX2_changedLine 25 = .ok (.invokevirtual 82, 3) := dk_182 0 82 (dk_at dksX2_changedLine_1 1 rfl rfl)
theorem dX2_changedLine_28 : decode cX2_changedLine 28 = .ok (.athrow, 1) := dk_191 (dk_at dksX2_changedLine_1 4 rfl rfl)
theorem dX2_changedLine_29 : decode cX2_changedLine 29 = .ok (.aload_n 0, 1) := dk_42 (dk_at dksX2_changedLine_1 5 rfl rfl)
theorem dX2_changedLine_30 : decode cX2_changedLine 30 = .ok (.invokevirtual 75, 3) := dk_182 0 75 (dk_at dksX2_changedLine_1 6 rfl rfl)
theorem dX2_changedLine_33 : decode cX2_changedLine 33 = .ok (.aload_n 0, 1) := dk_42 (dk_at dksX2_changedLine_1 9 rfl rfl)
theorem dX2_changedLine_34 : decode cX2_changedLine 34 = .ok (.new 296, 3) := dk_187 1 40 (dk_at dksX2_changedLine_1 10 rfl rfl)
theorem dX2_changedLine_37 : decode cX2_changedLine 37 = .ok (.dup, 1) := dk_89 (dk_at dksX2_changedLine_1 13 rfl rfl)
theorem dX2_changedLine_38 : decode cX2_changedLine 38 = .ok (.iload_n 1, 1) := dk_27 (dk_at dksX2_changedLine_1 14 rfl rfl)
theorem dX2_changedLine_39 : decode cX2_changedLine 39 = .ok (.iload_n 2, 1) := dk_28 (dk_at dksX2_changedLine_1 15 rfl rfl)
theorem dX2_changedLine_40 : decode cX2_changedLine 40 = .ok (.invokespecial 298, 3) := dk_183 1 42 (dk_at dksX2_changedLine_1 16 rfl rfl)
theorem dX2_changedLine_43 : decode cX2_changedLine 43 = .ok (.invokevirtual 287, 3) := dk_182 1 31 (dk_at dksX2_changedLine_1 19 rfl rfl)
theorem dX2_changedLine_46 : decode cX2_changedLine 46 = .ok (.return_, 1) := dk_177 (dk_at dksX2_changedLine_1 22 rfl rfl)
abbrev cX2_rainLine : ByteArray := prog_19_method_29_code
def yX2_rainLine : MethodName := ⟨RX2, "rainLine", "()V"⟩
def dkwX2_rainLine_0 : List UInt8 := [42, 42, 182, 1, 20, 182, 0, 204, 42, 187, 1, 43, 89, 183, 1, 45, 182, 1, 31, 177]
abbrev dktX2_rainLine_0 : List UInt8 := dkwX2_rainLine_0 ++ []
theorem dksX2_rainLine_0 : cX2_rainLine.data.toList.drop 0 = dktX2_rainLine_0 := by decide +kernel
theorem dX2_rainLine_0 : decode cX2_rainLine 0 = .ok (.aload_n 0, 1) := dk_42 (dk_at dksX2_rainLine_0 0 rfl rfl)
theorem dX2_rainLine_1 : decode cX2_rainLine 1 = .ok (.aload_n 0, 1) := dk_42 (dk_at dksX2_rainLine_0 1 rfl rfl)
theorem dX2_rainLine_2 : decode cX2_rainLine 2 = .ok (.invokevirtual 276, 3) := dk_182 1 20 (dk_at dksX2_rainLine_0 2 rfl rfl)
theorem dX2_rainLine_5 : decode cX2_rainLine 5 = .ok (.invokevirtual 204, 3) := dk_182 0 204 (dk_at dksX2_rainLine_0 5 rfl rfl)
theorem dX2_rainLine_8 : decode cX2_rainLine 8 = .ok (.aload_n 0, 1) := dk_42 (dk_at dksX2_rainLine_0 8 rfl rfl)
theorem dX2_rainLine_9 : decode cX2_rainLine 9 = .ok (.new 299, 3) := dk_187 1 43 (dk_at dksX2_rainLine_0 9 rfl rfl)
theorem dX2_rainLine_12 : decode cX2_rainLine 12 = .ok (.dup, 1) := dk_89 (dk_at dksX2_rainLine_0 12 rfl rfl)
theorem dX2_rainLine_13 : decode cX2_rainLine 13 = .ok (.invokespecial 301, 3) := dk_183 1 45 (dk_at dksX2_rainLine_0 13 rfl rfl)
theorem dX2_rainLine_16 : decode cX2_rainLine 16 = .ok (.invokevirtual 287, 3) := dk_182 1 31 (dk_at dksX2_rainLine_0 16 rfl rfl)
theorem dX2_rainLine_19 : decode cX2_rainLine 19 = .ok (.return_, 1) := dk_177 (dk_at dksX2_rainLine_0 19 rfl rfl)
abbrev cX2_claimsLine : ByteArray := prog_19_method_30_code
def yX2_claimsLine : MethodName := ⟨RX2, "claimsLine", "()V"⟩
def dkwX2_claimsLine_3 : List UInt8 := [180, 1, 46, 43, 83, 42, 180, 0, 109, 89, 180, 1, 46, 4, 96, 181, 1, 46, 177]
abbrev dktX2_claimsLine_3 : List UInt8 := dkwX2_claimsLine_3 ++ []
def dkwX2_claimsLine_2 : List UInt8 := [19, 1, 7, 3, 16, 40, 182, 0, 175, 181, 1, 56, 42, 180, 0, 109, 180, 1, 57, 42, 180, 0, 109]
abbrev dktX2_claimsLine_2 : List UInt8 := dkwX2_claimsLine_2 ++ dktX2_claimsLine_3
def dkwX2_claimsLine_1 : List UInt8 := [89, 183, 1, 51, 76, 43, 42, 182, 0, 254, 181, 1, 52, 43, 42, 182, 1, 24, 181, 1, 54, 43, 42]
abbrev dktX2_claimsLine_1 : List UInt8 := dkwX2_claimsLine_1 ++ dktX2_claimsLine_2
def dkwX2_claimsLine_0 : List UInt8 := [42, 42, 180, 0, 109, 180, 1, 46, 16, 6, 162, 0, 7, 4, 167, 0, 4, 3, 182, 0, 204, 187, 1, 49]
abbrev dktX2_claimsLine_0 : List UInt8 := dkwX2_claimsLine_0 ++ dktX2_claimsLine_1
theorem dksX2_claimsLine_0 : cX2_claimsLine.data.toList.drop 0 = dktX2_claimsLine_0 := by decide +kernel
theorem dksX2_claimsLine_1 : cX2_claimsLine.data.toList.drop 24 = dktX2_claimsLine_1 := dk_seg dksX2_claimsLine_0 24 rfl rfl
theorem dksX2_claimsLine_2 : cX2_claimsLine.data.toList.drop 47 = dktX2_claimsLine_2 := dk_seg dksX2_claimsLine_1 23 rfl rfl
theorem dksX2_claimsLine_3 : cX2_claimsLine.data.toList.drop 70 = dktX2_claimsLine_3 := dk_seg dksX2_claimsLine_2 23 rfl rfl
theorem dX2_claimsLine_0 : decode cX2_claimsLine 0 = .ok (.aload_n 0, 1) := dk_42 (dk_at dksX2_claimsLine_0 0 rfl rfl)
theorem dX2_claimsLine_1 : decode cX2_claimsLine 1 = .ok (.aload_n 0, 1) := dk_42 (dk_at dksX2_claimsLine_0 1 rfl rfl)
theorem dX2_claimsLine_2 : decode cX2_claimsLine 2 = .ok (.getfield 109, 3) := dk_180 0 109 (dk_at dksX2_claimsLine_0 2 rfl rfl)
theorem dX2_claimsLine_5 : decode cX2_claimsLine 5 = .ok (.getfield 302, 3) := dk_180 1 46 (dk_at dksX2_claimsLine_0 5 rfl rfl)
theorem dX2_claimsLine_8 : decode cX2_claimsLine 8 = .ok (.bipush 6, 2) := dk_16 6 (dk_at dksX2_claimsLine_0 8 rfl rfl)
theorem dX2_claimsLine_10 : decode cX2_claimsLine 10 = .ok (.if_icmp .ge 7, 3) := dk_162 0 7 (dk_at dksX2_claimsLine_0 10 rfl rfl)
theorem dX2_claimsLine_13 : decode cX2_claimsLine 13 = .ok (.iconst 1, 1) := dk_4 (dk_at dksX2_claimsLine_0 13 rfl rfl)
theorem dX2_claimsLine_14 : decode cX2_claimsLine 14 = .ok (.goto 4, 3) := dk_167 0 4 (dk_at dksX2_claimsLine_0 14 rfl rfl)
theorem dX2_claimsLine_17 : decode cX2_claimsLine 17 = .ok (.iconst 0, 1) := dk_3 (dk_at dksX2_claimsLine_0 17 rfl rfl)
theorem dX2_claimsLine_18 : decode cX2_claimsLine 18 = .ok (.invokevirtual 204, 3) := dk_182 0 204 (dk_at dksX2_claimsLine_0 18 rfl rfl)
theorem dX2_claimsLine_21 : decode cX2_claimsLine 21 = .ok (.new 305, 3) := dk_187 1 49 (dk_at dksX2_claimsLine_0 21 rfl rfl)
theorem dX2_claimsLine_24 : decode cX2_claimsLine 24 = .ok (.dup, 1) := dk_89 (dk_at dksX2_claimsLine_1 0 rfl rfl)
theorem dX2_claimsLine_25 : decode cX2_claimsLine 25 = .ok (.invokespecial 307, 3) := dk_183 1 51 (dk_at dksX2_claimsLine_1 1 rfl rfl)
theorem dX2_claimsLine_28 : decode cX2_claimsLine 28 = .ok (.astore_n 1, 1) := dk_76 (dk_at dksX2_claimsLine_1 4 rfl rfl)
theorem dX2_claimsLine_29 : decode cX2_claimsLine 29 = .ok (.aload_n 1, 1) := dk_43 (dk_at dksX2_claimsLine_1 5 rfl rfl)
theorem dX2_claimsLine_30 : decode cX2_claimsLine 30 = .ok (.aload_n 0, 1) := dk_42 (dk_at dksX2_claimsLine_1 6 rfl rfl)
theorem dX2_claimsLine_31 : decode cX2_claimsLine 31 = .ok (.invokevirtual 254, 3) := dk_182 0 254 (dk_at dksX2_claimsLine_1 7 rfl rfl)
theorem dX2_claimsLine_34 : decode cX2_claimsLine 34 = .ok (.putfield 308, 3) := dk_181 1 52 (dk_at dksX2_claimsLine_1 10 rfl rfl)
theorem dX2_claimsLine_37 : decode cX2_claimsLine 37 = .ok (.aload_n 1, 1) := dk_43 (dk_at dksX2_claimsLine_1 13 rfl rfl)
theorem dX2_claimsLine_38 : decode cX2_claimsLine 38 = .ok (.aload_n 0, 1) := dk_42 (dk_at dksX2_claimsLine_1 14 rfl rfl)
theorem dX2_claimsLine_39 : decode cX2_claimsLine 39 = .ok (.invokevirtual 280, 3) := dk_182 1 24 (dk_at dksX2_claimsLine_1 15 rfl rfl)
theorem dX2_claimsLine_42 : decode cX2_claimsLine 42 = .ok (.putfield 310, 3) := dk_181 1 54 (dk_at dksX2_claimsLine_1 18 rfl rfl)
theorem dX2_claimsLine_45 : decode cX2_claimsLine 45 = .ok (.aload_n 1, 1) := dk_43 (dk_at dksX2_claimsLine_1 21 rfl rfl)
theorem dX2_claimsLine_46 : decode cX2_claimsLine 46 = .ok (.aload_n 0, 1) := dk_42 (dk_at dksX2_claimsLine_1 22 rfl rfl)
theorem dX2_claimsLine_47 : decode cX2_claimsLine 47 = .ok (.ldc_w 263, 3) := dk_19 1 7 (dk_at dksX2_claimsLine_2 0 rfl rfl)
theorem dX2_claimsLine_50 : decode cX2_claimsLine 50 = .ok (.iconst 0, 1) := dk_3 (dk_at dksX2_claimsLine_2 3 rfl rfl)
theorem dX2_claimsLine_51 : decode cX2_claimsLine 51 = .ok (.bipush 40, 2) := dk_16 40 (dk_at dksX2_claimsLine_2 4 rfl rfl)
theorem dX2_claimsLine_53 : decode cX2_claimsLine 53 = .ok (.invokevirtual 175, 3) := dk_182 0 175 (dk_at dksX2_claimsLine_2 6 rfl rfl)
theorem dX2_claimsLine_56 : decode cX2_claimsLine 56 = .ok (.putfield 312, 3) := dk_181 1 56 (dk_at dksX2_claimsLine_2 9 rfl rfl)
theorem dX2_claimsLine_59 : decode cX2_claimsLine 59 = .ok (.aload_n 0, 1) := dk_42 (dk_at dksX2_claimsLine_2 12 rfl rfl)
theorem dX2_claimsLine_60 : decode cX2_claimsLine 60 = .ok (.getfield 109, 3) := dk_180 0 109 (dk_at dksX2_claimsLine_2 13 rfl rfl)
theorem dX2_claimsLine_63 : decode cX2_claimsLine 63 = .ok (.getfield 313, 3) := dk_180 1 57 (dk_at dksX2_claimsLine_2 16 rfl rfl)
theorem dX2_claimsLine_66 : decode cX2_claimsLine 66 = .ok (.aload_n 0, 1) := dk_42 (dk_at dksX2_claimsLine_2 19 rfl rfl)
theorem dX2_claimsLine_67 : decode cX2_claimsLine 67 = .ok (.getfield 109, 3) := dk_180 0 109 (dk_at dksX2_claimsLine_2 20 rfl rfl)
theorem dX2_claimsLine_70 : decode cX2_claimsLine 70 = .ok (.getfield 302, 3) := dk_180 1 46 (dk_at dksX2_claimsLine_3 0 rfl rfl)
theorem dX2_claimsLine_73 : decode cX2_claimsLine 73 = .ok (.aload_n 1, 1) := dk_43 (dk_at dksX2_claimsLine_3 3 rfl rfl)
theorem dX2_claimsLine_74 : decode cX2_claimsLine 74 = .ok (.aastore, 1) := dk_83 (dk_at dksX2_claimsLine_3 4 rfl rfl)
theorem dX2_claimsLine_75 : decode cX2_claimsLine 75 = .ok (.aload_n 0, 1) := dk_42 (dk_at dksX2_claimsLine_3 5 rfl rfl)
theorem dX2_claimsLine_76 : decode cX2_claimsLine 76 = .ok (.getfield 109, 3) := dk_180 0 109 (dk_at dksX2_claimsLine_3 6 rfl rfl)
theorem dX2_claimsLine_79 : decode cX2_claimsLine 79 = .ok (.dup, 1) := dk_89 (dk_at dksX2_claimsLine_3 9 rfl rfl)
theorem dX2_claimsLine_80 : decode cX2_claimsLine 80 = .ok (.getfield 302, 3) := dk_180 1 46 (dk_at dksX2_claimsLine_3 10 rfl rfl)
theorem dX2_claimsLine_83 : decode cX2_claimsLine 83 = .ok (.iconst 1, 1) := dk_4 (dk_at dksX2_claimsLine_3 13 rfl rfl)
theorem dX2_claimsLine_84 : decode cX2_claimsLine 84 = .ok (.iadd, 1) := dk_96 (dk_at dksX2_claimsLine_3 14 rfl rfl)
theorem dX2_claimsLine_85 : decode cX2_claimsLine 85 = .ok (.putfield 302, 3) := dk_181 1 46 (dk_at dksX2_claimsLine_3 15 rfl rfl)
theorem dX2_claimsLine_88 : decode cX2_claimsLine 88 = .ok (.return_, 1) := dk_177 (dk_at dksX2_claimsLine_3 18 rfl rfl)
theorem q116 : (Jvm.Cond.initialized "UmbrellaHeir$Reader") ∈ lw_all := lw_g (lw_at lw_m1 2 rfl) rfl
theorem q161 : (Jvm.Cond.instantiable "UmbrellaHeir$Reader" (10 : Nat)) ∈ lw_all := lw_g (lw_at lw_m1 47 rfl) rfl
theorem q163 : (Jvm.Cond.instanceMethod ({ cls := "UmbrellaHeir$Reader", name := "<init>", desc := "([B)V" } : Jvm.MethodName)) ∈ lw_all := lw_g (lw_at lw_m1 49 rfl) rfl
theorem q164 : (Jvm.Cond.code ({ cls := "UmbrellaHeir$Reader", name := "<init>", desc := "([B)V" } : Jvm.MethodName) prog_19_method_1_code (2 : Nat) (Option.none : Option Jvm.ClassFile.FieldType)) ∈ lw_all := lw_g (lw_at lw_m1 50 rfl) rfl
theorem q165 : (Jvm.Cond.methodLink "UmbrellaHeir$Reader" (3 : Nat) ({ cls := "java/lang/Object", name := "<init>", desc := "()V" } : Jvm.MethodName)) ∈ lw_all := lw_g (lw_at lw_m1 51 rfl) rfl
theorem q166 : (Jvm.Cond.classLink "UmbrellaHeir$Reader" (9 : Nat) "UmbrellaHeir$Refused") ∈ lw_all := lw_g (lw_at lw_m1 52 rfl) rfl
theorem q206 : (Jvm.Cond.methodLink "UmbrellaHeir$Reader" (11 : Nat) ({ cls := "UmbrellaHeir$Refused", name := "<init>", desc := "()V" } : Jvm.MethodName)) ∈ lw_all := lw_g (lw_at lw_m1 92 rfl) rfl
theorem q240 : (Jvm.Cond.fieldLink "UmbrellaHeir$Reader" (12 : Nat) "UmbrellaHeir$Reader" "wrong" "LUmbrellaHeir$Refused;") ∈ lw_all := lw_g (lw_at lw_m1 126 rfl) rfl
theorem q241 : (Jvm.Cond.fieldLink "UmbrellaHeir$Reader" (22 : Nat) "UmbrellaHeir$Reader" "text" "[B") ∈ lw_all := lw_g (lw_at lw_m1 127 rfl) rfl
theorem q242 : (Jvm.Cond.fieldLink "UmbrellaHeir$Reader" (18 : Nat) "UmbrellaHeir$Reader" "letters" "[C") ∈ lw_all := lw_g (lw_at lw_m1 128 rfl) rfl
theorem q243 : (Jvm.Cond.fieldLink "UmbrellaHeir$Reader" (33 : Nat) "UmbrellaHeir$Reader" "size" "I") ∈ lw_all := lw_g (lw_at lw_m1 129 rfl) rfl
theorem q244 : (Jvm.Cond.fieldLink "UmbrellaHeir$Reader" (40 : Nat) "UmbrellaHeir$Reader" "end" "I") ∈ lw_all := lw_g (lw_at lw_m1 130 rfl) rfl
theorem q245 : (Jvm.Cond.fieldLink "UmbrellaHeir$Reader" (47 : Nat) "UmbrellaHeir$Reader" "token" "I") ∈ lw_all := lw_g (lw_at lw_m1 131 rfl) rfl
theorem q246 : (Jvm.Cond.fieldLink "UmbrellaHeir$Reader" (26 : Nat) "UmbrellaHeir$Reader" "at" "I") ∈ lw_all := lw_g (lw_at lw_m1 132 rfl) rfl
theorem q247 : (Jvm.Cond.fieldLink "UmbrellaHeir$Reader" (68 : Nat) "UmbrellaHeir$Reader" "whole" "I") ∈ lw_all := lw_g (lw_at lw_m1 133 rfl) rfl
theorem q248 : (Jvm.Cond.fieldLink "UmbrellaHeir$Reader" (61 : Nat) "UmbrellaHeir$Reader" "word" "Ljava/lang/String;") ∈ lw_all := lw_g (lw_at lw_m1 134 rfl) rfl
theorem q249 : (Jvm.Cond.fieldLink "UmbrellaHeir$Reader" (109 : Nat) "UmbrellaHeir$Reader" "county" "LUmbrellaHeir$County;") ∈ lw_all := lw_g (lw_at lw_m1 135 rfl) rfl
theorem q250 : (Jvm.Cond.laysFinal "UmbrellaHeir$Reader" "UmbrellaHeir$Reader" "wrong" "LUmbrellaHeir$Refused;") ∈ lw_all := lw_g (lw_at lw_m1 136 rfl) rfl
theorem q251 : (Jvm.Cond.soleField "UmbrellaHeir$Reader" "wrong") ∈ lw_all := lw_g (lw_at lw_m1 137 rfl) rfl
theorem q252 : (Jvm.Cond.laysFinal "UmbrellaHeir$Reader" "UmbrellaHeir$Reader" "text" "[B") ∈ lw_all := lw_g (lw_at lw_m1 138 rfl) rfl
theorem q253 : (Jvm.Cond.soleField "UmbrellaHeir$Reader" "text") ∈ lw_all := lw_g (lw_at lw_m1 139 rfl) rfl
theorem q254 : (Jvm.Cond.laysFinal "UmbrellaHeir$Reader" "UmbrellaHeir$Reader" "letters" "[C") ∈ lw_all := lw_g (lw_at lw_m1 140 rfl) rfl
theorem q255 : (Jvm.Cond.soleField "UmbrellaHeir$Reader" "letters") ∈ lw_all := lw_g (lw_at lw_m1 141 rfl) rfl
theorem q256 : (Jvm.Cond.lays "UmbrellaHeir$Reader" "UmbrellaHeir$Reader" "size" "I") ∈ lw_all := lw_g (lw_at lw_m1 142 rfl) rfl
theorem q257 : (Jvm.Cond.soleField "UmbrellaHeir$Reader" "size") ∈ lw_all := lw_g (lw_at lw_m1 143 rfl) rfl
theorem q258 : (Jvm.Cond.lays "UmbrellaHeir$Reader" "UmbrellaHeir$Reader" "end" "I") ∈ lw_all := lw_g (lw_at lw_m1 144 rfl) rfl
theorem q259 : (Jvm.Cond.soleField "UmbrellaHeir$Reader" "end") ∈ lw_all := lw_g (lw_at lw_m1 145 rfl) rfl
theorem q260 : (Jvm.Cond.lays "UmbrellaHeir$Reader" "UmbrellaHeir$Reader" "token" "I") ∈ lw_all := lw_g (lw_at lw_m1 146 rfl) rfl
theorem q261 : (Jvm.Cond.soleField "UmbrellaHeir$Reader" "token") ∈ lw_all := lw_g (lw_at lw_m1 147 rfl) rfl
theorem q262 : (Jvm.Cond.lays "UmbrellaHeir$Reader" "UmbrellaHeir$Reader" "at" "I") ∈ lw_all := lw_g (lw_at lw_m1 148 rfl) rfl
theorem q263 : (Jvm.Cond.soleField "UmbrellaHeir$Reader" "at") ∈ lw_all := lw_g (lw_at lw_m1 149 rfl) rfl
theorem q264 : (Jvm.Cond.lays "UmbrellaHeir$Reader" "UmbrellaHeir$Reader" "whole" "I") ∈ lw_all := lw_g (lw_at lw_m1 150 rfl) rfl
theorem q265 : (Jvm.Cond.soleField "UmbrellaHeir$Reader" "whole") ∈ lw_all := lw_g (lw_at lw_m1 151 rfl) rfl
theorem q266 : (Jvm.Cond.lays "UmbrellaHeir$Reader" "UmbrellaHeir$Reader" "word" "Ljava/lang/String;") ∈ lw_all := lw_g (lw_at lw_m1 152 rfl) rfl
theorem q267 : (Jvm.Cond.soleField "UmbrellaHeir$Reader" "word") ∈ lw_all := lw_g (lw_at lw_m1 153 rfl) rfl
theorem q268 : (Jvm.Cond.lays "UmbrellaHeir$Reader" "UmbrellaHeir$Reader" "county" "LUmbrellaHeir$County;") ∈ lw_all := lw_g (lw_at lw_m1 154 rfl) rfl
theorem q269 : (Jvm.Cond.soleField "UmbrellaHeir$Reader" "county") ∈ lw_all := lw_g (lw_at lw_m1 155 rfl) rfl
theorem q270 : (Jvm.Cond.superclass "UmbrellaHeir$Reader" "java/lang/Object") ∈ lw_all := lw_g (lw_at lw_m1 156 rfl) rfl
theorem q467 : (Jvm.Cond.instanceMethod ({ cls := "UmbrellaHeir$Reader", name := "read", desc := "(I)LUmbrellaHeir$County;" } : Jvm.MethodName)) ∈ lw_all := lw_g (lw_at lw_m2 113 rfl) rfl
theorem q468 : (Jvm.Cond.selects "UmbrellaHeir$Reader" ({ cls := "UmbrellaHeir$Reader", name := "read", desc := "(I)LUmbrellaHeir$County;" } : Jvm.MethodName) ({ cls := "UmbrellaHeir$Reader", name := "read", desc := "(I)LUmbrellaHeir$County;" } : Jvm.MethodName)) ∈ lw_all := lw_g (lw_at lw_m2 114 rfl) rfl
theorem q469 : (Jvm.Cond.code ({ cls := "UmbrellaHeir$Reader", name := "read", desc := "(I)LUmbrellaHeir$County;" } : Jvm.MethodName) prog_19_method_17_code (2 : Nat) (Option.some (Jvm.ClassFile.FieldType.object "UmbrellaHeir$County"))) ∈ lw_all := lw_g (lw_at lw_m2 115 rfl) rfl
theorem q470 : (Jvm.Cond.classLink "UmbrellaHeir$Reader" (113 : Nat) "UmbrellaHeir$County") ∈ lw_all := lw_g (lw_at lw_m2 116 rfl) rfl
theorem q472 : (Jvm.Cond.methodLinkNest "UmbrellaHeir$Reader" (140 : Nat) ({ cls := "UmbrellaHeir$County", name := "<init>", desc := "()V" } : Jvm.MethodName) "UmbrellaHeir") ∈ lw_tbl := lw_at lw_m2 118 rfl
theorem q487 : (Jvm.Cond.fieldLink "UmbrellaHeir$Reader" (208 : Nat) "UmbrellaHeir$County" "people" "[LUmbrellaHeir$Person;") ∈ lw_all := lw_g (lw_at lw_m2 133 rfl) rfl
theorem q492 : (Jvm.Cond.fieldLink "UmbrellaHeir$Reader" (259 : Nat) "UmbrellaHeir$County" "umbrellas" "[LUmbrellaHeir$Umbrella;") ∈ lw_all := lw_g (lw_at lw_m2 138 rfl) rfl
theorem q495 : (Jvm.Cond.fieldLink "UmbrellaHeir$Reader" (268 : Nat) "UmbrellaHeir$County" "log" "[LUmbrellaHeir$Event;") ∈ lw_all := lw_g (lw_at lw_m2 141 rfl) rfl
theorem q498 : (Jvm.Cond.fieldLink "UmbrellaHeir$Reader" (313 : Nat) "UmbrellaHeir$County" "claims" "[LUmbrellaHeir$Claim;") ∈ lw_all := lw_g (lw_at lw_m2 144 rfl) rfl
theorem q500 : (Jvm.Cond.fieldLink "UmbrellaHeir$Reader" (137 : Nat) "UmbrellaHeir$County" "lapse" "I") ∈ lw_all := lw_g (lw_at lw_m2 146 rfl) rfl
theorem q502 : (Jvm.Cond.fieldLink "UmbrellaHeir$Reader" (181 : Nat) "UmbrellaHeir$County" "gust" "I") ∈ lw_all := lw_g (lw_at lw_m2 148 rfl) rfl
theorem q504 : (Jvm.Cond.fieldLink "UmbrellaHeir$Reader" (185 : Nat) "UmbrellaHeir$County" "rains" "I") ∈ lw_all := lw_g (lw_at lw_m2 150 rfl) rfl
theorem q510 : (Jvm.Cond.fieldLink "UmbrellaHeir$Reader" (144 : Nat) "UmbrellaHeir$County" "personMany" "I") ∈ lw_all := lw_g (lw_at lw_m2 156 rfl) rfl
theorem q516 : (Jvm.Cond.fieldLink "UmbrellaHeir$Reader" (147 : Nat) "UmbrellaHeir$County" "umbrellaMany" "I") ∈ lw_all := lw_g (lw_at lw_m2 162 rfl) rfl
theorem q518 : (Jvm.Cond.fieldLink "UmbrellaHeir$Reader" (265 : Nat) "UmbrellaHeir$County" "logMany" "I") ∈ lw_all := lw_g (lw_at lw_m2 164 rfl) rfl
theorem q521 : (Jvm.Cond.fieldLink "UmbrellaHeir$Reader" (302 : Nat) "UmbrellaHeir$County" "claimMany" "I") ∈ lw_all := lw_g (lw_at lw_m2 167 rfl) rfl
theorem q546 : (Jvm.Cond.methodLink "UmbrellaHeir$Reader" (75 : Nat) ({ cls := "UmbrellaHeir$Reader", name := "next", desc := "()V" } : Jvm.MethodName)) ∈ lw_all := lw_g (lw_at lw_m2 192 rfl) rfl
theorem q547 : (Jvm.Cond.privateMethod ({ cls := "UmbrellaHeir$Reader", name := "next", desc := "()V" } : Jvm.MethodName)) ∈ lw_tbl := lw_at lw_m2 193 rfl
theorem q548 : (Jvm.Cond.instanceMethod ({ cls := "UmbrellaHeir$Reader", name := "next", desc := "()V" } : Jvm.MethodName)) ∈ lw_all := lw_g (lw_at lw_m2 194 rfl) rfl
theorem q549 : (Jvm.Cond.code ({ cls := "UmbrellaHeir$Reader", name := "next", desc := "()V" } : Jvm.MethodName) prog_19_method_6_code (3 : Nat) (Option.none : Option Jvm.ClassFile.FieldType)) ∈ lw_all := lw_g (lw_at lw_m2 195 rfl) rfl
theorem q550 : (Jvm.Cond.methodLink "UmbrellaHeir$Reader" (43 : Nat) ({ cls := "UmbrellaHeir$Reader", name := "see", desc := "(I)I" } : Jvm.MethodName)) ∈ lw_all := lw_g (lw_at lw_m2 196 rfl) rfl
theorem q551 : (Jvm.Cond.privateMethod ({ cls := "UmbrellaHeir$Reader", name := "see", desc := "(I)I" } : Jvm.MethodName)) ∈ lw_tbl := lw_at lw_m2 197 rfl
theorem q552 : (Jvm.Cond.instanceMethod ({ cls := "UmbrellaHeir$Reader", name := "see", desc := "(I)I" } : Jvm.MethodName)) ∈ lw_all := lw_g (lw_at lw_m2 198 rfl) rfl
theorem q553 : (Jvm.Cond.code ({ cls := "UmbrellaHeir$Reader", name := "see", desc := "(I)I" } : Jvm.MethodName) prog_19_method_3_code (2 : Nat) (Option.some Jvm.ClassFile.FieldType.int)) ∈ lw_all := lw_g (lw_at lw_m2 199 rfl) rfl
theorem q554 : (Jvm.Cond.methodLink "UmbrellaHeir$Reader" (50 : Nat) ({ cls := "UmbrellaHeir$Reader", name := "isSmall", desc := "(I)Z" } : Jvm.MethodName)) ∈ lw_all := lw_g (lw_at lw_m2 200 rfl) rfl
theorem q555 : (Jvm.Cond.static ({ cls := "UmbrellaHeir$Reader", name := "isSmall", desc := "(I)Z" } : Jvm.MethodName)) ∈ lw_all := lw_g (lw_at lw_m2 201 rfl) rfl
theorem q556 : (Jvm.Cond.code ({ cls := "UmbrellaHeir$Reader", name := "isSmall", desc := "(I)Z" } : Jvm.MethodName) prog_19_method_4_code (1 : Nat) (Option.some Jvm.ClassFile.FieldType.boolean)) ∈ lw_all := lw_g (lw_at lw_m2 202 rfl) rfl
theorem q557 : (Jvm.Cond.methodLinkNest "UmbrellaHeir$Reader" (36 : Nat) ({ cls := "UmbrellaHeir", name := "in", desc := "(III)Z" } : Jvm.MethodName) "UmbrellaHeir") ∈ lw_tbl := lw_at lw_m2 203 rfl
theorem q558 : (Jvm.Cond.classLink "UmbrellaHeir$Reader" (54 : Nat) "java/lang/String") ∈ lw_all := lw_g (lw_at lw_m2 204 rfl) rfl
theorem q560 : (Jvm.Cond.methodLink "UmbrellaHeir$Reader" (56 : Nat) ({ cls := "java/lang/String", name := "<init>", desc := "([CII)V" } : Jvm.MethodName)) ∈ lw_all := lw_g (lw_at lw_m2 206 rfl) rfl
theorem q636 : (Jvm.Cond.stringRef "UmbrellaHeir$Reader" (59 : Nat) "") ∈ lw_tbl := lw_at lw_m3 42 rfl
theorem q637 : (Jvm.Cond.methodLink "UmbrellaHeir$Reader" (65 : Nat) ({ cls := "UmbrellaHeir$Reader", name := "isDigit", desc := "(I)Z" } : Jvm.MethodName)) ∈ lw_all := lw_g (lw_at lw_m3 43 rfl) rfl
theorem q638 : (Jvm.Cond.static ({ cls := "UmbrellaHeir$Reader", name := "isDigit", desc := "(I)Z" } : Jvm.MethodName)) ∈ lw_all := lw_g (lw_at lw_m3 44 rfl) rfl
theorem q639 : (Jvm.Cond.code ({ cls := "UmbrellaHeir$Reader", name := "isDigit", desc := "(I)Z" } : Jvm.MethodName) prog_19_method_5_code (1 : Nat) (Option.some Jvm.ClassFile.FieldType.boolean)) ∈ lw_all := lw_g (lw_at lw_m3 45 rfl) rfl
theorem q640 : (Jvm.Cond.methodLink "UmbrellaHeir$Reader" (141 : Nat) ({ cls := "UmbrellaHeir$Reader", name := "line", desc := "()V" } : Jvm.MethodName)) ∈ lw_all := lw_g (lw_at lw_m3 46 rfl) rfl
theorem q641 : (Jvm.Cond.privateMethod ({ cls := "UmbrellaHeir$Reader", name := "line", desc := "()V" } : Jvm.MethodName)) ∈ lw_tbl := lw_at lw_m3 47 rfl
theorem q642 : (Jvm.Cond.instanceMethod ({ cls := "UmbrellaHeir$Reader", name := "line", desc := "()V" } : Jvm.MethodName)) ∈ lw_all := lw_g (lw_at lw_m3 48 rfl) rfl
theorem q643 : (Jvm.Cond.code ({ cls := "UmbrellaHeir$Reader", name := "line", desc := "()V" } : Jvm.MethodName) prog_19_method_18_code (3 : Nat) (Option.none : Option Jvm.ClassFile.FieldType)) ∈ lw_all := lw_g (lw_at lw_m3 49 rfl) rfl
theorem q644 : (Jvm.Cond.methodLink "UmbrellaHeir$Reader" (82 : Nat) ({ cls := "UmbrellaHeir$Reader", name := "fail", desc := "(I)LUmbrellaHeir$Refused;" } : Jvm.MethodName)) ∈ lw_all := lw_g (lw_at lw_m3 50 rfl) rfl
theorem q645 : (Jvm.Cond.privateMethod ({ cls := "UmbrellaHeir$Reader", name := "fail", desc := "(I)LUmbrellaHeir$Refused;" } : Jvm.MethodName)) ∈ lw_tbl := lw_at lw_m3 51 rfl
theorem q646 : (Jvm.Cond.instanceMethod ({ cls := "UmbrellaHeir$Reader", name := "fail", desc := "(I)LUmbrellaHeir$Refused;" } : Jvm.MethodName)) ∈ lw_all := lw_g (lw_at lw_m3 52 rfl) rfl
theorem q647 : (Jvm.Cond.code ({ cls := "UmbrellaHeir$Reader", name := "fail", desc := "(I)LUmbrellaHeir$Refused;" } : Jvm.MethodName) prog_19_method_2_code (2 : Nat) (Option.some (Jvm.ClassFile.FieldType.object "UmbrellaHeir$Refused"))) ∈ lw_all := lw_g (lw_at lw_m3 53 rfl) rfl
theorem q648 : (Jvm.Cond.methodLink "UmbrellaHeir$Reader" (30 : Nat) ({ cls := "UmbrellaHeir$Refused", name := "at", desc := "(II)LUmbrellaHeir$Refused;" } : Jvm.MethodName)) ∈ lw_all := lw_g (lw_at lw_m3 54 rfl) rfl
theorem q652 : (Jvm.Cond.methodLink "UmbrellaHeir$Reader" (86 : Nat) ({ cls := "java/lang/String", name := "hashCode", desc := "()I" } : Jvm.MethodName)) ∈ lw_all := lw_g (lw_at lw_m3 58 rfl) rfl
theorem q705 : (Jvm.Cond.stringRef "UmbrellaHeir$Reader" (90 : Nat) "county") ∈ lw_tbl := lw_at lw_m3 111 rfl
theorem q706 : (Jvm.Cond.methodLink "UmbrellaHeir$Reader" (71 : Nat) ({ cls := "java/lang/String", name := "equals", desc := "(Ljava/lang/Object;)Z" } : Jvm.MethodName)) ∈ lw_all := lw_g (lw_at lw_m3 112 rfl) rfl
theorem q714 : (Jvm.Cond.stringRef "UmbrellaHeir$Reader" (92 : Nat) "person") ∈ lw_tbl := lw_at lw_m3 120 rfl
theorem q715 : (Jvm.Cond.stringRef "UmbrellaHeir$Reader" (94 : Nat) "umbrella") ∈ lw_tbl := lw_at lw_m3 121 rfl
theorem q716 : (Jvm.Cond.stringRef "UmbrellaHeir$Reader" (96 : Nat) "lent") ∈ lw_tbl := lw_at lw_m3 122 rfl
theorem q717 : (Jvm.Cond.stringRef "UmbrellaHeir$Reader" (98 : Nat) "left") ∈ lw_tbl := lw_at lw_m3 123 rfl
theorem q718 : (Jvm.Cond.stringRef "UmbrellaHeir$Reader" (100 : Nat) "changed") ∈ lw_tbl := lw_at lw_m3 124 rfl
theorem q719 : (Jvm.Cond.stringRef "UmbrellaHeir$Reader" (102 : Nat) "rain") ∈ lw_tbl := lw_at lw_m3 125 rfl
theorem q720 : (Jvm.Cond.stringRef "UmbrellaHeir$Reader" (104 : Nat) "claims") ∈ lw_tbl := lw_at lw_m3 126 rfl
theorem q721 : (Jvm.Cond.methodLink "UmbrellaHeir$Reader" (150 : Nat) ({ cls := "UmbrellaHeir$Reader", name := "countyLine", desc := "()V" } : Jvm.MethodName)) ∈ lw_all := lw_g (lw_at lw_m3 127 rfl) rfl
theorem q722 : (Jvm.Cond.privateMethod ({ cls := "UmbrellaHeir$Reader", name := "countyLine", desc := "()V" } : Jvm.MethodName)) ∈ lw_tbl := lw_at lw_m3 128 rfl
theorem q723 : (Jvm.Cond.instanceMethod ({ cls := "UmbrellaHeir$Reader", name := "countyLine", desc := "()V" } : Jvm.MethodName)) ∈ lw_all := lw_g (lw_at lw_m3 129 rfl) rfl
theorem q724 : (Jvm.Cond.code ({ cls := "UmbrellaHeir$Reader", name := "countyLine", desc := "()V" } : Jvm.MethodName) prog_19_method_19_code (2 : Nat) (Option.none : Option Jvm.ClassFile.FieldType)) ∈ lw_all := lw_g (lw_at lw_m3 130 rfl) rfl
theorem q725 : (Jvm.Cond.stringRef "UmbrellaHeir$Reader" (174 : Nat) "lapse") ∈ lw_tbl := lw_at lw_m3 131 rfl
theorem q726 : (Jvm.Cond.methodLink "UmbrellaHeir$Reader" (175 : Nat) ({ cls := "UmbrellaHeir$Reader", name := "after", desc := "(Ljava/lang/String;II)I" } : Jvm.MethodName)) ∈ lw_all := lw_g (lw_at lw_m3 132 rfl) rfl
theorem q727 : (Jvm.Cond.privateMethod ({ cls := "UmbrellaHeir$Reader", name := "after", desc := "(Ljava/lang/String;II)I" } : Jvm.MethodName)) ∈ lw_tbl := lw_at lw_m3 133 rfl
theorem q728 : (Jvm.Cond.instanceMethod ({ cls := "UmbrellaHeir$Reader", name := "after", desc := "(Ljava/lang/String;II)I" } : Jvm.MethodName)) ∈ lw_all := lw_g (lw_at lw_m3 134 rfl) rfl
theorem q729 : (Jvm.Cond.code ({ cls := "UmbrellaHeir$Reader", name := "after", desc := "(Ljava/lang/String;II)I" } : Jvm.MethodName) prog_19_method_15_code (4 : Nat) (Option.some Jvm.ClassFile.FieldType.int)) ∈ lw_all := lw_g (lw_at lw_m3 135 rfl) rfl
theorem q730 : (Jvm.Cond.methodLink "UmbrellaHeir$Reader" (130 : Nat) ({ cls := "UmbrellaHeir$Reader", name := "must", desc := "(Ljava/lang/String;)V" } : Jvm.MethodName)) ∈ lw_all := lw_g (lw_at lw_m3 136 rfl) rfl
theorem q731 : (Jvm.Cond.privateMethod ({ cls := "UmbrellaHeir$Reader", name := "must", desc := "(Ljava/lang/String;)V" } : Jvm.MethodName)) ∈ lw_tbl := lw_at lw_m3 137 rfl
theorem q732 : (Jvm.Cond.instanceMethod ({ cls := "UmbrellaHeir$Reader", name := "must", desc := "(Ljava/lang/String;)V" } : Jvm.MethodName)) ∈ lw_all := lw_g (lw_at lw_m3 138 rfl) rfl
theorem q733 : (Jvm.Cond.code ({ cls := "UmbrellaHeir$Reader", name := "must", desc := "(Ljava/lang/String;)V" } : Jvm.MethodName) prog_19_method_8_code (2 : Nat) (Option.none : Option Jvm.ClassFile.FieldType)) ∈ lw_all := lw_g (lw_at lw_m3 139 rfl) rfl
theorem q734 : (Jvm.Cond.methodLink "UmbrellaHeir$Reader" (78 : Nat) ({ cls := "UmbrellaHeir$Reader", name := "takes", desc := "(Ljava/lang/String;)Z" } : Jvm.MethodName)) ∈ lw_all := lw_g (lw_at lw_m3 140 rfl) rfl
theorem q735 : (Jvm.Cond.privateMethod ({ cls := "UmbrellaHeir$Reader", name := "takes", desc := "(Ljava/lang/String;)Z" } : Jvm.MethodName)) ∈ lw_tbl := lw_at lw_m3 141 rfl
theorem q736 : (Jvm.Cond.instanceMethod ({ cls := "UmbrellaHeir$Reader", name := "takes", desc := "(Ljava/lang/String;)Z" } : Jvm.MethodName)) ∈ lw_all := lw_g (lw_at lw_m3 142 rfl) rfl
theorem q737 : (Jvm.Cond.code ({ cls := "UmbrellaHeir$Reader", name := "takes", desc := "(Ljava/lang/String;)Z" } : Jvm.MethodName) prog_19_method_7_code (2 : Nat) (Option.some Jvm.ClassFile.FieldType.boolean)) ∈ lw_all := lw_g (lw_at lw_m3 143 rfl) rfl
theorem q738 : (Jvm.Cond.methodLink "UmbrellaHeir$Reader" (134 : Nat) ({ cls := "UmbrellaHeir$Reader", name := "number", desc := "(II)I" } : Jvm.MethodName)) ∈ lw_all := lw_g (lw_at lw_m3 144 rfl) rfl
theorem q739 : (Jvm.Cond.privateMethod ({ cls := "UmbrellaHeir$Reader", name := "number", desc := "(II)I" } : Jvm.MethodName)) ∈ lw_tbl := lw_at lw_m3 145 rfl
theorem q740 : (Jvm.Cond.instanceMethod ({ cls := "UmbrellaHeir$Reader", name := "number", desc := "(II)I" } : Jvm.MethodName)) ∈ lw_all := lw_g (lw_at lw_m3 146 rfl) rfl
theorem q741 : (Jvm.Cond.code ({ cls := "UmbrellaHeir$Reader", name := "number", desc := "(II)I" } : Jvm.MethodName) prog_19_method_14_code (4 : Nat) (Option.some Jvm.ClassFile.FieldType.int)) ∈ lw_all := lw_g (lw_at lw_m3 147 rfl) rfl
theorem q742 : (Jvm.Cond.stringRef "UmbrellaHeir$Reader" (179 : Nat) "gust") ∈ lw_tbl := lw_at lw_m3 148 rfl
theorem q743 : (Jvm.Cond.stringRef "UmbrellaHeir$Reader" (183 : Nat) "rains") ∈ lw_tbl := lw_at lw_m3 149 rfl
theorem q744 : (Jvm.Cond.methodLink "UmbrellaHeir$Reader" (153 : Nat) ({ cls := "UmbrellaHeir$Reader", name := "personLine", desc := "()V" } : Jvm.MethodName)) ∈ lw_all := lw_g (lw_at lw_m3 150 rfl) rfl
theorem q745 : (Jvm.Cond.privateMethod ({ cls := "UmbrellaHeir$Reader", name := "personLine", desc := "()V" } : Jvm.MethodName)) ∈ lw_tbl := lw_at lw_m3 151 rfl
theorem q746 : (Jvm.Cond.instanceMethod ({ cls := "UmbrellaHeir$Reader", name := "personLine", desc := "()V" } : Jvm.MethodName)) ∈ lw_all := lw_g (lw_at lw_m3 152 rfl) rfl
theorem q747 : (Jvm.Cond.code ({ cls := "UmbrellaHeir$Reader", name := "personLine", desc := "()V" } : Jvm.MethodName) prog_19_method_21_code (1 : Nat) (Option.none : Option Jvm.ClassFile.FieldType)) ∈ lw_all := lw_g (lw_at lw_m3 153 rfl) rfl
theorem q748 : (Jvm.Cond.methodLink "UmbrellaHeir$Reader" (204 : Nat) ({ cls := "UmbrellaHeir$Reader", name := "begins", desc := "(Z)V" } : Jvm.MethodName)) ∈ lw_all := lw_g (lw_at lw_m3 154 rfl) rfl
theorem q749 : (Jvm.Cond.privateMethod ({ cls := "UmbrellaHeir$Reader", name := "begins", desc := "(Z)V" } : Jvm.MethodName)) ∈ lw_tbl := lw_at lw_m3 155 rfl
theorem q750 : (Jvm.Cond.instanceMethod ({ cls := "UmbrellaHeir$Reader", name := "begins", desc := "(Z)V" } : Jvm.MethodName)) ∈ lw_all := lw_g (lw_at lw_m3 156 rfl) rfl
theorem q751 : (Jvm.Cond.code ({ cls := "UmbrellaHeir$Reader", name := "begins", desc := "(Z)V" } : Jvm.MethodName) prog_19_method_16_code (2 : Nat) (Option.none : Option Jvm.ClassFile.FieldType)) ∈ lw_all := lw_g (lw_at lw_m3 157 rfl) rfl
theorem q752 : (Jvm.Cond.methodLink "UmbrellaHeir$Reader" (212 : Nat) ({ cls := "UmbrellaHeir$Reader", name := "newName", desc := "()Ljava/lang/String;" } : Jvm.MethodName)) ∈ lw_all := lw_g (lw_at lw_m3 158 rfl) rfl
theorem q753 : (Jvm.Cond.privateMethod ({ cls := "UmbrellaHeir$Reader", name := "newName", desc := "()Ljava/lang/String;" } : Jvm.MethodName)) ∈ lw_tbl := lw_at lw_m3 159 rfl
theorem q754 : (Jvm.Cond.instanceMethod ({ cls := "UmbrellaHeir$Reader", name := "newName", desc := "()Ljava/lang/String;" } : Jvm.MethodName)) ∈ lw_all := lw_g (lw_at lw_m3 160 rfl) rfl
theorem q755 : (Jvm.Cond.code ({ cls := "UmbrellaHeir$Reader", name := "newName", desc := "()Ljava/lang/String;" } : Jvm.MethodName) prog_19_method_10_code (2 : Nat) (Option.some (Jvm.ClassFile.FieldType.object "java/lang/String"))) ∈ lw_all := lw_g (lw_at lw_m3 161 rfl) rfl
theorem q756 : (Jvm.Cond.methodLink "UmbrellaHeir$Reader" (106 : Nat) ({ cls := "UmbrellaHeir$Reader", name := "mustName", desc := "()V" } : Jvm.MethodName)) ∈ lw_all := lw_g (lw_at lw_m3 162 rfl) rfl
theorem q757 : (Jvm.Cond.privateMethod ({ cls := "UmbrellaHeir$Reader", name := "mustName", desc := "()V" } : Jvm.MethodName)) ∈ lw_tbl := lw_at lw_m3 163 rfl
theorem q758 : (Jvm.Cond.instanceMethod ({ cls := "UmbrellaHeir$Reader", name := "mustName", desc := "()V" } : Jvm.MethodName)) ∈ lw_all := lw_g (lw_at lw_m3 164 rfl) rfl
theorem q759 : (Jvm.Cond.code ({ cls := "UmbrellaHeir$Reader", name := "mustName", desc := "()V" } : Jvm.MethodName) prog_19_method_9_code (3 : Nat) (Option.none : Option Jvm.ClassFile.FieldType)) ∈ lw_all := lw_g (lw_at lw_m3 165 rfl) rfl
theorem q760 : (Jvm.Cond.methodLink "UmbrellaHeir$Reader" (112 : Nat) ({ cls := "UmbrellaHeir$County", name := "find", desc := "(Ljava/lang/String;)LUmbrellaHeir$Named;" } : Jvm.MethodName)) ∈ lw_all := lw_g (lw_at lw_m3 166 rfl) rfl
theorem q765 : (Jvm.Cond.methodLink "UmbrellaHeir$Reader" (216 : Nat) ({ cls := "UmbrellaHeir$Reader", name := "personOf", desc := "(Ljava/lang/String;I)LUmbrellaHeir$Person;" } : Jvm.MethodName)) ∈ lw_all := lw_g (lw_at lw_m3 171 rfl) rfl
theorem q766 : (Jvm.Cond.privateMethod ({ cls := "UmbrellaHeir$Reader", name := "personOf", desc := "(Ljava/lang/String;I)LUmbrellaHeir$Person;" } : Jvm.MethodName)) ∈ lw_tbl := lw_at lw_m3 172 rfl
theorem q767 : (Jvm.Cond.instanceMethod ({ cls := "UmbrellaHeir$Reader", name := "personOf", desc := "(Ljava/lang/String;I)LUmbrellaHeir$Person;" } : Jvm.MethodName)) ∈ lw_all := lw_g (lw_at lw_m3 173 rfl) rfl
theorem q768 : (Jvm.Cond.code ({ cls := "UmbrellaHeir$Reader", name := "personOf", desc := "(Ljava/lang/String;I)LUmbrellaHeir$Person;" } : Jvm.MethodName) prog_19_method_20_code (3 : Nat) (Option.some (Jvm.ClassFile.FieldType.object "UmbrellaHeir$Person"))) ∈ lw_all := lw_g (lw_at lw_m3 174 rfl) rfl
theorem q769 : (Jvm.Cond.stringRef "UmbrellaHeir$Reader" (187 : Nat) "plain") ∈ lw_tbl := lw_at lw_m3 175 rfl
theorem q770 : (Jvm.Cond.classLink "UmbrellaHeir$Reader" (189 : Nat) "UmbrellaHeir$Plain") ∈ lw_all := lw_g (lw_at lw_m3 176 rfl) rfl
theorem q772 : (Jvm.Cond.methodLink "UmbrellaHeir$Reader" (191 : Nat) ({ cls := "UmbrellaHeir$Plain", name := "<init>", desc := "(Ljava/lang/String;I)V" } : Jvm.MethodName)) ∈ lw_all := lw_g (lw_at lw_m3 178 rfl) rfl
theorem q788 : (Jvm.Cond.fieldLink "UmbrellaHeir$Reader" (120 : Nat) "UmbrellaHeir$Named" "number" "I") ∈ lw_all := lw_g (lw_at lw_m3 194 rfl) rfl
theorem q794 : (Jvm.Cond.stringRef "UmbrellaHeir$Reader" (194 : Nat) "child") ∈ lw_tbl := lw_at lw_m3 200 rfl
theorem q795 : (Jvm.Cond.classLink "UmbrellaHeir$Reader" (196 : Nat) "UmbrellaHeir$Child") ∈ lw_all := lw_g (lw_at lw_m3 201 rfl) rfl
theorem q797 : (Jvm.Cond.methodLink "UmbrellaHeir$Reader" (198 : Nat) ({ cls := "UmbrellaHeir$Child", name := "<init>", desc := "(Ljava/lang/String;I)V" } : Jvm.MethodName)) ∈ lw_all := lw_g (lw_at lw_m3 203 rfl) rfl
theorem q804 : (Jvm.Cond.stringRef "UmbrellaHeir$Reader" (199 : Nat) "careless") ∈ lw_tbl := lw_at lw_m3 210 rfl
theorem q805 : (Jvm.Cond.classLink "UmbrellaHeir$Reader" (201 : Nat) "UmbrellaHeir$Careless") ∈ lw_all := lw_g (lw_at lw_m3 211 rfl) rfl
theorem q807 : (Jvm.Cond.methodLink "UmbrellaHeir$Reader" (203 : Nat) ({ cls := "UmbrellaHeir$Careless", name := "<init>", desc := "(Ljava/lang/String;I)V" } : Jvm.MethodName)) ∈ lw_all := lw_g (lw_at lw_m3 213 rfl) rfl
theorem q814 : (Jvm.Cond.methodLink "UmbrellaHeir$Reader" (156 : Nat) ({ cls := "UmbrellaHeir$Reader", name := "umbrellaLine", desc := "()V" } : Jvm.MethodName)) ∈ lw_all := lw_g (lw_at lw_m3 220 rfl) rfl
theorem q815 : (Jvm.Cond.privateMethod ({ cls := "UmbrellaHeir$Reader", name := "umbrellaLine", desc := "()V" } : Jvm.MethodName)) ∈ lw_tbl := lw_at lw_m3 221 rfl
theorem q816 : (Jvm.Cond.instanceMethod ({ cls := "UmbrellaHeir$Reader", name := "umbrellaLine", desc := "()V" } : Jvm.MethodName)) ∈ lw_all := lw_g (lw_at lw_m3 222 rfl) rfl
theorem q817 : (Jvm.Cond.code ({ cls := "UmbrellaHeir$Reader", name := "umbrellaLine", desc := "()V" } : Jvm.MethodName) prog_19_method_23_code (2 : Nat) (Option.none : Option Jvm.ClassFile.FieldType)) ∈ lw_all := lw_g (lw_at lw_m3 223 rfl) rfl
theorem q818 : (Jvm.Cond.methodLink "UmbrellaHeir$Reader" (240 : Nat) ({ cls := "UmbrellaHeir$Reader", name := "umbrellaOf", desc := "(Ljava/lang/String;I)LUmbrellaHeir$Umbrella;" } : Jvm.MethodName)) ∈ lw_all := lw_g (lw_at lw_m3 224 rfl) rfl
theorem q819 : (Jvm.Cond.privateMethod ({ cls := "UmbrellaHeir$Reader", name := "umbrellaOf", desc := "(Ljava/lang/String;I)LUmbrellaHeir$Umbrella;" } : Jvm.MethodName)) ∈ lw_tbl := lw_at lw_m3 225 rfl
theorem q820 : (Jvm.Cond.instanceMethod ({ cls := "UmbrellaHeir$Reader", name := "umbrellaOf", desc := "(Ljava/lang/String;I)LUmbrellaHeir$Umbrella;" } : Jvm.MethodName)) ∈ lw_all := lw_g (lw_at lw_m3 226 rfl) rfl
theorem q821 : (Jvm.Cond.code ({ cls := "UmbrellaHeir$Reader", name := "umbrellaOf", desc := "(Ljava/lang/String;I)LUmbrellaHeir$Umbrella;" } : Jvm.MethodName) prog_19_method_22_code (3 : Nat) (Option.some (Jvm.ClassFile.FieldType.object "UmbrellaHeir$Umbrella"))) ∈ lw_all := lw_g (lw_at lw_m3 227 rfl) rfl
theorem q822 : (Jvm.Cond.stringRef "UmbrellaHeir$Reader" (220 : Nat) "silk") ∈ lw_tbl := lw_at lw_m3 228 rfl
theorem q823 : (Jvm.Cond.classLink "UmbrellaHeir$Reader" (222 : Nat) "UmbrellaHeir$Silk") ∈ lw_all := lw_g (lw_at lw_m3 229 rfl) rfl
theorem q825 : (Jvm.Cond.methodLink "UmbrellaHeir$Reader" (224 : Nat) ({ cls := "UmbrellaHeir$Silk", name := "<init>", desc := "(Ljava/lang/String;I)V" } : Jvm.MethodName)) ∈ lw_all := lw_g (lw_at lw_m3 231 rfl) rfl
theorem q835 : (Jvm.Cond.fieldLink "UmbrellaHeir$Reader" (246 : Nat) "UmbrellaHeir$Umbrella" "lands" "I") ∈ lw_all := lw_g (lw_at lw_m4 1 rfl) rfl
theorem q839 : (Jvm.Cond.fieldLink "UmbrellaHeir$Reader" (250 : Nat) "UmbrellaHeir$Umbrella" "ribs" "I") ∈ lw_all := lw_g (lw_at lw_m4 5 rfl) rfl
theorem q842 : (Jvm.Cond.fieldLink "UmbrellaHeir$Reader" (256 : Nat) "UmbrellaHeir$Umbrella" "holder" "I") ∈ lw_all := lw_g (lw_at lw_m4 8 rfl) rfl
theorem q852 : (Jvm.Cond.stringRef "UmbrellaHeir$Reader" (225 : Nat) "cotton") ∈ lw_tbl := lw_at lw_m4 18 rfl
theorem q853 : (Jvm.Cond.classLink "UmbrellaHeir$Reader" (227 : Nat) "UmbrellaHeir$Cotton") ∈ lw_all := lw_g (lw_at lw_m4 19 rfl) rfl
theorem q855 : (Jvm.Cond.methodLink "UmbrellaHeir$Reader" (229 : Nat) ({ cls := "UmbrellaHeir$Cotton", name := "<init>", desc := "(Ljava/lang/String;I)V" } : Jvm.MethodName)) ∈ lw_all := lw_g (lw_at lw_m4 21 rfl) rfl
theorem q865 : (Jvm.Cond.stringRef "UmbrellaHeir$Reader" (230 : Nat) "stick") ∈ lw_tbl := lw_at lw_m4 31 rfl
theorem q866 : (Jvm.Cond.classLink "UmbrellaHeir$Reader" (232 : Nat) "UmbrellaHeir$Stick") ∈ lw_all := lw_g (lw_at lw_m4 32 rfl) rfl
theorem q868 : (Jvm.Cond.methodLink "UmbrellaHeir$Reader" (234 : Nat) ({ cls := "UmbrellaHeir$Stick", name := "<init>", desc := "(Ljava/lang/String;I)V" } : Jvm.MethodName)) ∈ lw_all := lw_g (lw_at lw_m4 34 rfl) rfl
theorem q878 : (Jvm.Cond.stringRef "UmbrellaHeir$Reader" (235 : Nat) "parasol") ∈ lw_tbl := lw_at lw_m4 44 rfl
theorem q879 : (Jvm.Cond.classLink "UmbrellaHeir$Reader" (237 : Nat) "UmbrellaHeir$Parasol") ∈ lw_all := lw_g (lw_at lw_m4 45 rfl) rfl
theorem q881 : (Jvm.Cond.methodLink "UmbrellaHeir$Reader" (239 : Nat) ({ cls := "UmbrellaHeir$Parasol", name := "<init>", desc := "(Ljava/lang/String;I)V" } : Jvm.MethodName)) ∈ lw_all := lw_g (lw_at lw_m4 47 rfl) rfl
theorem q891 : (Jvm.Cond.stringRef "UmbrellaHeir$Reader" (244 : Nat) "lands") ∈ lw_tbl := lw_at lw_m4 57 rfl
theorem q892 : (Jvm.Cond.stringRef "UmbrellaHeir$Reader" (248 : Nat) "ribs") ∈ lw_tbl := lw_at lw_m4 58 rfl
theorem q893 : (Jvm.Cond.stringRef "UmbrellaHeir$Reader" (252 : Nat) "with") ∈ lw_tbl := lw_at lw_m4 59 rfl
theorem q894 : (Jvm.Cond.methodLink "UmbrellaHeir$Reader" (254 : Nat) ({ cls := "UmbrellaHeir$Reader", name := "person", desc := "()I" } : Jvm.MethodName)) ∈ lw_all := lw_g (lw_at lw_m4 60 rfl) rfl
theorem q895 : (Jvm.Cond.privateMethod ({ cls := "UmbrellaHeir$Reader", name := "person", desc := "()I" } : Jvm.MethodName)) ∈ lw_tbl := lw_at lw_m4 61 rfl
theorem q896 : (Jvm.Cond.instanceMethod ({ cls := "UmbrellaHeir$Reader", name := "person", desc := "()I" } : Jvm.MethodName)) ∈ lw_all := lw_g (lw_at lw_m4 62 rfl) rfl
theorem q897 : (Jvm.Cond.code ({ cls := "UmbrellaHeir$Reader", name := "person", desc := "()I" } : Jvm.MethodName) prog_19_method_11_code (2 : Nat) (Option.some Jvm.ClassFile.FieldType.int)) ∈ lw_all := lw_g (lw_at lw_m4 63 rfl) rfl
theorem q898 : (Jvm.Cond.classLink "UmbrellaHeir$Reader" (118 : Nat) "UmbrellaHeir$Person") ∈ lw_all := lw_g (lw_at lw_m4 64 rfl) rfl
theorem q899 : (Jvm.Cond.methodLink "UmbrellaHeir$Reader" (159 : Nat) ({ cls := "UmbrellaHeir$Reader", name := "lentLine", desc := "()V" } : Jvm.MethodName)) ∈ lw_all := lw_g (lw_at lw_m4 65 rfl) rfl
theorem q900 : (Jvm.Cond.privateMethod ({ cls := "UmbrellaHeir$Reader", name := "lentLine", desc := "()V" } : Jvm.MethodName)) ∈ lw_tbl := lw_at lw_m4 66 rfl
theorem q901 : (Jvm.Cond.instanceMethod ({ cls := "UmbrellaHeir$Reader", name := "lentLine", desc := "()V" } : Jvm.MethodName)) ∈ lw_all := lw_g (lw_at lw_m4 67 rfl) rfl
theorem q902 : (Jvm.Cond.code ({ cls := "UmbrellaHeir$Reader", name := "lentLine", desc := "()V" } : Jvm.MethodName) prog_19_method_26_code (2 : Nat) (Option.none : Option Jvm.ClassFile.FieldType)) ∈ lw_all := lw_g (lw_at lw_m4 68 rfl) rfl
theorem q903 : (Jvm.Cond.methodLink "UmbrellaHeir$Reader" (276 : Nat) ({ cls := "UmbrellaHeir$Reader", name := "hasRoom", desc := "()Z" } : Jvm.MethodName)) ∈ lw_all := lw_g (lw_at lw_m4 69 rfl) rfl
theorem q904 : (Jvm.Cond.privateMethod ({ cls := "UmbrellaHeir$Reader", name := "hasRoom", desc := "()Z" } : Jvm.MethodName)) ∈ lw_tbl := lw_at lw_m4 70 rfl
theorem q905 : (Jvm.Cond.instanceMethod ({ cls := "UmbrellaHeir$Reader", name := "hasRoom", desc := "()Z" } : Jvm.MethodName)) ∈ lw_all := lw_g (lw_at lw_m4 71 rfl) rfl
theorem q906 : (Jvm.Cond.code ({ cls := "UmbrellaHeir$Reader", name := "hasRoom", desc := "()Z" } : Jvm.MethodName) prog_19_method_25_code (1 : Nat) (Option.some Jvm.ClassFile.FieldType.boolean)) ∈ lw_all := lw_g (lw_at lw_m4 72 rfl) rfl
theorem q907 : (Jvm.Cond.methodLink "UmbrellaHeir$Reader" (280 : Nat) ({ cls := "UmbrellaHeir$Reader", name := "umbrella", desc := "()I" } : Jvm.MethodName)) ∈ lw_all := lw_g (lw_at lw_m4 73 rfl) rfl
theorem q908 : (Jvm.Cond.privateMethod ({ cls := "UmbrellaHeir$Reader", name := "umbrella", desc := "()I" } : Jvm.MethodName)) ∈ lw_tbl := lw_at lw_m4 74 rfl
theorem q909 : (Jvm.Cond.instanceMethod ({ cls := "UmbrellaHeir$Reader", name := "umbrella", desc := "()I" } : Jvm.MethodName)) ∈ lw_all := lw_g (lw_at lw_m4 75 rfl) rfl
theorem q910 : (Jvm.Cond.code ({ cls := "UmbrellaHeir$Reader", name := "umbrella", desc := "()I" } : Jvm.MethodName) prog_19_method_13_code (2 : Nat) (Option.some Jvm.ClassFile.FieldType.int)) ∈ lw_all := lw_g (lw_at lw_m4 76 rfl) rfl
theorem q911 : (Jvm.Cond.methodLink "UmbrellaHeir$Reader" (127 : Nat) ({ cls := "UmbrellaHeir$Reader", name := "umbrellaHere", desc := "()I" } : Jvm.MethodName)) ∈ lw_all := lw_g (lw_at lw_m4 77 rfl) rfl
theorem q912 : (Jvm.Cond.privateMethod ({ cls := "UmbrellaHeir$Reader", name := "umbrellaHere", desc := "()I" } : Jvm.MethodName)) ∈ lw_tbl := lw_at lw_m4 78 rfl
theorem q913 : (Jvm.Cond.instanceMethod ({ cls := "UmbrellaHeir$Reader", name := "umbrellaHere", desc := "()I" } : Jvm.MethodName)) ∈ lw_all := lw_g (lw_at lw_m4 79 rfl) rfl
theorem q914 : (Jvm.Cond.code ({ cls := "UmbrellaHeir$Reader", name := "umbrellaHere", desc := "()I" } : Jvm.MethodName) prog_19_method_12_code (2 : Nat) (Option.some Jvm.ClassFile.FieldType.int)) ∈ lw_all := lw_g (lw_at lw_m4 80 rfl) rfl
theorem q915 : (Jvm.Cond.classLink "UmbrellaHeir$Reader" (125 : Nat) "UmbrellaHeir$Umbrella") ∈ lw_all := lw_g (lw_at lw_m4 81 rfl) rfl
theorem q916 : (Jvm.Cond.classLink "UmbrellaHeir$Reader" (282 : Nat) "UmbrellaHeir$Lent") ∈ lw_all := lw_g (lw_at lw_m4 82 rfl) rfl
theorem q918 : (Jvm.Cond.methodLink "UmbrellaHeir$Reader" (284 : Nat) ({ cls := "UmbrellaHeir$Lent", name := "<init>", desc := "(II)V" } : Jvm.MethodName)) ∈ lw_all := lw_g (lw_at lw_m4 84 rfl) rfl
theorem q934 : (Jvm.Cond.fieldLink "UmbrellaHeir$Reader" (272 : Nat) "UmbrellaHeir$Event" "day" "I") ∈ lw_all := lw_g (lw_at lw_m4 100 rfl) rfl
theorem q942 : (Jvm.Cond.methodLink "UmbrellaHeir$Reader" (287 : Nat) ({ cls := "UmbrellaHeir$Reader", name := "logs", desc := "(LUmbrellaHeir$Event;)V" } : Jvm.MethodName)) ∈ lw_all := lw_g (lw_at lw_m4 108 rfl) rfl
theorem q943 : (Jvm.Cond.privateMethod ({ cls := "UmbrellaHeir$Reader", name := "logs", desc := "(LUmbrellaHeir$Event;)V" } : Jvm.MethodName)) ∈ lw_tbl := lw_at lw_m4 109 rfl
theorem q944 : (Jvm.Cond.instanceMethod ({ cls := "UmbrellaHeir$Reader", name := "logs", desc := "(LUmbrellaHeir$Event;)V" } : Jvm.MethodName)) ∈ lw_all := lw_g (lw_at lw_m4 110 rfl) rfl
theorem q945 : (Jvm.Cond.code ({ cls := "UmbrellaHeir$Reader", name := "logs", desc := "(LUmbrellaHeir$Event;)V" } : Jvm.MethodName) prog_19_method_24_code (2 : Nat) (Option.none : Option Jvm.ClassFile.FieldType)) ∈ lw_all := lw_g (lw_at lw_m4 111 rfl) rfl
theorem q946 : (Jvm.Cond.stringRef "UmbrellaHeir$Reader" (263 : Nat) "day") ∈ lw_tbl := lw_at lw_m4 112 rfl
theorem q947 : (Jvm.Cond.methodLink "UmbrellaHeir$Reader" (162 : Nat) ({ cls := "UmbrellaHeir$Reader", name := "leftLine", desc := "()V" } : Jvm.MethodName)) ∈ lw_all := lw_g (lw_at lw_m4 113 rfl) rfl
theorem q948 : (Jvm.Cond.privateMethod ({ cls := "UmbrellaHeir$Reader", name := "leftLine", desc := "()V" } : Jvm.MethodName)) ∈ lw_tbl := lw_at lw_m4 114 rfl
theorem q949 : (Jvm.Cond.instanceMethod ({ cls := "UmbrellaHeir$Reader", name := "leftLine", desc := "()V" } : Jvm.MethodName)) ∈ lw_all := lw_g (lw_at lw_m4 115 rfl) rfl
theorem q950 : (Jvm.Cond.code ({ cls := "UmbrellaHeir$Reader", name := "leftLine", desc := "()V" } : Jvm.MethodName) prog_19_method_27_code (1 : Nat) (Option.none : Option Jvm.ClassFile.FieldType)) ∈ lw_all := lw_g (lw_at lw_m4 116 rfl) rfl
theorem q951 : (Jvm.Cond.classLink "UmbrellaHeir$Reader" (291 : Nat) "UmbrellaHeir$Left") ∈ lw_all := lw_g (lw_at lw_m4 117 rfl) rfl
theorem q953 : (Jvm.Cond.methodLink "UmbrellaHeir$Reader" (293 : Nat) ({ cls := "UmbrellaHeir$Left", name := "<init>", desc := "(I)V" } : Jvm.MethodName)) ∈ lw_all := lw_g (lw_at lw_m4 119 rfl) rfl
theorem q960 : (Jvm.Cond.methodLink "UmbrellaHeir$Reader" (165 : Nat) ({ cls := "UmbrellaHeir$Reader", name := "changedLine", desc := "()V" } : Jvm.MethodName)) ∈ lw_all := lw_g (lw_at lw_m4 126 rfl) rfl
theorem q961 : (Jvm.Cond.privateMethod ({ cls := "UmbrellaHeir$Reader", name := "changedLine", desc := "()V" } : Jvm.MethodName)) ∈ lw_tbl := lw_at lw_m4 127 rfl
theorem q962 : (Jvm.Cond.instanceMethod ({ cls := "UmbrellaHeir$Reader", name := "changedLine", desc := "()V" } : Jvm.MethodName)) ∈ lw_all := lw_g (lw_at lw_m4 128 rfl) rfl
theorem q963 : (Jvm.Cond.code ({ cls := "UmbrellaHeir$Reader", name := "changedLine", desc := "()V" } : Jvm.MethodName) prog_19_method_28_code (3 : Nat) (Option.none : Option Jvm.ClassFile.FieldType)) ∈ lw_all := lw_g (lw_at lw_m4 129 rfl) rfl
theorem q964 : (Jvm.Cond.classLink "UmbrellaHeir$Reader" (296 : Nat) "UmbrellaHeir$Changed") ∈ lw_all := lw_g (lw_at lw_m4 130 rfl) rfl
theorem q966 : (Jvm.Cond.methodLink "UmbrellaHeir$Reader" (298 : Nat) ({ cls := "UmbrellaHeir$Changed", name := "<init>", desc := "(II)V" } : Jvm.MethodName)) ∈ lw_all := lw_g (lw_at lw_m4 132 rfl) rfl
theorem q976 : (Jvm.Cond.methodLink "UmbrellaHeir$Reader" (168 : Nat) ({ cls := "UmbrellaHeir$Reader", name := "rainLine", desc := "()V" } : Jvm.MethodName)) ∈ lw_all := lw_g (lw_at lw_m4 142 rfl) rfl
theorem q977 : (Jvm.Cond.privateMethod ({ cls := "UmbrellaHeir$Reader", name := "rainLine", desc := "()V" } : Jvm.MethodName)) ∈ lw_tbl := lw_at lw_m4 143 rfl
theorem q978 : (Jvm.Cond.instanceMethod ({ cls := "UmbrellaHeir$Reader", name := "rainLine", desc := "()V" } : Jvm.MethodName)) ∈ lw_all := lw_g (lw_at lw_m4 144 rfl) rfl
theorem q979 : (Jvm.Cond.code ({ cls := "UmbrellaHeir$Reader", name := "rainLine", desc := "()V" } : Jvm.MethodName) prog_19_method_29_code (1 : Nat) (Option.none : Option Jvm.ClassFile.FieldType)) ∈ lw_all := lw_g (lw_at lw_m4 145 rfl) rfl
theorem q980 : (Jvm.Cond.classLink "UmbrellaHeir$Reader" (299 : Nat) "UmbrellaHeir$Rain") ∈ lw_all := lw_g (lw_at lw_m4 146 rfl) rfl
theorem q982 : (Jvm.Cond.methodLink "UmbrellaHeir$Reader" (301 : Nat) ({ cls := "UmbrellaHeir$Rain", name := "<init>", desc := "()V" } : Jvm.MethodName)) ∈ lw_all := lw_g (lw_at lw_m4 148 rfl) rfl
theorem q989 : (Jvm.Cond.methodLink "UmbrellaHeir$Reader" (171 : Nat) ({ cls := "UmbrellaHeir$Reader", name := "claimsLine", desc := "()V" } : Jvm.MethodName)) ∈ lw_all := lw_g (lw_at lw_m4 155 rfl) rfl
theorem q990 : (Jvm.Cond.privateMethod ({ cls := "UmbrellaHeir$Reader", name := "claimsLine", desc := "()V" } : Jvm.MethodName)) ∈ lw_tbl := lw_at lw_m4 156 rfl
theorem q991 : (Jvm.Cond.instanceMethod ({ cls := "UmbrellaHeir$Reader", name := "claimsLine", desc := "()V" } : Jvm.MethodName)) ∈ lw_all := lw_g (lw_at lw_m4 157 rfl) rfl
theorem q992 : (Jvm.Cond.code ({ cls := "UmbrellaHeir$Reader", name := "claimsLine", desc := "()V" } : Jvm.MethodName) prog_19_method_30_code (2 : Nat) (Option.none : Option Jvm.ClassFile.FieldType)) ∈ lw_all := lw_g (lw_at lw_m4 158 rfl) rfl
theorem q993 : (Jvm.Cond.classLink "UmbrellaHeir$Reader" (305 : Nat) "UmbrellaHeir$Claim") ∈ lw_all := lw_g (lw_at lw_m4 159 rfl) rfl
theorem q995 : (Jvm.Cond.methodLinkNest "UmbrellaHeir$Reader" (307 : Nat) ({ cls := "UmbrellaHeir$Claim", name := "<init>", desc := "()V" } : Jvm.MethodName) "UmbrellaHeir") ∈ lw_tbl := lw_at lw_m4 161 rfl
theorem q1000 : (Jvm.Cond.fieldLink "UmbrellaHeir$Reader" (308 : Nat) "UmbrellaHeir$Claim" "person" "I") ∈ lw_all := lw_g (lw_at lw_m4 166 rfl) rfl
theorem q1002 : (Jvm.Cond.fieldLink "UmbrellaHeir$Reader" (310 : Nat) "UmbrellaHeir$Claim" "umbrella" "I") ∈ lw_all := lw_g (lw_at lw_m4 168 rfl) rfl
theorem q1004 : (Jvm.Cond.fieldLink "UmbrellaHeir$Reader" (312 : Nat) "UmbrellaHeir$Claim" "day" "I") ∈ lw_all := lw_g (lw_at lw_m4 170 rfl) rfl
theorem q2300 : (Jvm.Cond.castable "UmbrellaHeir$Reader" "java/lang/Object") ∈ lw_tbl := lw_at lw_m10 26 rfl
theorem in_X2 : ∀ w ∈ wsX20, w ∈ lw_all := lw_in wsX20 [250, 252, 254, 256, 258, 260, 262, 264, 266, 268] (by decide +kernel) (by decide +kernel)
/-! UmbrellaHeir$Refused -/
set_option maxRecDepth 100000
def RX3 : String := "UmbrellaHeir$Refused"
def TX3 : u_T := fun k => match k with
  | 0 => ("java/lang/Throwable", "cause", "Ljava/lang/Throwable;", false)
  | 1 => ("java/lang/Throwable", "stackTrace", "[Ljava/lang/StackTraceElement;", false)
  | 2 => ("java/lang/Throwable", "suppressedExceptions", "Ljava/util/List;", false)
  | 3 => ("java/lang/Throwable", "detailMessage", "Ljava/lang/String;", false)
  | 4 => ("java/lang/Throwable", "backtrace", "Ljava/lang/Object;", false)
  | 5 => ("java/lang/Throwable", "depth", "I", false)
  | 6 => ("UmbrellaHeir$Refused", "fault", "I", false)
  | _ => ("UmbrellaHeir$Refused", "place", "I", false)
def tyX3 : Nat → FieldType := fun k => match k with
  | 0 => .object "java/lang/Throwable"
  | 1 => .array (.object "java/lang/StackTraceElement")
  | 2 => .object "java/util/List"
  | 3 => .object "java/lang/String"
  | 4 => .object "java/lang/Object"
  | 5 => .int
  | 6 => .int
  | _ => .int
abbrev wsX30 : List Cond := u_ws RX3 TX3 8
theorem nmX3 : ∀ a, a < 8 → ∀ b, b < 8 → a ≠ b → (TX3 a).2.1 ≠ (TX3 b).2.1 := by decide +kernel
theorem tyX3_ok : ∀ k, k < 8 → parseFieldDescriptor (TX3 k).2.2.1 = some (tyX3 k) := by decide +kernel
abbrev cX3_init : ByteArray := prog_20_method_1_code
def yX3_init : MethodName := ⟨RX3, "<init>", "()V"⟩
def dkwX3_init_0 : List UInt8 := [42, 1, 1, 3, 3, 183, 0, 3, 42, 2, 181, 0, 9, 177]
abbrev dktX3_init_0 : List UInt8 := dkwX3_init_0 ++ []
theorem dksX3_init_0 : cX3_init.data.toList.drop 0 = dktX3_init_0 := by decide +kernel
theorem dX3_init_0 : decode cX3_init 0 = .ok (.aload_n 0, 1) := dk_42 (dk_at dksX3_init_0 0 rfl rfl)
theorem dX3_init_1 : decode cX3_init 1 = .ok (.aconst_null, 1) := dk_1 (dk_at dksX3_init_0 1 rfl rfl)
theorem dX3_init_2 : decode cX3_init 2 = .ok (.aconst_null, 1) := dk_1 (dk_at dksX3_init_0 2 rfl rfl)
theorem dX3_init_3 : decode cX3_init 3 = .ok (.iconst 0, 1) := dk_3 (dk_at dksX3_init_0 3 rfl rfl)
theorem dX3_init_4 : decode cX3_init 4 = .ok (.iconst 0, 1) := dk_3 (dk_at dksX3_init_0 4 rfl rfl)
theorem dX3_init_5 : decode cX3_init 5 = .ok (.invokespecial 3, 3) := dk_183 0 3 (dk_at dksX3_init_0 5 rfl rfl)
theorem dX3_init_8 : decode cX3_init 8 = .ok (.aload_n 0, 1) := dk_42 (dk_at dksX3_init_0 8 rfl rfl)
theorem dX3_init_9 : decode cX3_init 9 = .ok (.iconst (-1), 1) := dk_2 (dk_at dksX3_init_0 9 rfl rfl)
theorem dX3_init_10 : decode cX3_init 10 = .ok (.putfield 9, 3) := dk_181 0 9 (dk_at dksX3_init_0 10 rfl rfl)
theorem dX3_init_13 : decode cX3_init 13 = .ok (.return_, 1) := dk_177 (dk_at dksX3_init_0 13 rfl rfl)
abbrev cX3_at : ByteArray := prog_20_method_2_code
def yX3_at : MethodName := ⟨RX3, "at", "(II)LUmbrellaHeir$Refused;"⟩
def dkwX3_at_0 : List UInt8 := [42, 27, 181, 0, 15, 42, 28, 181, 0, 9, 42, 176]
abbrev dktX3_at_0 : List UInt8 := dkwX3_at_0 ++ []
theorem dksX3_at_0 : cX3_at.data.toList.drop 0 = dktX3_at_0 := by decide +kernel
theorem dX3_at_0 : decode cX3_at 0 = .ok (.aload_n 0, 1) := dk_42 (dk_at dksX3_at_0 0 rfl rfl)
theorem dX3_at_1 : decode cX3_at 1 = .ok (.iload_n 1, 1) := dk_27 (dk_at dksX3_at_0 1 rfl rfl)
theorem dX3_at_2 : decode cX3_at 2 = .ok (.putfield 15, 3) := dk_181 0 15 (dk_at dksX3_at_0 2 rfl rfl)
theorem dX3_at_5 : decode cX3_at 5 = .ok (.aload_n 0, 1) := dk_42 (dk_at dksX3_at_0 5 rfl rfl)
theorem dX3_at_6 : decode cX3_at 6 = .ok (.iload_n 2, 1) := dk_28 (dk_at dksX3_at_0 6 rfl rfl)
theorem dX3_at_7 : decode cX3_at 7 = .ok (.putfield 9, 3) := dk_181 0 9 (dk_at dksX3_at_0 7 rfl rfl)
theorem dX3_at_10 : decode cX3_at 10 = .ok (.aload_n 0, 1) := dk_42 (dk_at dksX3_at_0 10 rfl rfl)
theorem dX3_at_11 : decode cX3_at 11 = .ok (.areturn, 1) := dk_176 (dk_at dksX3_at_0 11 rfl rfl)
theorem q120 : (Jvm.Cond.initialized "UmbrellaHeir$Refused") ∈ lw_all := lw_g (lw_at lw_m1 6 rfl) rfl
theorem q167 : (Jvm.Cond.instantiable "UmbrellaHeir$Refused" (8 : Nat)) ∈ lw_all := lw_g (lw_at lw_m1 53 rfl) rfl
theorem q168 : (Jvm.Cond.castable "UmbrellaHeir$Refused" "UmbrellaHeir$Refused") ∈ lw_tbl := lw_at lw_m1 54 rfl
theorem q175 : (Jvm.Cond.selects "UmbrellaHeir$Refused" ({ cls := "java/lang/Throwable", name := "fillInStackTrace", desc := "(I)Ljava/lang/Throwable;" } : Jvm.MethodName) ({ cls := "java/lang/Throwable", name := "fillInStackTrace", desc := "(I)Ljava/lang/Throwable;" } : Jvm.MethodName)) ∈ lw_all := lw_g (lw_at lw_m1 61 rfl) rfl
theorem q176 : (Jvm.Cond.selects "UmbrellaHeir$Refused" ({ cls := "java/lang/Throwable", name := "fillInStackTrace", desc := "()Ljava/lang/Throwable;" } : Jvm.MethodName) ({ cls := "java/lang/Throwable", name := "fillInStackTrace", desc := "()Ljava/lang/Throwable;" } : Jvm.MethodName)) ∈ lw_all := lw_g (lw_at lw_m1 62 rfl) rfl
theorem q177 : (Jvm.Cond.lays "UmbrellaHeir$Refused" "java/lang/Throwable" "cause" "Ljava/lang/Throwable;") ∈ lw_all := lw_g (lw_at lw_m1 63 rfl) rfl
theorem q179 : (Jvm.Cond.lays "UmbrellaHeir$Refused" "java/lang/Throwable" "stackTrace" "[Ljava/lang/StackTraceElement;") ∈ lw_all := lw_g (lw_at lw_m1 65 rfl) rfl
theorem q181 : (Jvm.Cond.lays "UmbrellaHeir$Refused" "java/lang/Throwable" "suppressedExceptions" "Ljava/util/List;") ∈ lw_all := lw_g (lw_at lw_m1 67 rfl) rfl
theorem q183 : (Jvm.Cond.lays "UmbrellaHeir$Refused" "java/lang/Throwable" "detailMessage" "Ljava/lang/String;") ∈ lw_all := lw_g (lw_at lw_m1 69 rfl) rfl
theorem q185 : (Jvm.Cond.lays "UmbrellaHeir$Refused" "java/lang/Throwable" "backtrace" "Ljava/lang/Object;") ∈ lw_all := lw_g (lw_at lw_m1 71 rfl) rfl
theorem q207 : (Jvm.Cond.instanceMethod ({ cls := "UmbrellaHeir$Refused", name := "<init>", desc := "()V" } : Jvm.MethodName)) ∈ lw_all := lw_g (lw_at lw_m1 93 rfl) rfl
theorem q208 : (Jvm.Cond.code ({ cls := "UmbrellaHeir$Refused", name := "<init>", desc := "()V" } : Jvm.MethodName) prog_20_method_1_code (1 : Nat) (Option.none : Option Jvm.ClassFile.FieldType)) ∈ lw_all := lw_g (lw_at lw_m1 94 rfl) rfl
theorem q209 : (Jvm.Cond.methodLink "UmbrellaHeir$Refused" (3 : Nat) ({ cls := "java/lang/RuntimeException", name := "<init>", desc := "(Ljava/lang/String;Ljava/lang/Throwable;ZZ)V" } : Jvm.MethodName)) ∈ lw_all := lw_g (lw_at lw_m1 95 rfl) rfl
theorem q218 : (Jvm.Cond.fieldLink "UmbrellaHeir$Refused" (15 : Nat) "UmbrellaHeir$Refused" "fault" "I") ∈ lw_all := lw_g (lw_at lw_m1 104 rfl) rfl
theorem q220 : (Jvm.Cond.fieldLink "UmbrellaHeir$Refused" (9 : Nat) "UmbrellaHeir$Refused" "place" "I") ∈ lw_all := lw_g (lw_at lw_m1 106 rfl) rfl
theorem q227 : (Jvm.Cond.lays "UmbrellaHeir$Refused" "UmbrellaHeir$Refused" "fault" "I") ∈ lw_all := lw_g (lw_at lw_m1 113 rfl) rfl
theorem q228 : (Jvm.Cond.soleField "UmbrellaHeir$Refused" "fault") ∈ lw_all := lw_g (lw_at lw_m1 114 rfl) rfl
theorem q229 : (Jvm.Cond.lays "UmbrellaHeir$Refused" "UmbrellaHeir$Refused" "place" "I") ∈ lw_all := lw_g (lw_at lw_m1 115 rfl) rfl
theorem q230 : (Jvm.Cond.soleField "UmbrellaHeir$Refused" "place") ∈ lw_all := lw_g (lw_at lw_m1 116 rfl) rfl
theorem q235 : (Jvm.Cond.lays "UmbrellaHeir$Refused" "java/lang/Throwable" "depth" "I") ∈ lw_all := lw_g (lw_at lw_m1 121 rfl) rfl
theorem q238 : (Jvm.Cond.superclass "UmbrellaHeir$Refused" "java/lang/RuntimeException") ∈ lw_all := lw_g (lw_at lw_m1 124 rfl) rfl
theorem q649 : (Jvm.Cond.instanceMethod ({ cls := "UmbrellaHeir$Refused", name := "at", desc := "(II)LUmbrellaHeir$Refused;" } : Jvm.MethodName)) ∈ lw_all := lw_g (lw_at lw_m3 55 rfl) rfl
theorem q650 : (Jvm.Cond.selects "UmbrellaHeir$Refused" ({ cls := "UmbrellaHeir$Refused", name := "at", desc := "(II)LUmbrellaHeir$Refused;" } : Jvm.MethodName) ({ cls := "UmbrellaHeir$Refused", name := "at", desc := "(II)LUmbrellaHeir$Refused;" } : Jvm.MethodName)) ∈ lw_all := lw_g (lw_at lw_m3 56 rfl) rfl
theorem q651 : (Jvm.Cond.code ({ cls := "UmbrellaHeir$Refused", name := "at", desc := "(II)LUmbrellaHeir$Refused;" } : Jvm.MethodName) prog_20_method_2_code (3 : Nat) (Option.some (Jvm.ClassFile.FieldType.object "UmbrellaHeir$Refused"))) ∈ lw_all := lw_g (lw_at lw_m3 57 rfl) rfl
theorem q2301 : (Jvm.Cond.castable "UmbrellaHeir$Refused" "java/lang/Object") ∈ lw_tbl := lw_at lw_m10 27 rfl
theorem in_X3 : ∀ w ∈ wsX30, w ∈ lw_all := lw_in wsX30 [177, 179, 181, 183, 185, 235, 227, 229] (by decide +kernel) (by decide +kernel)
/-! UmbrellaHeir$Hall -/
set_option maxRecDepth 100000
def RX4 : String := "UmbrellaHeir$Hall"
def TX4 : u_T := fun k => match k with
  | 0 => ("UmbrellaHeir$Hall", "holders", "[I", true)
  | 1 => ("UmbrellaHeir$Hall", "titles", "[I", true)
  | 2 => ("UmbrellaHeir$Hall", "county", "LUmbrellaHeir$County;", false)
  | _ => ("UmbrellaHeir$Hall", "dry", "I", false)
def tyX4 : Nat → FieldType := fun k => match k with
  | 0 => .array .int
  | 1 => .array .int
  | 2 => .object "UmbrellaHeir$County"
  | _ => .int
abbrev wsX40 : List Cond := u_ws RX4 TX4 4
theorem nmX4 : ∀ a, a < 4 → ∀ b, b < 4 → a ≠ b → (TX4 a).2.1 ≠ (TX4 b).2.1 := by decide +kernel
theorem tyX4_ok : ∀ k, k < 4 → parseFieldDescriptor (TX4 k).2.2.1 = some (tyX4 k) := by decide +kernel
abbrev cX4_init : ByteArray := prog_10_method_1_code
def yX4_init : MethodName := ⟨RX4, "<init>", "()V"⟩
def dkwX4_init_0 : List UInt8 := [42, 183, 0, 3, 42, 8, 188, 10, 181, 0, 9, 42, 8, 188, 10, 181, 0, 15, 177]
abbrev dktX4_init_0 : List UInt8 := dkwX4_init_0 ++ []
theorem dksX4_init_0 : cX4_init.data.toList.drop 0 = dktX4_init_0 := by decide +kernel
theorem dX4_init_0 : decode cX4_init 0 = .ok (.aload_n 0, 1) := dk_42 (dk_at dksX4_init_0 0 rfl rfl)
theorem dX4_init_1 : decode cX4_init 1 = .ok (.invokespecial 3, 3) := dk_183 0 3 (dk_at dksX4_init_0 1 rfl rfl)
theorem dX4_init_4 : decode cX4_init 4 = .ok (.aload_n 0, 1) := dk_42 (dk_at dksX4_init_0 4 rfl rfl)
theorem dX4_init_5 : decode cX4_init 5 = .ok (.iconst 5, 1) := dk_8 (dk_at dksX4_init_0 5 rfl rfl)
theorem dX4_init_6 : decode cX4_init 6 = .ok (.newarray .int, 2) := dk_188_10 (dk_at dksX4_init_0 6 rfl rfl)
theorem dX4_init_8 : decode cX4_init 8 = .ok (.putfield 9, 3) := dk_181 0 9 (dk_at dksX4_init_0 8 rfl rfl)
theorem dX4_init_11 : decode cX4_init 11 = .ok (.aload_n 0, 1) := dk_42 (dk_at dksX4_init_0 11 rfl rfl)
theorem dX4_init_12 : decode cX4_init 12 = .ok (.iconst 5, 1) := dk_8 (dk_at dksX4_init_0 12 rfl rfl)
theorem dX4_init_13 : decode cX4_init 13 = .ok (.newarray .int, 2) := dk_188_10 (dk_at dksX4_init_0 13 rfl rfl)
theorem dX4_init_15 : decode cX4_init 15 = .ok (.putfield 15, 3) := dk_181 0 15 (dk_at dksX4_init_0 15 rfl rfl)
theorem dX4_init_18 : decode cX4_init 18 = .ok (.return_, 1) := dk_177 (dk_at dksX4_init_0 18 rfl rfl)
abbrev cX4_begin : ByteArray := prog_10_method_2_code
def yX4_begin : MethodName := ⟨RX4, "begin", "(LUmbrellaHeir$County;)V"⟩
def dkwX4_begin_2 : List UInt8 := [50, 182, 0, 40, 153, 0, 8, 42, 28, 182, 0, 44, 132, 2, 1, 167, 255, 205, 177]
abbrev dktX4_begin_2 : List UInt8 := dkwX4_begin_2 ++ []
def dkwX4_begin_1 : List UInt8 := [28, 43, 180, 0, 31, 28, 50, 180, 0, 35, 79, 42, 180, 0, 15, 28, 16, 254, 79, 43, 180, 0, 31, 28]
abbrev dktX4_begin_1 : List UInt8 := dkwX4_begin_1 ++ dktX4_begin_2
def dkwX4_begin_0 : List UInt8 := [42, 43, 181, 0, 18, 42, 3, 181, 0, 22, 3, 61, 28, 43, 180, 0, 26, 162, 0, 49, 42, 180, 0, 9]
abbrev dktX4_begin_0 : List UInt8 := dkwX4_begin_0 ++ dktX4_begin_1
theorem dksX4_begin_0 : cX4_begin.data.toList.drop 0 = dktX4_begin_0 := by decide +kernel
theorem dksX4_begin_1 : cX4_begin.data.toList.drop 24 = dktX4_begin_1 := dk_seg dksX4_begin_0 24 rfl rfl
theorem dksX4_begin_2 : cX4_begin.data.toList.drop 48 = dktX4_begin_2 := dk_seg dksX4_begin_1 24 rfl rfl
theorem dX4_begin_0 : decode cX4_begin 0 = .ok (.aload_n 0, 1) := dk_42 (dk_at dksX4_begin_0 0 rfl rfl)
theorem dX4_begin_1 : decode cX4_begin 1 = .ok (.aload_n 1, 1) := dk_43 (dk_at dksX4_begin_0 1 rfl rfl)
theorem dX4_begin_2 : decode cX4_begin 2 = .ok (.putfield 18, 3) := dk_181 0 18 (dk_at dksX4_begin_0 2 rfl rfl)
theorem dX4_begin_5 : decode cX4_begin 5 = .ok (.aload_n 0, 1) := dk_42 (dk_at dksX4_begin_0 5 rfl rfl)
theorem dX4_begin_6 : decode cX4_begin 6 = .ok (.iconst 0, 1) := dk_3 (dk_at dksX4_begin_0 6 rfl rfl)
theorem dX4_begin_7 : decode cX4_begin 7 = .ok (.putfield 22, 3) := dk_181 0 22 (dk_at dksX4_begin_0 7 rfl rfl)
theorem dX4_begin_10 : decode cX4_begin 10 = .ok (.iconst 0, 1) := dk_3 (dk_at dksX4_begin_0 10 rfl rfl)
theorem dX4_begin_11 : decode cX4_begin 11 = .ok (.istore_n 2, 1) := dk_61 (dk_at dksX4_begin_0 11 rfl rfl)
theorem dX4_begin_12 : decode cX4_begin 12 = .ok (.iload_n 2, 1) := dk_28 (dk_at dksX4_begin_0 12 rfl rfl)
theorem dX4_begin_13 : decode cX4_begin 13 = .ok (.aload_n 1, 1) := dk_43 (dk_at dksX4_begin_0 13 rfl rfl)
theorem dX4_begin_14 : decode cX4_begin 14 = .ok (.getfield 26, 3) := dk_180 0 26 (dk_at dksX4_begin_0 14 rfl rfl)
theorem dX4_begin_17 : decode cX4_begin 17 = .ok (.if_icmp .ge 49, 3) := dk_162 0 49 (dk_at dksX4_begin_0 17 rfl rfl)
theorem dX4_begin_20 : decode cX4_begin 20 = .ok (.aload_n 0, 1) := dk_42 (dk_at dksX4_begin_0 20 rfl rfl)
theorem dX4_begin_21 : decode cX4_begin 21 = .ok (.getfield 9, 3) := dk_180 0 9 (dk_at dksX4_begin_0 21 rfl rfl)
theorem dX4_begin_24 : decode cX4_begin 24 = .ok (.iload_n 2, 1) := dk_28 (dk_at dksX4_begin_1 0 rfl rfl)
theorem dX4_begin_25 : decode cX4_begin 25 = .ok (.aload_n 1, 1) := dk_43 (dk_at dksX4_begin_1 1 rfl rfl)
theorem dX4_begin_26 : decode cX4_begin 26 = .ok (.getfield 31, 3) := dk_180 0 31 (dk_at dksX4_begin_1 2 rfl rfl)
theorem dX4_begin_29 : decode cX4_begin 29 = .ok (.iload_n 2, 1) := dk_28 (dk_at dksX4_begin_1 5 rfl rfl)
theorem dX4_begin_30 : decode cX4_begin 30 = .ok (.aaload, 1) := dk_50 (dk_at dksX4_begin_1 6 rfl rfl)
theorem dX4_begin_31 : decode cX4_begin 31 = .ok (.getfield 35, 3) := dk_180 0 35 (dk_at dksX4_begin_1 7 rfl rfl)
theorem dX4_begin_34 : decode cX4_begin 34 = .ok (.iastore, 1) := dk_79 (dk_at dksX4_begin_1 10 rfl rfl)
theorem dX4_begin_35 : decode cX4_begin 35 = .ok (.aload_n 0, 1) := dk_42 (dk_at dksX4_begin_1 11 rfl rfl)
theorem dX4_begin_36 : decode cX4_begin 36 = .ok (.getfield 15, 3) := dk_180 0 15 (dk_at dksX4_begin_1 12 rfl rfl)
theorem dX4_begin_39 : decode cX4_begin 39 = .ok (.iload_n 2, 1) := dk_28 (dk_at dksX4_begin_1 15 rfl rfl)
theorem dX4_begin_40 : decode cX4_begin 40 = .ok (.bipush (-2), 2) := dk_16 254 (dk_at dksX4_begin_1 16 rfl rfl)
theorem dX4_begin_42 : decode cX4_begin 42 = .ok (.iastore, 1) := dk_79 (dk_at dksX4_begin_1 18 rfl rfl)
theorem dX4_begin_43 : decode cX4_begin 43 = .ok (.aload_n 1, 1) := dk_43 (dk_at dksX4_begin_1 19 rfl rfl)
theorem dX4_begin_44 : decode cX4_begin 44 = .ok (.getfield 31, 3) := dk_180 0 31 (dk_at dksX4_begin_1 20 rfl rfl)
theorem dX4_begin_47 : decode cX4_begin 47 = .ok (.iload_n 2, 1) := dk_28 (dk_at dksX4_begin_1 23 rfl rfl)
theorem dX4_begin_48 : decode cX4_begin 48 = .ok (.aaload, 1) := dk_50 (dk_at dksX4_begin_2 0 rfl rfl)
theorem dX4_begin_49 : decode cX4_begin 49 = .ok (.invokevirtual 40, 3) := dk_182 0 40 (dk_at dksX4_begin_2 1 rfl rfl)
theorem dX4_begin_52 : decode cX4_begin 52 = .ok (.ifCond .eq 8, 3) := dk_153 0 8 (dk_at dksX4_begin_2 4 rfl rfl)
theorem dX4_begin_55 : decode cX4_begin 55 = .ok (.aload_n 0, 1) := dk_42 (dk_at dksX4_begin_2 7 rfl rfl)
theorem dX4_begin_56 : decode cX4_begin 56 = .ok (.iload_n 2, 1) := dk_28 (dk_at dksX4_begin_2 8 rfl rfl)
theorem dX4_begin_57 : decode cX4_begin 57 = .ok (.invokevirtual 44, 3) := dk_182 0 44 (dk_at dksX4_begin_2 9 rfl rfl)
theorem dX4_begin_60 : decode cX4_begin 60 = .ok (.iinc 2 1, 3) := dk_132 2 1 (dk_at dksX4_begin_2 12 rfl rfl)
theorem dX4_begin_63 : decode cX4_begin 63 = .ok (.goto (-51), 3) := dk_167 255 205 (dk_at dksX4_begin_2 15 rfl rfl)
theorem dX4_begin_66 : decode cX4_begin 66 = .ok (.return_, 1) := dk_177 (dk_at dksX4_begin_2 18 rfl rfl)
abbrev cX4_takes : ByteArray := prog_10_method_4_code
def yX4_takes : MethodName := ⟨RX4, "takes", "(I)V"⟩
def dkwX4_takes_1 : List UInt8 := [50, 182, 0, 58, 153, 0, 15, 42, 180, 0, 15, 27, 42, 180, 0, 9, 27, 46, 79, 177]
abbrev dktX4_takes_1 : List UInt8 := dkwX4_takes_1 ++ []
def dkwX4_takes_0 : List UInt8 := [42, 180, 0, 9, 27, 46, 16, 254, 159, 0, 35, 42, 180, 0, 18, 180, 0, 54, 42, 180, 0, 9, 27, 46]
abbrev dktX4_takes_0 : List UInt8 := dkwX4_takes_0 ++ dktX4_takes_1
theorem dksX4_takes_0 : cX4_takes.data.toList.drop 0 = dktX4_takes_0 := by decide +kernel
theorem dksX4_takes_1 : cX4_takes.data.toList.drop 24 = dktX4_takes_1 := dk_seg dksX4_takes_0 24 rfl rfl
theorem dX4_takes_0 : decode cX4_takes 0 = .ok (.aload_n 0, 1) := dk_42 (dk_at dksX4_takes_0 0 rfl rfl)
theorem dX4_takes_1 : decode cX4_takes 1 = .ok (.getfield 9, 3) := dk_180 0 9 (dk_at dksX4_takes_0 1 rfl rfl)
theorem dX4_takes_4 : decode cX4_takes 4 = .ok (.iload_n 1, 1) := dk_27 (dk_at dksX4_takes_0 4 rfl rfl)
theorem dX4_takes_5 : decode cX4_takes 5 = .ok (.iaload, 1) := dk_46 (dk_at dksX4_takes_0 5 rfl rfl)
theorem dX4_takes_6 : decode cX4_takes 6 = .ok (.bipush (-2), 2) := dk_16 254 (dk_at dksX4_takes_0 6 rfl rfl)
theorem dX4_takes_8 : decode cX4_takes 8 = .ok (.if_icmp .eq 35, 3) := dk_159 0 35 (dk_at dksX4_takes_0 8 rfl rfl)
theorem dX4_takes_11 : decode cX4_takes 11 = .ok (.aload_n 0, 1) := dk_42 (dk_at dksX4_takes_0 11 rfl rfl)
theorem dX4_takes_12 : decode cX4_takes 12 = .ok (.getfield 18, 3) := dk_180 0 18 (dk_at dksX4_takes_0 12 rfl rfl)
theorem dX4_takes_15 : decode cX4_takes 15 = .ok (.getfield 54, 3) := dk_180 0 54 (dk_at dksX4_takes_0 15 rfl rfl)
theorem dX4_takes_18 : decode cX4_takes 18 = .ok (.aload_n 0, 1) := dk_42 (dk_at dksX4_takes_0 18 rfl rfl)
theorem dX4_takes_19 : decode cX4_takes 19 = .ok (.getfield 9, 3) := dk_180 0 9 (dk_at dksX4_takes_0 19 rfl rfl)
theorem dX4_takes_22 : decode cX4_takes 22 = .ok (.iload_n 1, 1) := dk_27 (dk_at dksX4_takes_0 22 rfl rfl)
theorem dX4_takes_23 : decode cX4_takes 23 = .ok (.iaload, 1) := dk_46 (dk_at dksX4_takes_0 23 rfl rfl)
theorem dX4_takes_24 : decode cX4_takes 24 = .ok (.aaload, 1) := dk_50 (dk_at dksX4_takes_1 0 rfl rfl)
theorem dX4_takes_25 : decode cX4_takes 25 = .ok (.invokevirtual 58, 3) := dk_182 0 58 (dk_at dksX4_takes_1 1 rfl rfl)
theorem dX4_takes_28 : decode cX4_takes 28 = .ok (.ifCond .eq 15, 3) := dk_153 0 15 (dk_at dksX4_takes_1 4 rfl rfl)
theorem dX4_takes_31 : decode cX4_takes 31 = .ok (.aload_n 0, 1) := dk_42 (dk_at dksX4_takes_1 7 rfl rfl)
theorem dX4_takes_32 : decode cX4_takes 32 = .ok (.getfield 15, 3) := dk_180 0 15 (dk_at dksX4_takes_1 8 rfl rfl)
theorem dX4_takes_35 : decode cX4_takes 35 = .ok (.iload_n 1, 1) := dk_27 (dk_at dksX4_takes_1 11 rfl rfl)
theorem dX4_takes_36 : decode cX4_takes 36 = .ok (.aload_n 0, 1) := dk_42 (dk_at dksX4_takes_1 12 rfl rfl)
theorem dX4_takes_37 : decode cX4_takes 37 = .ok (.getfield 9, 3) := dk_180 0 9 (dk_at dksX4_takes_1 13 rfl rfl)
theorem dX4_takes_40 : decode cX4_takes 40 = .ok (.iload_n 1, 1) := dk_27 (dk_at dksX4_takes_1 16 rfl rfl)
theorem dX4_takes_41 : decode cX4_takes 41 = .ok (.iaload, 1) := dk_46 (dk_at dksX4_takes_1 17 rfl rfl)
theorem dX4_takes_42 : decode cX4_takes 42 = .ok (.iastore, 1) := dk_79 (dk_at dksX4_takes_1 18 rfl rfl)
theorem dX4_takes_43 : decode cX4_takes 43 = .ok (.return_, 1) := dk_177 (dk_at dksX4_takes_1 19 rfl rfl)
abbrev cX4_change : ByteArray := prog_10_method_5_code
def yX4_change : MethodName := ⟨RX4, "change", "(II)V"⟩
def dkwX4_change_1 : List UInt8 := [29, 79, 177]
abbrev dktX4_change_1 : List UInt8 := dkwX4_change_1 ++ []
def dkwX4_change_0 : List UInt8 := [42, 180, 0, 9, 27, 46, 62, 42, 180, 0, 9, 27, 42, 180, 0, 9, 28, 46, 79, 42, 180, 0, 9, 28]
abbrev dktX4_change_0 : List UInt8 := dkwX4_change_0 ++ dktX4_change_1
theorem dksX4_change_0 : cX4_change.data.toList.drop 0 = dktX4_change_0 := by decide +kernel
theorem dksX4_change_1 : cX4_change.data.toList.drop 24 = dktX4_change_1 := dk_seg dksX4_change_0 24 rfl rfl
theorem dX4_change_0 : decode cX4_change 0 = .ok (.aload_n 0, 1) := dk_42 (dk_at dksX4_change_0 0 rfl rfl)
theorem dX4_change_1 : decode cX4_change 1 = .ok (.getfield 9, 3) := dk_180 0 9 (dk_at dksX4_change_0 1 rfl rfl)
theorem dX4_change_4 : decode cX4_change 4 = .ok (.iload_n 1, 1) := dk_27 (dk_at dksX4_change_0 4 rfl rfl)
theorem dX4_change_5 : decode cX4_change 5 = .ok (.iaload, 1) := dk_46 (dk_at dksX4_change_0 5 rfl rfl)
theorem dX4_change_6 : decode cX4_change 6 = .ok (.istore_n 3, 1) := dk_62 (dk_at dksX4_change_0 6 rfl rfl)
theorem dX4_change_7 : decode cX4_change 7 = .ok (.aload_n 0, 1) := dk_42 (dk_at dksX4_change_0 7 rfl rfl)
theorem dX4_change_8 : decode cX4_change 8 = .ok (.getfield 9, 3) := dk_180 0 9 (dk_at dksX4_change_0 8 rfl rfl)
theorem dX4_change_11 : decode cX4_change 11 = .ok (.iload_n 1, 1) := dk_27 (dk_at dksX4_change_0 11 rfl rfl)
theorem dX4_change_12 : decode cX4_change 12 = .ok (.aload_n 0, 1) := dk_42 (dk_at dksX4_change_0 12 rfl rfl)
theorem dX4_change_13 : decode cX4_change 13 = .ok (.getfield 9, 3) := dk_180 0 9 (dk_at dksX4_change_0 13 rfl rfl)
theorem dX4_change_16 : decode cX4_change 16 = .ok (.iload_n 2, 1) := dk_28 (dk_at dksX4_change_0 16 rfl rfl)
theorem dX4_change_17 : decode cX4_change 17 = .ok (.iaload, 1) := dk_46 (dk_at dksX4_change_0 17 rfl rfl)
theorem dX4_change_18 : decode cX4_change 18 = .ok (.iastore, 1) := dk_79 (dk_at dksX4_change_0 18 rfl rfl)
theorem dX4_change_19 : decode cX4_change 19 = .ok (.aload_n 0, 1) := dk_42 (dk_at dksX4_change_0 19 rfl rfl)
theorem dX4_change_20 : decode cX4_change 20 = .ok (.getfield 9, 3) := dk_180 0 9 (dk_at dksX4_change_0 20 rfl rfl)
theorem dX4_change_23 : decode cX4_change 23 = .ok (.iload_n 2, 1) := dk_28 (dk_at dksX4_change_0 23 rfl rfl)
theorem dX4_change_24 : decode cX4_change 24 = .ok (.iload_n 3, 1) := dk_29 (dk_at dksX4_change_1 0 rfl rfl)
theorem dX4_change_25 : decode cX4_change 25 = .ok (.iastore, 1) := dk_79 (dk_at dksX4_change_1 1 rfl rfl)
theorem dX4_change_26 : decode cX4_change 26 = .ok (.return_, 1) := dk_177 (dk_at dksX4_change_1 2 rfl rfl)
abbrev cX4_ends : ByteArray := prog_10_method_10_code
def yX4_ends : MethodName := ⟨RX4, "ends", "(Z)V"⟩
def dkwX4_ends_6 : List UInt8 := [50, 182, 0, 95, 153, 0, 8, 42, 28, 182, 0, 98, 132, 2, 1, 167, 255, 222, 177]
abbrev dktX4_ends_6 : List UInt8 := dkwX4_ends_6 ++ []
def dkwX4_ends_5 : List UInt8 := [167, 255, 205, 3, 61, 28, 42, 180, 0, 18, 180, 0, 92, 162, 0, 29, 42, 180, 0, 18, 180, 0, 54, 28]
abbrev dktX4_ends_5 : List UInt8 := dkwX4_ends_5 ++ dktX4_ends_6
def dkwX4_ends_4 : List UInt8 := [180, 0, 31, 28, 50, 182, 0, 89, 153, 0, 11, 42, 180, 0, 15, 28, 16, 254, 79, 132, 2, 1]
abbrev dktX4_ends_4 : List UInt8 := dkwX4_ends_4 ++ dktX4_ends_5
def dkwX4_ends_3 : List UInt8 := [180, 0, 26, 162, 0, 46, 42, 180, 0, 22, 42, 180, 0, 18, 180, 0, 86, 161, 0, 32, 42, 180, 0, 18]
abbrev dktX4_ends_3 : List UInt8 := dkwX4_ends_3 ++ dktX4_ends_4
def dkwX4_ends_2 : List UInt8 := [182, 0, 82, 153, 0, 8, 42, 28, 182, 0, 44, 132, 2, 1, 167, 255, 221, 3, 61, 28, 42, 180, 0, 18]
abbrev dktX4_ends_2 : List UInt8 := dkwX4_ends_2 ++ dktX4_ends_3
def dkwX4_ends_1 : List UInt8 := [61, 28, 42, 180, 0, 18, 180, 0, 26, 162, 0, 30, 42, 180, 0, 18, 180, 0, 31, 28, 50, 27]
abbrev dktX4_ends_1 : List UInt8 := dkwX4_ends_1 ++ dktX4_ends_2
def dkwX4_ends_0 : List UInt8 := [42, 27, 153, 0, 7, 3, 167, 0, 14, 16, 30, 42, 180, 0, 22, 4, 96, 184, 0, 76, 181, 0, 22, 3]
abbrev dktX4_ends_0 : List UInt8 := dkwX4_ends_0 ++ dktX4_ends_1
theorem dksX4_ends_0 : cX4_ends.data.toList.drop 0 = dktX4_ends_0 := by decide +kernel
theorem dksX4_ends_1 : cX4_ends.data.toList.drop 24 = dktX4_ends_1 := dk_seg dksX4_ends_0 24 rfl rfl
theorem dksX4_ends_2 : cX4_ends.data.toList.drop 46 = dktX4_ends_2 := dk_seg dksX4_ends_1 22 rfl rfl
theorem dksX4_ends_3 : cX4_ends.data.toList.drop 70 = dktX4_ends_3 := dk_seg dksX4_ends_2 24 rfl rfl
theorem dksX4_ends_4 : cX4_ends.data.toList.drop 94 = dktX4_ends_4 := dk_seg dksX4_ends_3 24 rfl rfl
theorem dksX4_ends_5 : cX4_ends.data.toList.drop 116 = dktX4_ends_5 := dk_seg dksX4_ends_4 22 rfl rfl
theorem dksX4_ends_6 : cX4_ends.data.toList.drop 140 = dktX4_ends_6 := dk_seg dksX4_ends_5 24 rfl rfl
theorem dX4_ends_0 : decode cX4_ends 0 = .ok (.aload_n 0, 1) := dk_42 (dk_at dksX4_ends_0 0 rfl rfl)
theorem dX4_ends_1 : decode cX4_ends 1 = .ok (.iload_n 1, 1) := dk_27 (dk_at dksX4_ends_0 1 rfl rfl)
theorem dX4_ends_2 : decode cX4_ends 2 = .ok (.ifCond .eq 7, 3) := dk_153 0 7 (dk_at dksX4_ends_0 2 rfl rfl)
theorem dX4_ends_5 : decode cX4_ends 5 = .ok (.iconst 0, 1) := dk_3 (dk_at dksX4_ends_0 5 rfl rfl)
theorem dX4_ends_6 : decode cX4_ends 6 = .ok (.goto 14, 3) := dk_167 0 14 (dk_at dksX4_ends_0 6 rfl rfl)
theorem dX4_ends_9 : decode cX4_ends 9 = .ok (.bipush 30, 2) := dk_16 30 (dk_at dksX4_ends_0 9 rfl rfl)
theorem dX4_ends_11 : decode cX4_ends 11 = .ok (.aload_n 0, 1) := dk_42 (dk_at dksX4_ends_0 11 rfl rfl)
theorem dX4_ends_12 : decode cX4_ends 12 = .ok (.getfield 22, 3) := dk_180 0 22 (dk_at dksX4_ends_0 12 rfl rfl)
theorem dX4_ends_15 : decode cX4_ends 15 = .ok (.iconst 1, 1) := dk_4 (dk_at dksX4_ends_0 15 rfl rfl)
theorem dX4_ends_16 : decode cX4_ends 16 = .ok (.iadd, 1) := dk_96 (dk_at dksX4_ends_0 16 rfl rfl)
theorem dX4_ends_17 : decode cX4_ends 17 = .ok (.invokestatic 76, 3) := dk_184 0 76 (dk_at dksX4_ends_0 17 rfl rfl)
theorem dX4_ends_20 : decode cX4_ends 20 = .ok (.putfield 22, 3) := dk_181 0 22 (dk_at dksX4_ends_0 20 rfl rfl)
theorem dX4_ends_23 : decode cX4_ends 23 = .ok (.iconst 0, 1) := dk_3 (dk_at dksX4_ends_0 23 rfl rfl)
theorem dX4_ends_24 : decode cX4_ends 24 = .ok (.istore_n 2, 1) := dk_61 (dk_at dksX4_ends_1 0 rfl rfl)
theorem dX4_ends_25 : decode cX4_ends 25 = .ok (.iload_n 2, 1) := dk_28 (dk_at dksX4_ends_1 1 rfl rfl)
theorem dX4_ends_26 : decode cX4_ends 26 = .ok (.aload_n 0, 1) := dk_42 (dk_at dksX4_ends_1 2 rfl rfl)
theorem dX4_ends_27 : decode cX4_ends 27 = .ok (.getfield 18, 3) := dk_180 0 18 (dk_at dksX4_ends_1 3 rfl rfl)
theorem dX4_ends_30 : decode cX4_ends 30 = .ok (.getfield 26, 3) := dk_180 0 26 (dk_at dksX4_ends_1 6 rfl rfl)
theorem dX4_ends_33 : decode cX4_ends 33 = .ok (.if_icmp .ge 30, 3) := dk_162 0 30 (dk_at dksX4_ends_1 9 rfl rfl)
theorem dX4_ends_36 : decode cX4_ends 36 = .ok (.aload_n 0, 1) := dk_42 (dk_at dksX4_ends_1 12 rfl rfl)
theorem dX4_ends_37 : decode cX4_ends 37 = .ok (.getfield 18, 3) := dk_180 0 18 (dk_at dksX4_ends_1 13 rfl rfl)
theorem dX4_ends_40 : decode cX4_ends 40 = .ok (.getfield 31, 3) := dk_180 0 31 (dk_at dksX4_ends_1 16 rfl rfl)
theorem dX4_ends_43 : decode cX4_ends 43 = .ok (.iload_n 2, 1) := dk_28 (dk_at dksX4_ends_1 19 rfl rfl)
theorem dX4_ends_44 : decode cX4_ends 44 = .ok (.aaload, 1) := dk_50 (dk_at dksX4_ends_1 20 rfl rfl)
theorem dX4_ends_45 : decode cX4_ends 45 = .ok (.iload_n 1, 1) := dk_27 (dk_at dksX4_ends_1 21 rfl rfl)
theorem dX4_ends_46 : decode cX4_ends 46 = .ok (.invokevirtual 82, 3) := dk_182 0 82 (dk_at dksX4_ends_2 0 rfl rfl)
theorem dX4_ends_49 : decode cX4_ends 49 = .ok (.ifCond .eq 8, 3) := dk_153 0 8 (dk_at dksX4_ends_2 3 rfl rfl)
theorem dX4_ends_52 : decode cX4_ends 52 = .ok (.aload_n 0, 1) := dk_42 (dk_at dksX4_ends_2 6 rfl rfl)
theorem dX4_ends_53 : decode cX4_ends 53 = .ok (.iload_n 2, 1) := dk_28 (dk_at dksX4_ends_2 7 rfl rfl)
theorem dX4_ends_54 : decode cX4_ends 54 = .ok (.invokevirtual 44, 3) := dk_182 0 44 (dk_at dksX4_ends_2 8 rfl rfl)
theorem dX4_ends_57 : decode cX4_ends 57 = .ok (.iinc 2 1, 3) := dk_132 2 1 (dk_at dksX4_ends_2 11 rfl rfl)
theorem dX4_ends_60 : decode cX4_ends 60 = .ok (.goto (-35), 3) := dk_167 255 221 (dk_at dksX4_ends_2 14 rfl rfl)
theorem dX4_ends_63 : decode cX4_ends 63 = .ok (.iconst 0, 1) := dk_3 (dk_at dksX4_ends_2 17 rfl rfl)
theorem dX4_ends_64 : decode cX4_ends 64 = .ok (.istore_n 2, 1) := dk_61 (dk_at dksX4_ends_2 18 rfl rfl)
theorem dX4_ends_65 : decode cX4_ends 65 = .ok (.iload_n 2, 1) := dk_28 (dk_at dksX4_ends_2 19 rfl rfl)
theorem dX4_ends_66 : decode cX4_ends 66 = .ok (.aload_n 0, 1) := dk_42 (dk_at dksX4_ends_2 20 rfl rfl)
theorem dX4_ends_67 : decode cX4_ends 67 = .ok (.getfield 18, 3) := dk_180 0 18 (dk_at dksX4_ends_2 21 rfl rfl)
theorem dX4_ends_70 : decode cX4_ends 70 = .ok (.getfield 26, 3) := dk_180 0 26 (dk_at dksX4_ends_3 0 rfl rfl)
theorem dX4_ends_73 : decode cX4_ends 73 = .ok (.if_icmp .ge 46, 3) := dk_162 0 46 (dk_at dksX4_ends_3 3 rfl rfl)
theorem dX4_ends_76 : decode cX4_ends 76 = .ok (.aload_n 0, 1) := dk_42 (dk_at dksX4_ends_3 6 rfl rfl)
theorem dX4_ends_77 : decode cX4_ends 77 = .ok (.getfield 22, 3) := dk_180 0 22 (dk_at dksX4_ends_3 7 rfl rfl)
theorem dX4_ends_80 : decode cX4_ends 80 = .ok (.aload_n 0, 1) := dk_42 (dk_at dksX4_ends_3 10 rfl rfl)
theorem dX4_ends_81 : decode cX4_ends 81 = .ok (.getfield 18, 3) := dk_180 0 18 (dk_at dksX4_ends_3 11 rfl rfl)
theorem dX4_ends_84 : decode cX4_ends 84 = .ok (.getfield 86, 3) := dk_180 0 86 (dk_at dksX4_ends_3 14 rfl rfl)
theorem dX4_ends_87 : decode cX4_ends 87 = .ok (.if_icmp .lt 32, 3) := dk_161 0 32 (dk_at dksX4_ends_3 17 rfl rfl)
theorem dX4_ends_90 : decode cX4_ends 90 = .ok (.aload_n 0, 1) := dk_42 (dk_at dksX4_ends_3 20 rfl rfl)
theorem dX4_ends_91 : decode cX4_ends 91 = .ok (.getfield 18, 3) := dk_180 0 18 (dk_at dksX4_ends_3 21 rfl rfl)
theorem dX4_ends_94 : decode cX4_ends 94 = .ok (.getfield 31, 3) := dk_180 0 31 (dk_at dksX4_ends_4 0 rfl rfl)
theorem dX4_ends_97 : decode cX4_ends 97 = .ok (.iload_n 2, 1) := dk_28 (dk_at dksX4_ends_4 3 rfl rfl)
theorem dX4_ends_98 : decode cX4_ends 98 = .ok (.aaload, 1) := dk_50 (dk_at dksX4_ends_4 4 rfl rfl)
theorem dX4_ends_99 : decode cX4_ends 99 = .ok (.invokevirtual 89, 3) := dk_182 0 89 (dk_at dksX4_ends_4 5 rfl rfl)
theorem dX4_ends_102 : decode cX4_ends 102 = .ok (.ifCond .eq 11, 3) := dk_153 0 11 (dk_at dksX4_ends_4 8 rfl rfl)
theorem dX4_ends_105 : decode cX4_ends 105 = .ok (.aload_n 0, 1) := dk_42 (dk_at dksX4_ends_4 11 rfl rfl)
theorem dX4_ends_106 : decode cX4_ends 106 = .ok (.getfield 15, 3) := dk_180 0 15 (dk_at dksX4_ends_4 12 rfl rfl)
theorem dX4_ends_109 : decode cX4_ends 109 = .ok (.iload_n 2, 1) := dk_28 (dk_at dksX4_ends_4 15 rfl rfl)
theorem dX4_ends_110 : decode cX4_ends 110 = .ok (.bipush (-2), 2) := dk_16 254 (dk_at dksX4_ends_4 16 rfl rfl)
theorem dX4_ends_112 : decode cX4_ends 112 = .ok (.iastore, 1) := dk_79 (dk_at dksX4_ends_4 18 rfl rfl)
theorem dX4_ends_113 : decode cX4_ends 113 = .ok (.iinc 2 1, 3) := dk_132 2 1 (dk_at dksX4_ends_4 19 rfl rfl)
theorem dX4_ends_116 : decode cX4_ends 116 = .ok (.goto (-51), 3) := dk_167 255 205 (dk_at dksX4_ends_5 0 rfl rfl)
theorem dX4_ends_119 : decode cX4_ends 119 = .ok (.iconst 0, 1) := dk_3 (dk_at dksX4_ends_5 3 rfl rfl)
theorem dX4_ends_120 : decode cX4_ends 120 = .ok (.istore_n 2, 1) := dk_61 (dk_at dksX4_ends_5 4 rfl rfl)
theorem dX4_ends_121 : decode cX4_ends 121 = .ok (.iload_n 2, 1) := dk_28 (dk_at dksX4_ends_5 5 rfl rfl)
theorem dX4_ends_122 : decode cX4_ends 122 = .ok (.aload_n 0, 1) := dk_42 (dk_at dksX4_ends_5 6 rfl rfl)
theorem dX4_ends_123 : decode cX4_ends 123 = .ok (.getfield 18, 3) := dk_180 0 18 (dk_at dksX4_ends_5 7 rfl rfl)
theorem dX4_ends_126 : decode cX4_ends 126 = .ok (.getfield 92, 3) := dk_180 0 92 (dk_at dksX4_ends_5 10 rfl rfl)
theorem dX4_ends_129 : decode cX4_ends 129 = .ok (.if_icmp .ge 29, 3) := dk_162 0 29 (dk_at dksX4_ends_5 13 rfl rfl)
theorem dX4_ends_132 : decode cX4_ends 132 = .ok (.aload_n 0, 1) := dk_42 (dk_at dksX4_ends_5 16 rfl rfl)
theorem dX4_ends_133 : decode cX4_ends 133 = .ok (.getfield 18, 3) := dk_180 0 18 (dk_at dksX4_ends_5 17 rfl rfl)
theorem dX4_ends_136 : decode cX4_ends 136 = .ok (.getfield 54, 3) := dk_180 0 54 (dk_at dksX4_ends_5 20 rfl rfl)
theorem dX4_ends_139 : decode cX4_ends 139 = .ok (.iload_n 2, 1) := dk_28 (dk_at dksX4_ends_5 23 rfl rfl)
theorem dX4_ends_140 : decode cX4_ends 140 = .ok (.aaload, 1) := dk_50 (dk_at dksX4_ends_6 0 rfl rfl)
theorem dX4_ends_141 : decode cX4_ends 141 = .ok (.invokevirtual 95, 3) := dk_182 0 95 (dk_at dksX4_ends_6 1 rfl rfl)
theorem dX4_ends_144 : decode cX4_ends 144 = .ok (.ifCond .eq 8, 3) := dk_153 0 8 (dk_at dksX4_ends_6 4 rfl rfl)
theorem dX4_ends_147 : decode cX4_ends 147 = .ok (.aload_n 0, 1) := dk_42 (dk_at dksX4_ends_6 7 rfl rfl)
theorem dX4_ends_148 : decode cX4_ends 148 = .ok (.iload_n 2, 1) := dk_28 (dk_at dksX4_ends_6 8 rfl rfl)
theorem dX4_ends_149 : decode cX4_ends 149 = .ok (.invokevirtual 98, 3) := dk_182 0 98 (dk_at dksX4_ends_6 9 rfl rfl)
theorem dX4_ends_152 : decode cX4_ends 152 = .ok (.iinc 2 1, 3) := dk_132 2 1 (dk_at dksX4_ends_6 12 rfl rfl)
theorem dX4_ends_155 : decode cX4_ends 155 = .ok (.goto (-34), 3) := dk_167 255 222 (dk_at dksX4_ends_6 15 rfl rfl)
theorem dX4_ends_158 : decode cX4_ends 158 = .ok (.return_, 1) := dk_177 (dk_at dksX4_ends_6 18 rfl rfl)
abbrev cX4_leaves : ByteArray := prog_10_method_9_code
def yX4_leaves : MethodName := ⟨RX4, "leaves", "(I)V"⟩
def dkwX4_leaves_3 : List UInt8 := [180, 0, 63, 162, 0, 6, 21, 4, 62, 132, 4, 1, 167, 255, 195, 42, 180, 0, 9, 29, 16, 254, 79, 177]
abbrev dktX4_leaves_3 : List UInt8 := dkwX4_leaves_3 ++ []
def dkwX4_leaves_2 : List UInt8 := [42, 180, 0, 18, 180, 0, 31, 21, 4, 50, 180, 0, 63, 42, 180, 0, 18, 180, 0, 31, 29, 50]
abbrev dktX4_leaves_2 : List UInt8 := dkwX4_leaves_2 ++ dktX4_leaves_3
def dkwX4_leaves_1 : List UInt8 := [180, 0, 18, 180, 0, 26, 162, 0, 55, 28, 21, 4, 184, 0, 73, 153, 0, 40, 29, 16, 254, 159, 0, 31]
abbrev dktX4_leaves_1 : List UInt8 := dkwX4_leaves_1 ++ dktX4_leaves_2
def dkwX4_leaves_0 : List UInt8 := [42, 27, 182, 0, 66, 61, 28, 184, 0, 70, 5, 162, 0, 4, 177, 16, 254, 62, 3, 54, 4, 21, 4, 42]
abbrev dktX4_leaves_0 : List UInt8 := dkwX4_leaves_0 ++ dktX4_leaves_1
theorem dksX4_leaves_0 : cX4_leaves.data.toList.drop 0 = dktX4_leaves_0 := by decide +kernel
theorem dksX4_leaves_1 : cX4_leaves.data.toList.drop 24 = dktX4_leaves_1 := dk_seg dksX4_leaves_0 24 rfl rfl
theorem dksX4_leaves_2 : cX4_leaves.data.toList.drop 48 = dktX4_leaves_2 := dk_seg dksX4_leaves_1 24 rfl rfl
theorem dksX4_leaves_3 : cX4_leaves.data.toList.drop 70 = dktX4_leaves_3 := dk_seg dksX4_leaves_2 22 rfl rfl
theorem dX4_leaves_0 : decode cX4_leaves 0 = .ok (.aload_n 0, 1) := dk_42 (dk_at dksX4_leaves_0 0 rfl rfl)
theorem dX4_leaves_1 : decode cX4_leaves 1 = .ok (.iload_n 1, 1) := dk_27 (dk_at dksX4_leaves_0 1 rfl rfl)
theorem dX4_leaves_2 : decode cX4_leaves 2 = .ok (.invokevirtual 66, 3) := dk_182 0 66 (dk_at dksX4_leaves_0 2 rfl rfl)
theorem dX4_leaves_5 : decode cX4_leaves 5 = .ok (.istore_n 2, 1) := dk_61 (dk_at dksX4_leaves_0 5 rfl rfl)
theorem dX4_leaves_6 : decode cX4_leaves 6 = .ok (.iload_n 2, 1) := dk_28 (dk_at dksX4_leaves_0 6 rfl rfl)
theorem dX4_leaves_7 : decode cX4_leaves 7 = .ok (.invokestatic 70, 3) := dk_184 0 70 (dk_at dksX4_leaves_0 7 rfl rfl)
theorem dX4_leaves_10 : decode cX4_leaves 10 = .ok (.iconst 2, 1) := dk_5 (dk_at dksX4_leaves_0 10 rfl rfl)
theorem dX4_leaves_11 : decode cX4_leaves 11 = .ok (.if_icmp .ge 4, 3) := dk_162 0 4 (dk_at dksX4_leaves_0 11 rfl rfl)
theorem dX4_leaves_14 : decode cX4_leaves 14 = .ok (.return_, 1) := dk_177 (dk_at dksX4_leaves_0 14 rfl rfl)
theorem dX4_leaves_15 : decode cX4_leaves 15 = .ok (.bipush (-2), 2) := dk_16 254 (dk_at dksX4_leaves_0 15 rfl rfl)
theorem dX4_leaves_17 : decode cX4_leaves 17 = .ok (.istore_n 3, 1) := dk_62 (dk_at dksX4_leaves_0 17 rfl rfl)
theorem dX4_leaves_18 : decode cX4_leaves 18 = .ok (.iconst 0, 1) := dk_3 (dk_at dksX4_leaves_0 18 rfl rfl)
theorem dX4_leaves_19 : decode cX4_leaves 19 = .ok (.istore 4, 2) := dk_54 4 (dk_at dksX4_leaves_0 19 rfl rfl)
theorem dX4_leaves_21 : decode cX4_leaves 21 = .ok (.iload 4, 2) := dk_21 4 (dk_at dksX4_leaves_0 21 rfl rfl)
theorem dX4_leaves_23 : decode cX4_leaves 23 = .ok (.aload_n 0, 1) := dk_42 (dk_at dksX4_leaves_0 23 rfl rfl)
theorem dX4_leaves_24 : decode cX4_leaves 24 = .ok (.getfield 18, 3) := dk_180 0 18 (dk_at dksX4_leaves_1 0 rfl rfl)
theorem dX4_leaves_27 : decode cX4_leaves 27 = .ok (.getfield 26, 3) := dk_180 0 26 (dk_at dksX4_leaves_1 3 rfl rfl)
theorem dX4_leaves_30 : decode cX4_leaves 30 = .ok (.if_icmp .ge 55, 3) := dk_162 0 55 (dk_at dksX4_leaves_1 6 rfl rfl)
theorem dX4_leaves_33 : decode cX4_leaves 33 = .ok (.iload_n 2, 1) := dk_28 (dk_at dksX4_leaves_1 9 rfl rfl)
theorem dX4_leaves_34 : decode cX4_leaves 34 = .ok (.iload 4, 2) := dk_21 4 (dk_at dksX4_leaves_1 10 rfl rfl)
theorem dX4_leaves_36 : decode cX4_leaves 36 = .ok (.invokestatic 73, 3) := dk_184 0 73 (dk_at dksX4_leaves_1 12 rfl rfl)
theorem dX4_leaves_39 : decode cX4_leaves 39 = .ok (.ifCond .eq 40, 3) := dk_153 0 40 (dk_at dksX4_leaves_1 15 rfl rfl)
theorem dX4_leaves_42 : decode cX4_leaves 42 = .ok (.iload_n 3, 1) := dk_29 (dk_at dksX4_leaves_1 18 rfl rfl)
theorem dX4_leaves_43 : decode cX4_leaves 43 = .ok (.bipush (-2), 2) := dk_16 254 (dk_at dksX4_leaves_1 19 rfl rfl)
theorem dX4_leaves_45 : decode cX4_leaves 45 = .ok (.if_icmp .eq 31, 3) := dk_159 0 31 (dk_at dksX4_leaves_1 21 rfl rfl)
theorem dX4_leaves_48 : decode cX4_leaves 48 = .ok (.aload_n 0, 1) := dk_42 (dk_at dksX4_leaves_2 0 rfl rfl)
theorem dX4_leaves_49 : decode cX4_leaves 49 = .ok (.getfield 18, 3) := dk_180 0 18 (dk_at dksX4_leaves_2 1 rfl rfl)
theorem dX4_leaves_52 : decode cX4_leaves 52 = .ok (.getfield 31, 3) := dk_180 0 31 (dk_at dksX4_leaves_2 4 rfl rfl)
theorem dX4_leaves_55 : decode cX4_leaves 55 = .ok (.iload 4, 2) := dk_21 4 (dk_at dksX4_leaves_2 7 rfl rfl)
theorem dX4_leaves_57 : decode cX4_leaves 57 = .ok (.aaload, 1) := dk_50 (dk_at dksX4_leaves_2 9 rfl rfl)
theorem dX4_leaves_58 : decode cX4_leaves 58 = .ok (.getfield 63, 3) := dk_180 0 63 (dk_at dksX4_leaves_2 10 rfl rfl)
theorem dX4_leaves_61 : decode cX4_leaves 61 = .ok (.aload_n 0, 1) := dk_42 (dk_at dksX4_leaves_2 13 rfl rfl)
theorem dX4_leaves_62 : decode cX4_leaves 62 = .ok (.getfield 18, 3) := dk_180 0 18 (dk_at dksX4_leaves_2 14 rfl rfl)
theorem dX4_leaves_65 : decode cX4_leaves 65 = .ok (.getfield 31, 3) := dk_180 0 31 (dk_at dksX4_leaves_2 17 rfl rfl)
theorem dX4_leaves_68 : decode cX4_leaves 68 = .ok (.iload_n 3, 1) := dk_29 (dk_at dksX4_leaves_2 20 rfl rfl)
theorem dX4_leaves_69 : decode cX4_leaves 69 = .ok (.aaload, 1) := dk_50 (dk_at dksX4_leaves_2 21 rfl rfl)
theorem dX4_leaves_70 : decode cX4_leaves 70 = .ok (.getfield 63, 3) := dk_180 0 63 (dk_at dksX4_leaves_3 0 rfl rfl)
theorem dX4_leaves_73 : decode cX4_leaves 73 = .ok (.if_icmp .ge 6, 3) := dk_162 0 6 (dk_at dksX4_leaves_3 3 rfl rfl)
theorem dX4_leaves_76 : decode cX4_leaves 76 = .ok (.iload 4, 2) := dk_21 4 (dk_at dksX4_leaves_3 6 rfl rfl)
theorem dX4_leaves_78 : decode cX4_leaves 78 = .ok (.istore_n 3, 1) := dk_62 (dk_at dksX4_leaves_3 8 rfl rfl)
theorem dX4_leaves_79 : decode cX4_leaves 79 = .ok (.iinc 4 1, 3) := dk_132 4 1 (dk_at dksX4_leaves_3 9 rfl rfl)
theorem dX4_leaves_82 : decode cX4_leaves 82 = .ok (.goto (-61), 3) := dk_167 255 195 (dk_at dksX4_leaves_3 12 rfl rfl)
theorem dX4_leaves_85 : decode cX4_leaves 85 = .ok (.aload_n 0, 1) := dk_42 (dk_at dksX4_leaves_3 15 rfl rfl)
theorem dX4_leaves_86 : decode cX4_leaves 86 = .ok (.getfield 9, 3) := dk_180 0 9 (dk_at dksX4_leaves_3 16 rfl rfl)
theorem dX4_leaves_89 : decode cX4_leaves 89 = .ok (.iload_n 3, 1) := dk_29 (dk_at dksX4_leaves_3 19 rfl rfl)
theorem dX4_leaves_90 : decode cX4_leaves 90 = .ok (.bipush (-2), 2) := dk_16 254 (dk_at dksX4_leaves_3 20 rfl rfl)
theorem dX4_leaves_92 : decode cX4_leaves 92 = .ok (.iastore, 1) := dk_79 (dk_at dksX4_leaves_3 22 rfl rfl)
theorem dX4_leaves_93 : decode cX4_leaves 93 = .ok (.return_, 1) := dk_177 (dk_at dksX4_leaves_3 23 rfl rfl)
abbrev cX4_has : ByteArray := prog_10_method_6_code
def yX4_has : MethodName := ⟨RX4, "has", "(I)I"⟩
def dkwX4_has_1 : List UInt8 := [160, 0, 9, 4, 29, 120, 167, 0, 4, 3, 128, 61, 132, 3, 1, 167, 255, 222, 28, 172]
abbrev dktX4_has_1 : List UInt8 := dkwX4_has_1 ++ []
def dkwX4_has_0 : List UInt8 := [3, 61, 3, 62, 29, 42, 180, 0, 18, 180, 0, 26, 162, 0, 29, 28, 42, 180, 0, 9, 29, 46, 27]
abbrev dktX4_has_0 : List UInt8 := dkwX4_has_0 ++ dktX4_has_1
theorem dksX4_has_0 : cX4_has.data.toList.drop 0 = dktX4_has_0 := by decide +kernel
theorem dksX4_has_1 : cX4_has.data.toList.drop 23 = dktX4_has_1 := dk_seg dksX4_has_0 23 rfl rfl
theorem dX4_has_0 : decode cX4_has 0 = .ok (.iconst 0, 1) := dk_3 (dk_at dksX4_has_0 0 rfl rfl)
theorem dX4_has_1 : decode cX4_has 1 = .ok (.istore_n 2, 1) := dk_61 (dk_at dksX4_has_0 1 rfl rfl)
theorem dX4_has_2 : decode cX4_has 2 = .ok (.iconst 0, 1) := dk_3 (dk_at dksX4_has_0 2 rfl rfl)
theorem dX4_has_3 : decode cX4_has 3 = .ok (.istore_n 3, 1) := dk_62 (dk_at dksX4_has_0 3 rfl rfl)
theorem dX4_has_4 : decode cX4_has 4 = .ok (.iload_n 3, 1) := dk_29 (dk_at dksX4_has_0 4 rfl rfl)
theorem dX4_has_5 : decode cX4_has 5 = .ok (.aload_n 0, 1) := dk_42 (dk_at dksX4_has_0 5 rfl rfl)
theorem dX4_has_6 : decode cX4_has 6 = .ok (.getfield 18, 3) := dk_180 0 18 (dk_at dksX4_has_0 6 rfl rfl)
theorem dX4_has_9 : decode cX4_has 9 = .ok (.getfield 26, 3) := dk_180 0 26 (dk_at dksX4_has_0 9 rfl rfl)
theorem dX4_has_12 : decode cX4_has 12 = .ok (.if_icmp .ge 29, 3) := dk_162 0 29 (dk_at dksX4_has_0 12 rfl rfl)
theorem dX4_has_15 : decode cX4_has 15 = .ok (.iload_n 2, 1) := dk_28 (dk_at dksX4_has_0 15 rfl rfl)
theorem dX4_has_16 : decode cX4_has 16 = .ok (.aload_n 0, 1) := dk_42 (dk_at dksX4_has_0 16 rfl rfl)
theorem dX4_has_17 : decode cX4_has 17 = .ok (.getfield 9, 3) := dk_180 0 9 (dk_at dksX4_has_0 17 rfl rfl)
theorem dX4_has_20 : decode cX4_has 20 = .ok (.iload_n 3, 1) := dk_29 (dk_at dksX4_has_0 20 rfl rfl)
theorem dX4_has_21 : decode cX4_has 21 = .ok (.iaload, 1) := dk_46 (dk_at dksX4_has_0 21 rfl rfl)
theorem dX4_has_22 : decode cX4_has 22 = .ok (.iload_n 1, 1) := dk_27 (dk_at dksX4_has_0 22 rfl rfl)
theorem dX4_has_23 : decode cX4_has 23 = .ok (.if_icmp .ne 9, 3) := dk_160 0 9 (dk_at dksX4_has_1 0 rfl rfl)
theorem dX4_has_26 : decode cX4_has 26 = .ok (.iconst 1, 1) := dk_4 (dk_at dksX4_has_1 3 rfl rfl)
theorem dX4_has_27 : decode cX4_has 27 = .ok (.iload_n 3, 1) := dk_29 (dk_at dksX4_has_1 4 rfl rfl)
theorem dX4_has_28 : decode cX4_has 28 = .ok (.ishl, 1) := dk_120 (dk_at dksX4_has_1 5 rfl rfl)
theorem dX4_has_29 : decode cX4_has 29 = .ok (.goto 4, 3) := dk_167 0 4 (dk_at dksX4_has_1 6 rfl rfl)
theorem dX4_has_32 : decode cX4_has 32 = .ok (.iconst 0, 1) := dk_3 (dk_at dksX4_has_1 9 rfl rfl)
theorem dX4_has_33 : decode cX4_has 33 = .ok (.ior, 1) := dk_128 (dk_at dksX4_has_1 10 rfl rfl)
theorem dX4_has_34 : decode cX4_has 34 = .ok (.istore_n 2, 1) := dk_61 (dk_at dksX4_has_1 11 rfl rfl)
theorem dX4_has_35 : decode cX4_has 35 = .ok (.iinc 3 1, 3) := dk_132 3 1 (dk_at dksX4_has_1 12 rfl rfl)
theorem dX4_has_38 : decode cX4_has 38 = .ok (.goto (-34), 3) := dk_167 255 222 (dk_at dksX4_has_1 15 rfl rfl)
theorem dX4_has_41 : decode cX4_has 41 = .ok (.iload_n 2, 1) := dk_28 (dk_at dksX4_has_1 18 rfl rfl)
theorem dX4_has_42 : decode cX4_has 42 = .ok (.ireturn, 1) := dk_172 (dk_at dksX4_has_1 19 rfl rfl)
abbrev cX4_lands : ByteArray := prog_10_method_7_code
def yX4_lands : MethodName := ⟨RX4, "lands", "(I)I"⟩
def dkwX4_lands_2 : List UInt8 := [167, 255, 213, 28, 172]
abbrev dktX4_lands_2 : List UInt8 := dkwX4_lands_2 ++ []
def dkwX4_lands_1 : List UInt8 := [160, 0, 18, 42, 180, 0, 18, 180, 0, 31, 29, 50, 180, 0, 63, 167, 0, 4, 3, 96, 61, 132, 3, 1]
abbrev dktX4_lands_1 : List UInt8 := dkwX4_lands_1 ++ dktX4_lands_2
def dkwX4_lands_0 : List UInt8 := [3, 61, 3, 62, 29, 42, 180, 0, 18, 180, 0, 26, 162, 0, 38, 28, 42, 180, 0, 15, 29, 46, 27]
abbrev dktX4_lands_0 : List UInt8 := dkwX4_lands_0 ++ dktX4_lands_1
theorem dksX4_lands_0 : cX4_lands.data.toList.drop 0 = dktX4_lands_0 := by decide +kernel
theorem dksX4_lands_1 : cX4_lands.data.toList.drop 23 = dktX4_lands_1 := dk_seg dksX4_lands_0 23 rfl rfl
theorem dksX4_lands_2 : cX4_lands.data.toList.drop 47 = dktX4_lands_2 := dk_seg dksX4_lands_1 24 rfl rfl
theorem dX4_lands_0 : decode cX4_lands 0 = .ok (.iconst 0, 1) := dk_3 (dk_at dksX4_lands_0 0 rfl rfl)
theorem dX4_lands_1 : decode cX4_lands 1 = .ok (.istore_n 2, 1) := dk_61 (dk_at dksX4_lands_0 1 rfl rfl)
theorem dX4_lands_2 : decode cX4_lands 2 = .ok (.iconst 0, 1) := dk_3 (dk_at dksX4_lands_0 2 rfl rfl)
theorem dX4_lands_3 : decode cX4_lands 3 = .ok (.istore_n 3, 1) := dk_62 (dk_at dksX4_lands_0 3 rfl rfl)
theorem dX4_lands_4 : decode cX4_lands 4 = .ok (.iload_n 3, 1) := dk_29 (dk_at dksX4_lands_0 4 rfl rfl)
theorem dX4_lands_5 : decode cX4_lands 5 = .ok (.aload_n 0, 1) := dk_42 (dk_at dksX4_lands_0 5 rfl rfl)
theorem dX4_lands_6 : decode cX4_lands 6 = .ok (.getfield 18, 3) := dk_180 0 18 (dk_at dksX4_lands_0 6 rfl rfl)
theorem dX4_lands_9 : decode cX4_lands 9 = .ok (.getfield 26, 3) := dk_180 0 26 (dk_at dksX4_lands_0 9 rfl rfl)
theorem dX4_lands_12 : decode cX4_lands 12 = .ok (.if_icmp .ge 38, 3) := dk_162 0 38 (dk_at dksX4_lands_0 12 rfl rfl)
theorem dX4_lands_15 : decode cX4_lands 15 = .ok (.iload_n 2, 1) := dk_28 (dk_at dksX4_lands_0 15 rfl rfl)
theorem dX4_lands_16 : decode cX4_lands 16 = .ok (.aload_n 0, 1) := dk_42 (dk_at dksX4_lands_0 16 rfl rfl)
theorem dX4_lands_17 : decode cX4_lands 17 = .ok (.getfield 15, 3) := dk_180 0 15 (dk_at dksX4_lands_0 17 rfl rfl)
theorem dX4_lands_20 : decode cX4_lands 20 = .ok (.iload_n 3, 1) := dk_29 (dk_at dksX4_lands_0 20 rfl rfl)
theorem dX4_lands_21 : decode cX4_lands 21 = .ok (.iaload, 1) := dk_46 (dk_at dksX4_lands_0 21 rfl rfl)
theorem dX4_lands_22 : decode cX4_lands 22 = .ok (.iload_n 1, 1) := dk_27 (dk_at dksX4_lands_0 22 rfl rfl)
theorem dX4_lands_23 : decode cX4_lands 23 = .ok (.if_icmp .ne 18, 3) := dk_160 0 18 (dk_at dksX4_lands_1 0 rfl rfl)
theorem dX4_lands_26 : decode cX4_lands 26 = .ok (.aload_n 0, 1) := dk_42 (dk_at dksX4_lands_1 3 rfl rfl)
theorem dX4_lands_27 : decode cX4_lands 27 = .ok (.getfield 18, 3) := dk_180 0 18 (dk_at dksX4_lands_1 4 rfl rfl)
theorem dX4_lands_30 : decode cX4_lands 30 = .ok (.getfield 31, 3) := dk_180 0 31 (dk_at dksX4_lands_1 7 rfl rfl)
theorem dX4_lands_33 : decode cX4_lands 33 = .ok (.iload_n 3, 1) := dk_29 (dk_at dksX4_lands_1 10 rfl rfl)
theorem dX4_lands_34 : decode cX4_lands 34 = .ok (.aaload, 1) := dk_50 (dk_at dksX4_lands_1 11 rfl rfl)
theorem dX4_lands_35 : decode cX4_lands 35 = .ok (.getfield 63, 3) := dk_180 0 63 (dk_at dksX4_lands_1 12 rfl rfl)
theorem dX4_lands_38 : decode cX4_lands 38 = .ok (.goto 4, 3) := dk_167 0 4 (dk_at dksX4_lands_1 15 rfl rfl)
theorem dX4_lands_41 : decode cX4_lands 41 = .ok (.iconst 0, 1) := dk_3 (dk_at dksX4_lands_1 18 rfl rfl)
theorem dX4_lands_42 : decode cX4_lands 42 = .ok (.iadd, 1) := dk_96 (dk_at dksX4_lands_1 19 rfl rfl)
theorem dX4_lands_43 : decode cX4_lands 43 = .ok (.istore_n 2, 1) := dk_61 (dk_at dksX4_lands_1 20 rfl rfl)
theorem dX4_lands_44 : decode cX4_lands 44 = .ok (.iinc 3 1, 3) := dk_132 3 1 (dk_at dksX4_lands_1 21 rfl rfl)
theorem dX4_lands_47 : decode cX4_lands 47 = .ok (.goto (-43), 3) := dk_167 255 213 (dk_at dksX4_lands_2 0 rfl rfl)
theorem dX4_lands_50 : decode cX4_lands 50 = .ok (.iload_n 2, 1) := dk_28 (dk_at dksX4_lands_2 3 rfl rfl)
theorem dX4_lands_51 : decode cX4_lands 51 = .ok (.ireturn, 1) := dk_172 (dk_at dksX4_lands_2 4 rfl rfl)
abbrev cX4_right : ByteArray := prog_10_method_8_code
def yX4_right : MethodName := ⟨RX4, "right", "()I"⟩
def dkwX4_right_2 : List UInt8 := [3, 128, 60, 132, 2, 1, 167, 255, 206, 27, 172]
abbrev dktX4_right_2 : List UInt8 := dkwX4_right_2 ++ []
def dkwX4_right_1 : List UInt8 := [159, 0, 24, 42, 180, 0, 15, 28, 46, 42, 180, 0, 9, 28, 46, 160, 0, 9, 4, 28, 120, 167, 0, 4]
abbrev dktX4_right_1 : List UInt8 := dkwX4_right_1 ++ dktX4_right_2
def dkwX4_right_0 : List UInt8 := [3, 60, 3, 61, 28, 42, 180, 0, 18, 180, 0, 26, 162, 0, 45, 27, 42, 180, 0, 15, 28, 46, 16, 254]
abbrev dktX4_right_0 : List UInt8 := dkwX4_right_0 ++ dktX4_right_1
theorem dksX4_right_0 : cX4_right.data.toList.drop 0 = dktX4_right_0 := by decide +kernel
theorem dksX4_right_1 : cX4_right.data.toList.drop 24 = dktX4_right_1 := dk_seg dksX4_right_0 24 rfl rfl
theorem dksX4_right_2 : cX4_right.data.toList.drop 48 = dktX4_right_2 := dk_seg dksX4_right_1 24 rfl rfl
theorem dX4_right_0 : decode cX4_right 0 = .ok (.iconst 0, 1) := dk_3 (dk_at dksX4_right_0 0 rfl rfl)
theorem dX4_right_1 : decode cX4_right 1 = .ok (.istore_n 1, 1) := dk_60 (dk_at dksX4_right_0 1 rfl rfl)
theorem dX4_right_2 : decode cX4_right 2 = .ok (.iconst 0, 1) := dk_3 (dk_at dksX4_right_0 2 rfl rfl)
theorem dX4_right_3 : decode cX4_right 3 = .ok (.istore_n 2, 1) := dk_61 (dk_at dksX4_right_0 3 rfl rfl)
theorem dX4_right_4 : decode cX4_right 4 = .ok (.iload_n 2, 1) := dk_28 (dk_at dksX4_right_0 4 rfl rfl)
theorem dX4_right_5 : decode cX4_right 5 = .ok (.aload_n 0, 1) := dk_42 (dk_at dksX4_right_0 5 rfl rfl)
theorem dX4_right_6 : decode cX4_right 6 = .ok (.getfield 18, 3) := dk_180 0 18 (dk_at dksX4_right_0 6 rfl rfl)
theorem dX4_right_9 : decode cX4_right 9 = .ok (.getfield 26, 3) := dk_180 0 26 (dk_at dksX4_right_0 9 rfl rfl)
theorem dX4_right_12 : decode cX4_right 12 = .ok (.if_icmp .ge 45, 3) := dk_162 0 45 (dk_at dksX4_right_0 12 rfl rfl)
theorem dX4_right_15 : decode cX4_right 15 = .ok (.iload_n 1, 1) := dk_27 (dk_at dksX4_right_0 15 rfl rfl)
theorem dX4_right_16 : decode cX4_right 16 = .ok (.aload_n 0, 1) := dk_42 (dk_at dksX4_right_0 16 rfl rfl)
theorem dX4_right_17 : decode cX4_right 17 = .ok (.getfield 15, 3) := dk_180 0 15 (dk_at dksX4_right_0 17 rfl rfl)
theorem dX4_right_20 : decode cX4_right 20 = .ok (.iload_n 2, 1) := dk_28 (dk_at dksX4_right_0 20 rfl rfl)
theorem dX4_right_21 : decode cX4_right 21 = .ok (.iaload, 1) := dk_46 (dk_at dksX4_right_0 21 rfl rfl)
theorem dX4_right_22 : decode cX4_right 22 = .ok (.bipush (-2), 2) := dk_16 254 (dk_at dksX4_right_0 22 rfl rfl)
theorem dX4_right_24 : decode cX4_right 24 = .ok (.if_icmp .eq 24, 3) := dk_159 0 24 (dk_at dksX4_right_1 0 rfl rfl)
theorem dX4_right_27 : decode cX4_right 27 = .ok (.aload_n 0, 1) := dk_42 (dk_at dksX4_right_1 3 rfl rfl)
theorem dX4_right_28 : decode cX4_right 28 = .ok (.getfield 15, 3) := dk_180 0 15 (dk_at dksX4_right_1 4 rfl rfl)
theorem dX4_right_31 : decode cX4_right 31 = .ok (.iload_n 2, 1) := dk_28 (dk_at dksX4_right_1 7 rfl rfl)
theorem dX4_right_32 : decode cX4_right 32 = .ok (.iaload, 1) := dk_46 (dk_at dksX4_right_1 8 rfl rfl)
theorem dX4_right_33 : decode cX4_right 33 = .ok (.aload_n 0, 1) := dk_42 (dk_at dksX4_right_1 9 rfl rfl)
theorem dX4_right_34 : decode cX4_right 34 = .ok (.getfield 9, 3) := dk_180 0 9 (dk_at dksX4_right_1 10 rfl rfl)
theorem dX4_right_37 : decode cX4_right 37 = .ok (.iload_n 2, 1) := dk_28 (dk_at dksX4_right_1 13 rfl rfl)
theorem dX4_right_38 : decode cX4_right 38 = .ok (.iaload, 1) := dk_46 (dk_at dksX4_right_1 14 rfl rfl)
theorem dX4_right_39 : decode cX4_right 39 = .ok (.if_icmp .ne 9, 3) := dk_160 0 9 (dk_at dksX4_right_1 15 rfl rfl)
theorem dX4_right_42 : decode cX4_right 42 = .ok (.iconst 1, 1) := dk_4 (dk_at dksX4_right_1 18 rfl rfl)
theorem dX4_right_43 : decode cX4_right 43 = .ok (.iload_n 2, 1) := dk_28 (dk_at dksX4_right_1 19 rfl rfl)
theorem dX4_right_44 : decode cX4_right 44 = .ok (.ishl, 1) := dk_120 (dk_at dksX4_right_1 20 rfl rfl)
theorem dX4_right_45 : decode cX4_right 45 = .ok (.goto 4, 3) := dk_167 0 4 (dk_at dksX4_right_1 21 rfl rfl)
theorem dX4_right_48 : decode cX4_right 48 = .ok (.iconst 0, 1) := dk_3 (dk_at dksX4_right_2 0 rfl rfl)
theorem dX4_right_49 : decode cX4_right 49 = .ok (.ior, 1) := dk_128 (dk_at dksX4_right_2 1 rfl rfl)
theorem dX4_right_50 : decode cX4_right 50 = .ok (.istore_n 1, 1) := dk_60 (dk_at dksX4_right_2 2 rfl rfl)
theorem dX4_right_51 : decode cX4_right 51 = .ok (.iinc 2 1, 3) := dk_132 2 1 (dk_at dksX4_right_2 3 rfl rfl)
theorem dX4_right_54 : decode cX4_right 54 = .ok (.goto (-50), 3) := dk_167 255 206 (dk_at dksX4_right_2 6 rfl rfl)
theorem dX4_right_57 : decode cX4_right 57 = .ok (.iload_n 1, 1) := dk_27 (dk_at dksX4_right_2 9 rfl rfl)
theorem dX4_right_58 : decode cX4_right 58 = .ok (.ireturn, 1) := dk_172 (dk_at dksX4_right_2 10 rfl rfl)
abbrev cX4_become : ByteArray := prog_10_method_3_code
def yX4_become : MethodName := ⟨RX4, "become", "(LUmbrellaHeir$Hall;)V"⟩
def dkwX4_become_1 : List UInt8 := [180, 0, 9, 3, 8, 184, 0, 48, 43, 180, 0, 15, 3, 42, 180, 0, 15, 3, 8, 184, 0, 48, 177]
abbrev dktX4_become_1 : List UInt8 := dkwX4_become_1 ++ []
def dkwX4_become_0 : List UInt8 := [42, 43, 180, 0, 18, 181, 0, 18, 42, 43, 180, 0, 22, 181, 0, 22, 43, 180, 0, 9, 3, 42]
abbrev dktX4_become_0 : List UInt8 := dkwX4_become_0 ++ dktX4_become_1
theorem dksX4_become_0 : cX4_become.data.toList.drop 0 = dktX4_become_0 := by decide +kernel
theorem dksX4_become_1 : cX4_become.data.toList.drop 22 = dktX4_become_1 := dk_seg dksX4_become_0 22 rfl rfl
theorem dX4_become_0 : decode cX4_become 0 = .ok (.aload_n 0, 1) := dk_42 (dk_at dksX4_become_0 0 rfl rfl)
theorem dX4_become_1 : decode cX4_become 1 = .ok (.aload_n 1, 1) := dk_43 (dk_at dksX4_become_0 1 rfl rfl)
theorem dX4_become_2 : decode cX4_become 2 = .ok (.getfield 18, 3) := dk_180 0 18 (dk_at dksX4_become_0 2 rfl rfl)
theorem dX4_become_5 : decode cX4_become 5 = .ok (.putfield 18, 3) := dk_181 0 18 (dk_at dksX4_become_0 5 rfl rfl)
theorem dX4_become_8 : decode cX4_become 8 = .ok (.aload_n 0, 1) := dk_42 (dk_at dksX4_become_0 8 rfl rfl)
theorem dX4_become_9 : decode cX4_become 9 = .ok (.aload_n 1, 1) := dk_43 (dk_at dksX4_become_0 9 rfl rfl)
theorem dX4_become_10 : decode cX4_become 10 = .ok (.getfield 22, 3) := dk_180 0 22 (dk_at dksX4_become_0 10 rfl rfl)
theorem dX4_become_13 : decode cX4_become 13 = .ok (.putfield 22, 3) := dk_181 0 22 (dk_at dksX4_become_0 13 rfl rfl)
theorem dX4_become_16 : decode cX4_become 16 = .ok (.aload_n 1, 1) := dk_43 (dk_at dksX4_become_0 16 rfl rfl)
theorem dX4_become_17 : decode cX4_become 17 = .ok (.getfield 9, 3) := dk_180 0 9 (dk_at dksX4_become_0 17 rfl rfl)
theorem dX4_become_20 : decode cX4_become 20 = .ok (.iconst 0, 1) := dk_3 (dk_at dksX4_become_0 20 rfl rfl)
theorem dX4_become_21 : decode cX4_become 21 = .ok (.aload_n 0, 1) := dk_42 (dk_at dksX4_become_0 21 rfl rfl)
theorem dX4_become_22 : decode cX4_become 22 = .ok (.getfield 9, 3) := dk_180 0 9 (dk_at dksX4_become_1 0 rfl rfl)
theorem dX4_become_25 : decode cX4_become 25 = .ok (.iconst 0, 1) := dk_3 (dk_at dksX4_become_1 3 rfl rfl)
theorem dX4_become_26 : decode cX4_become 26 = .ok (.iconst 5, 1) := dk_8 (dk_at dksX4_become_1 4 rfl rfl)
theorem dX4_become_27 : decode cX4_become 27 = .ok (.invokestatic 48, 3) := dk_184 0 48 (dk_at dksX4_become_1 5 rfl rfl)
theorem dX4_become_30 : decode cX4_become 30 = .ok (.aload_n 1, 1) := dk_43 (dk_at dksX4_become_1 8 rfl rfl)
theorem dX4_become_31 : decode cX4_become 31 = .ok (.getfield 15, 3) := dk_180 0 15 (dk_at dksX4_become_1 9 rfl rfl)
theorem dX4_become_34 : decode cX4_become 34 = .ok (.iconst 0, 1) := dk_3 (dk_at dksX4_become_1 12 rfl rfl)
theorem dX4_become_35 : decode cX4_become 35 = .ok (.aload_n 0, 1) := dk_42 (dk_at dksX4_become_1 13 rfl rfl)
theorem dX4_become_36 : decode cX4_become 36 = .ok (.getfield 15, 3) := dk_180 0 15 (dk_at dksX4_become_1 14 rfl rfl)
theorem dX4_become_39 : decode cX4_become 39 = .ok (.iconst 0, 1) := dk_3 (dk_at dksX4_become_1 17 rfl rfl)
theorem dX4_become_40 : decode cX4_become 40 = .ok (.iconst 5, 1) := dk_8 (dk_at dksX4_become_1 18 rfl rfl)
theorem dX4_become_41 : decode cX4_become 41 = .ok (.invokestatic 48, 3) := dk_184 0 48 (dk_at dksX4_become_1 19 rfl rfl)
theorem dX4_become_44 : decode cX4_become 44 = .ok (.return_, 1) := dk_177 (dk_at dksX4_become_1 22 rfl rfl)
theorem q121 : (Jvm.Cond.initialized "UmbrellaHeir$Hall") ∈ lw_all := lw_g (lw_at lw_m1 7 rfl) rfl
theorem q273 : (Jvm.Cond.instantiable "UmbrellaHeir$Hall" (4 : Nat)) ∈ lw_all := lw_g (lw_at lw_m1 159 rfl) rfl
theorem q275 : (Jvm.Cond.instanceMethod ({ cls := "UmbrellaHeir$Hall", name := "<init>", desc := "()V" } : Jvm.MethodName)) ∈ lw_all := lw_g (lw_at lw_m1 161 rfl) rfl
theorem q276 : (Jvm.Cond.code ({ cls := "UmbrellaHeir$Hall", name := "<init>", desc := "()V" } : Jvm.MethodName) prog_10_method_1_code (1 : Nat) (Option.none : Option Jvm.ClassFile.FieldType)) ∈ lw_all := lw_g (lw_at lw_m1 162 rfl) rfl
theorem q277 : (Jvm.Cond.methodLink "UmbrellaHeir$Hall" (3 : Nat) ({ cls := "java/lang/Object", name := "<init>", desc := "()V" } : Jvm.MethodName)) ∈ lw_all := lw_g (lw_at lw_m1 163 rfl) rfl
theorem q278 : (Jvm.Cond.fieldLink "UmbrellaHeir$Hall" (9 : Nat) "UmbrellaHeir$Hall" "holders" "[I") ∈ lw_all := lw_g (lw_at lw_m1 164 rfl) rfl
theorem q285 : (Jvm.Cond.fieldLink "UmbrellaHeir$Hall" (15 : Nat) "UmbrellaHeir$Hall" "titles" "[I") ∈ lw_all := lw_g (lw_at lw_m1 171 rfl) rfl
theorem q289 : (Jvm.Cond.fieldLink "UmbrellaHeir$Hall" (18 : Nat) "UmbrellaHeir$Hall" "county" "LUmbrellaHeir$County;") ∈ lw_all := lw_g (lw_at lw_m1 175 rfl) rfl
theorem q290 : (Jvm.Cond.fieldLink "UmbrellaHeir$Hall" (22 : Nat) "UmbrellaHeir$Hall" "dry" "I") ∈ lw_all := lw_g (lw_at lw_m1 176 rfl) rfl
theorem q292 : (Jvm.Cond.laysFinal "UmbrellaHeir$Hall" "UmbrellaHeir$Hall" "holders" "[I") ∈ lw_all := lw_g (lw_at lw_m1 178 rfl) rfl
theorem q293 : (Jvm.Cond.soleField "UmbrellaHeir$Hall" "holders") ∈ lw_all := lw_g (lw_at lw_m1 179 rfl) rfl
theorem q294 : (Jvm.Cond.laysFinal "UmbrellaHeir$Hall" "UmbrellaHeir$Hall" "titles" "[I") ∈ lw_all := lw_g (lw_at lw_m1 180 rfl) rfl
theorem q295 : (Jvm.Cond.soleField "UmbrellaHeir$Hall" "titles") ∈ lw_all := lw_g (lw_at lw_m1 181 rfl) rfl
theorem q296 : (Jvm.Cond.lays "UmbrellaHeir$Hall" "UmbrellaHeir$Hall" "county" "LUmbrellaHeir$County;") ∈ lw_all := lw_g (lw_at lw_m1 182 rfl) rfl
theorem q297 : (Jvm.Cond.soleField "UmbrellaHeir$Hall" "county") ∈ lw_all := lw_g (lw_at lw_m1 183 rfl) rfl
theorem q298 : (Jvm.Cond.lays "UmbrellaHeir$Hall" "UmbrellaHeir$Hall" "dry" "I") ∈ lw_all := lw_g (lw_at lw_m1 184 rfl) rfl
theorem q299 : (Jvm.Cond.soleField "UmbrellaHeir$Hall" "dry") ∈ lw_all := lw_g (lw_at lw_m1 185 rfl) rfl
theorem q300 : (Jvm.Cond.superclass "UmbrellaHeir$Hall" "java/lang/Object") ∈ lw_all := lw_g (lw_at lw_m1 186 rfl) rfl
theorem q485 : (Jvm.Cond.fieldLink "UmbrellaHeir$Hall" (54 : Nat) "UmbrellaHeir$County" "people" "[LUmbrellaHeir$Person;") ∈ lw_all := lw_g (lw_at lw_m2 131 rfl) rfl
theorem q489 : (Jvm.Cond.fieldLink "UmbrellaHeir$Hall" (31 : Nat) "UmbrellaHeir$County" "umbrellas" "[LUmbrellaHeir$Umbrella;") ∈ lw_all := lw_g (lw_at lw_m2 135 rfl) rfl
theorem q499 : (Jvm.Cond.fieldLink "UmbrellaHeir$Hall" (86 : Nat) "UmbrellaHeir$County" "lapse" "I") ∈ lw_all := lw_g (lw_at lw_m2 145 rfl) rfl
theorem q508 : (Jvm.Cond.fieldLink "UmbrellaHeir$Hall" (92 : Nat) "UmbrellaHeir$County" "personMany" "I") ∈ lw_all := lw_g (lw_at lw_m2 154 rfl) rfl
theorem q511 : (Jvm.Cond.fieldLink "UmbrellaHeir$Hall" (26 : Nat) "UmbrellaHeir$County" "umbrellaMany" "I") ∈ lw_all := lw_g (lw_at lw_m2 157 rfl) rfl
theorem q833 : (Jvm.Cond.fieldLink "UmbrellaHeir$Hall" (63 : Nat) "UmbrellaHeir$Umbrella" "lands" "I") ∈ lw_all := lw_g (lw_at lw_m3 239 rfl) rfl
theorem q841 : (Jvm.Cond.fieldLink "UmbrellaHeir$Hall" (35 : Nat) "UmbrellaHeir$Umbrella" "holder" "I") ∈ lw_all := lw_g (lw_at lw_m4 7 rfl) rfl
theorem q1013 : (Jvm.Cond.instanceMethod ({ cls := "UmbrellaHeir$Hall", name := "begin", desc := "(LUmbrellaHeir$County;)V" } : Jvm.MethodName)) ∈ lw_all := lw_g (lw_at lw_m4 179 rfl) rfl
theorem q1014 : (Jvm.Cond.selects "UmbrellaHeir$Hall" ({ cls := "UmbrellaHeir$Hall", name := "begin", desc := "(LUmbrellaHeir$County;)V" } : Jvm.MethodName) ({ cls := "UmbrellaHeir$Hall", name := "begin", desc := "(LUmbrellaHeir$County;)V" } : Jvm.MethodName)) ∈ lw_all := lw_g (lw_at lw_m4 180 rfl) rfl
theorem q1015 : (Jvm.Cond.code ({ cls := "UmbrellaHeir$Hall", name := "begin", desc := "(LUmbrellaHeir$County;)V" } : Jvm.MethodName) prog_10_method_2_code (3 : Nat) (Option.none : Option Jvm.ClassFile.FieldType)) ∈ lw_all := lw_g (lw_at lw_m4 181 rfl) rfl
theorem q1016 : (Jvm.Cond.methodLink "UmbrellaHeir$Hall" (40 : Nat) ({ cls := "UmbrellaHeir$Umbrella", name := "isTitled", desc := "()Z" } : Jvm.MethodName)) ∈ lw_all := lw_g (lw_at lw_m4 182 rfl) rfl
theorem q1026 : (Jvm.Cond.methodLink "UmbrellaHeir$Hall" (44 : Nat) ({ cls := "UmbrellaHeir$Hall", name := "takes", desc := "(I)V" } : Jvm.MethodName)) ∈ lw_all := lw_g (lw_at lw_m4 192 rfl) rfl
theorem q1027 : (Jvm.Cond.privateMethod ({ cls := "UmbrellaHeir$Hall", name := "takes", desc := "(I)V" } : Jvm.MethodName)) ∈ lw_tbl := lw_at lw_m4 193 rfl
theorem q1028 : (Jvm.Cond.instanceMethod ({ cls := "UmbrellaHeir$Hall", name := "takes", desc := "(I)V" } : Jvm.MethodName)) ∈ lw_all := lw_g (lw_at lw_m4 194 rfl) rfl
theorem q1029 : (Jvm.Cond.code ({ cls := "UmbrellaHeir$Hall", name := "takes", desc := "(I)V" } : Jvm.MethodName) prog_10_method_4_code (2 : Nat) (Option.none : Option Jvm.ClassFile.FieldType)) ∈ lw_all := lw_g (lw_at lw_m4 195 rfl) rfl
theorem q1030 : (Jvm.Cond.methodLink "UmbrellaHeir$Hall" (58 : Nat) ({ cls := "UmbrellaHeir$Person", name := "canHold", desc := "()Z" } : Jvm.MethodName)) ∈ lw_all := lw_g (lw_at lw_m4 196 rfl) rfl
theorem q1045 : (Jvm.Cond.instanceMethod ({ cls := "UmbrellaHeir$Hall", name := "change", desc := "(II)V" } : Jvm.MethodName)) ∈ lw_all := lw_g (lw_at lw_m4 211 rfl) rfl
theorem q1046 : (Jvm.Cond.selects "UmbrellaHeir$Hall" ({ cls := "UmbrellaHeir$Hall", name := "change", desc := "(II)V" } : Jvm.MethodName) ({ cls := "UmbrellaHeir$Hall", name := "change", desc := "(II)V" } : Jvm.MethodName)) ∈ lw_all := lw_g (lw_at lw_m4 212 rfl) rfl
theorem q1047 : (Jvm.Cond.code ({ cls := "UmbrellaHeir$Hall", name := "change", desc := "(II)V" } : Jvm.MethodName) prog_10_method_5_code (4 : Nat) (Option.none : Option Jvm.ClassFile.FieldType)) ∈ lw_all := lw_g (lw_at lw_m4 213 rfl) rfl
theorem q1075 : (Jvm.Cond.instanceMethod ({ cls := "UmbrellaHeir$Hall", name := "ends", desc := "(Z)V" } : Jvm.MethodName)) ∈ lw_all := lw_g (lw_at lw_m5 1 rfl) rfl
theorem q1076 : (Jvm.Cond.selects "UmbrellaHeir$Hall" ({ cls := "UmbrellaHeir$Hall", name := "ends", desc := "(Z)V" } : Jvm.MethodName) ({ cls := "UmbrellaHeir$Hall", name := "ends", desc := "(Z)V" } : Jvm.MethodName)) ∈ lw_all := lw_g (lw_at lw_m5 2 rfl) rfl
theorem q1077 : (Jvm.Cond.code ({ cls := "UmbrellaHeir$Hall", name := "ends", desc := "(Z)V" } : Jvm.MethodName) prog_10_method_10_code (3 : Nat) (Option.none : Option Jvm.ClassFile.FieldType)) ∈ lw_all := lw_g (lw_at lw_m5 3 rfl) rfl
theorem q1078 : (Jvm.Cond.methodLink "UmbrellaHeir$Hall" (76 : Nat) ({ cls := "java/lang/Math", name := "min", desc := "(II)I" } : Jvm.MethodName)) ∈ lw_all := lw_g (lw_at lw_m5 4 rfl) rfl
theorem q1081 : (Jvm.Cond.methodLink "UmbrellaHeir$Hall" (82 : Nat) ({ cls := "UmbrellaHeir$Umbrella", name := "passes", desc := "(Z)Z" } : Jvm.MethodName)) ∈ lw_all := lw_g (lw_at lw_m5 7 rfl) rfl
theorem q1094 : (Jvm.Cond.methodLink "UmbrellaHeir$Hall" (89 : Nat) ({ cls := "UmbrellaHeir$Umbrella", name := "doesLapse", desc := "()Z" } : Jvm.MethodName)) ∈ lw_all := lw_g (lw_at lw_m5 20 rfl) rfl
theorem q1104 : (Jvm.Cond.methodLink "UmbrellaHeir$Hall" (95 : Nat) ({ cls := "UmbrellaHeir$Person", name := "doesLeave", desc := "()Z" } : Jvm.MethodName)) ∈ lw_all := lw_g (lw_at lw_m5 30 rfl) rfl
theorem q1113 : (Jvm.Cond.methodLink "UmbrellaHeir$Hall" (98 : Nat) ({ cls := "UmbrellaHeir$Hall", name := "leaves", desc := "(I)V" } : Jvm.MethodName)) ∈ lw_all := lw_g (lw_at lw_m5 39 rfl) rfl
theorem q1114 : (Jvm.Cond.privateMethod ({ cls := "UmbrellaHeir$Hall", name := "leaves", desc := "(I)V" } : Jvm.MethodName)) ∈ lw_tbl := lw_at lw_m5 40 rfl
theorem q1115 : (Jvm.Cond.instanceMethod ({ cls := "UmbrellaHeir$Hall", name := "leaves", desc := "(I)V" } : Jvm.MethodName)) ∈ lw_all := lw_g (lw_at lw_m5 41 rfl) rfl
theorem q1116 : (Jvm.Cond.code ({ cls := "UmbrellaHeir$Hall", name := "leaves", desc := "(I)V" } : Jvm.MethodName) prog_10_method_9_code (5 : Nat) (Option.none : Option Jvm.ClassFile.FieldType)) ∈ lw_all := lw_g (lw_at lw_m5 42 rfl) rfl
theorem q1117 : (Jvm.Cond.methodLink "UmbrellaHeir$Hall" (66 : Nat) ({ cls := "UmbrellaHeir$Hall", name := "has", desc := "(I)I" } : Jvm.MethodName)) ∈ lw_all := lw_g (lw_at lw_m5 43 rfl) rfl
theorem q1118 : (Jvm.Cond.instanceMethod ({ cls := "UmbrellaHeir$Hall", name := "has", desc := "(I)I" } : Jvm.MethodName)) ∈ lw_all := lw_g (lw_at lw_m5 44 rfl) rfl
theorem q1119 : (Jvm.Cond.selects "UmbrellaHeir$Hall" ({ cls := "UmbrellaHeir$Hall", name := "has", desc := "(I)I" } : Jvm.MethodName) ({ cls := "UmbrellaHeir$Hall", name := "has", desc := "(I)I" } : Jvm.MethodName)) ∈ lw_all := lw_g (lw_at lw_m5 45 rfl) rfl
theorem q1120 : (Jvm.Cond.code ({ cls := "UmbrellaHeir$Hall", name := "has", desc := "(I)I" } : Jvm.MethodName) prog_10_method_6_code (4 : Nat) (Option.some Jvm.ClassFile.FieldType.int)) ∈ lw_all := lw_g (lw_at lw_m5 46 rfl) rfl
theorem q1121 : (Jvm.Cond.methodLinkNest "UmbrellaHeir$Hall" (70 : Nat) ({ cls := "UmbrellaHeir", name := "ones", desc := "(I)I" } : Jvm.MethodName) "UmbrellaHeir") ∈ lw_tbl := lw_at lw_m5 47 rfl
theorem q1124 : (Jvm.Cond.methodLinkNest "UmbrellaHeir$Hall" (73 : Nat) ({ cls := "UmbrellaHeir", name := "has", desc := "(II)Z" } : Jvm.MethodName) "UmbrellaHeir") ∈ lw_tbl := lw_at lw_m5 50 rfl
theorem q1183 : (Jvm.Cond.instanceMethod ({ cls := "UmbrellaHeir$Hall", name := "lands", desc := "(I)I" } : Jvm.MethodName)) ∈ lw_all := lw_g (lw_at lw_m5 109 rfl) rfl
theorem q1184 : (Jvm.Cond.selects "UmbrellaHeir$Hall" ({ cls := "UmbrellaHeir$Hall", name := "lands", desc := "(I)I" } : Jvm.MethodName) ({ cls := "UmbrellaHeir$Hall", name := "lands", desc := "(I)I" } : Jvm.MethodName)) ∈ lw_all := lw_g (lw_at lw_m5 110 rfl) rfl
theorem q1185 : (Jvm.Cond.code ({ cls := "UmbrellaHeir$Hall", name := "lands", desc := "(I)I" } : Jvm.MethodName) prog_10_method_7_code (4 : Nat) (Option.some Jvm.ClassFile.FieldType.int)) ∈ lw_all := lw_g (lw_at lw_m5 111 rfl) rfl
theorem q1200 : (Jvm.Cond.instanceMethod ({ cls := "UmbrellaHeir$Hall", name := "right", desc := "()I" } : Jvm.MethodName)) ∈ lw_all := lw_g (lw_at lw_m5 126 rfl) rfl
theorem q1201 : (Jvm.Cond.selects "UmbrellaHeir$Hall" ({ cls := "UmbrellaHeir$Hall", name := "right", desc := "()I" } : Jvm.MethodName) ({ cls := "UmbrellaHeir$Hall", name := "right", desc := "()I" } : Jvm.MethodName)) ∈ lw_all := lw_g (lw_at lw_m5 127 rfl) rfl
theorem q1202 : (Jvm.Cond.code ({ cls := "UmbrellaHeir$Hall", name := "right", desc := "()I" } : Jvm.MethodName) prog_10_method_8_code (3 : Nat) (Option.some Jvm.ClassFile.FieldType.int)) ∈ lw_all := lw_g (lw_at lw_m5 128 rfl) rfl
theorem q1288 : (Jvm.Cond.instanceMethod ({ cls := "UmbrellaHeir$Hall", name := "become", desc := "(LUmbrellaHeir$Hall;)V" } : Jvm.MethodName)) ∈ lw_all := lw_g (lw_at lw_m5 214 rfl) rfl
theorem q1289 : (Jvm.Cond.selects "UmbrellaHeir$Hall" ({ cls := "UmbrellaHeir$Hall", name := "become", desc := "(LUmbrellaHeir$Hall;)V" } : Jvm.MethodName) ({ cls := "UmbrellaHeir$Hall", name := "become", desc := "(LUmbrellaHeir$Hall;)V" } : Jvm.MethodName)) ∈ lw_all := lw_g (lw_at lw_m5 215 rfl) rfl
theorem q1290 : (Jvm.Cond.code ({ cls := "UmbrellaHeir$Hall", name := "become", desc := "(LUmbrellaHeir$Hall;)V" } : Jvm.MethodName) prog_10_method_3_code (2 : Nat) (Option.none : Option Jvm.ClassFile.FieldType)) ∈ lw_all := lw_g (lw_at lw_m5 216 rfl) rfl
theorem q1291 : (Jvm.Cond.methodLink "UmbrellaHeir$Hall" (48 : Nat) ({ cls := "java/lang/System", name := "arraycopy", desc := "(Ljava/lang/Object;ILjava/lang/Object;II)V" } : Jvm.MethodName)) ∈ lw_all := lw_g (lw_at lw_m5 217 rfl) rfl
theorem q2302 : (Jvm.Cond.castable "UmbrellaHeir$Hall" "java/lang/Object") ∈ lw_tbl := lw_at lw_m10 28 rfl
theorem in_X4 : ∀ w ∈ wsX40, w ∈ lw_all := lw_in wsX40 [292, 294, 296, 298] (by decide +kernel) (by decide +kernel)
/-! UmbrellaHeir$Course -/
set_option maxRecDepth 100000
def RX5 : String := "UmbrellaHeir$Course"
def TX5 : u_T := fun k => match k with
  | 0 => ("UmbrellaHeir$Course", "hall", "LUmbrellaHeir$Hall;", true)
  | 1 => ("UmbrellaHeir$Course", "holders", "[I", true)
  | _ => ("UmbrellaHeir$Course", "titles", "[I", true)
def tyX5 : Nat → FieldType := fun k => match k with
  | 0 => .object "UmbrellaHeir$Hall"
  | 1 => .array .int
  | _ => .array .int
abbrev wsX50 : List Cond := u_ws RX5 TX5 3
theorem nmX5 : ∀ a, a < 3 → ∀ b, b < 3 → a ≠ b → (TX5 a).2.1 ≠ (TX5 b).2.1 := by decide +kernel
theorem tyX5_ok : ∀ k, k < 3 → parseFieldDescriptor (TX5 k).2.2.1 = some (tyX5 k) := by decide +kernel
abbrev cX5_init : ByteArray := prog_8_method_1_code
def yX5_init : MethodName := ⟨RX5, "<init>", "()V"⟩
def dkwX5_init_1 : List UInt8 := [42, 17, 0, 205, 188, 10, 181, 0, 22, 177]
abbrev dktX5_init_1 : List UInt8 := dkwX5_init_1 ++ []
def dkwX5_init_0 : List UInt8 := [42, 183, 0, 3, 42, 187, 0, 9, 89, 183, 0, 11, 181, 0, 12, 42, 17, 0, 205, 188, 10, 181, 0, 18]
abbrev dktX5_init_0 : List UInt8 := dkwX5_init_0 ++ dktX5_init_1
theorem dksX5_init_0 : cX5_init.data.toList.drop 0 = dktX5_init_0 := by decide +kernel
theorem dksX5_init_1 : cX5_init.data.toList.drop 24 = dktX5_init_1 := dk_seg dksX5_init_0 24 rfl rfl
theorem dX5_init_0 : decode cX5_init 0 = .ok (.aload_n 0, 1) := dk_42 (dk_at dksX5_init_0 0 rfl rfl)
theorem dX5_init_1 : decode cX5_init 1 = .ok (.invokespecial 3, 3) := dk_183 0 3 (dk_at dksX5_init_0 1 rfl rfl)
theorem dX5_init_4 : decode cX5_init 4 = .ok (.aload_n 0, 1) := dk_42 (dk_at dksX5_init_0 4 rfl rfl)
theorem dX5_init_5 : decode cX5_init 5 = .ok (.new 9, 3) := dk_187 0 9 (dk_at dksX5_init_0 5 rfl rfl)
theorem dX5_init_8 : decode cX5_init 8 = .ok (.dup, 1) := dk_89 (dk_at dksX5_init_0 8 rfl rfl)
theorem dX5_init_9 : decode cX5_init 9 = .ok (.invokespecial 11, 3) := dk_183 0 11 (dk_at dksX5_init_0 9 rfl rfl)
theorem dX5_init_12 : decode cX5_init 12 = .ok (.putfield 12, 3) := dk_181 0 12 (dk_at dksX5_init_0 12 rfl rfl)
theorem dX5_init_15 : decode cX5_init 15 = .ok (.aload_n 0, 1) := dk_42 (dk_at dksX5_init_0 15 rfl rfl)
theorem dX5_init_16 : decode cX5_init 16 = .ok (.sipush 205, 3) := dk_17 0 205 (dk_at dksX5_init_0 16 rfl rfl)
theorem dX5_init_19 : decode cX5_init 19 = .ok (.newarray .int, 2) := dk_188_10 (dk_at dksX5_init_0 19 rfl rfl)
theorem dX5_init_21 : decode cX5_init 21 = .ok (.putfield 18, 3) := dk_181 0 18 (dk_at dksX5_init_0 21 rfl rfl)
theorem dX5_init_24 : decode cX5_init 24 = .ok (.aload_n 0, 1) := dk_42 (dk_at dksX5_init_1 0 rfl rfl)
theorem dX5_init_25 : decode cX5_init 25 = .ok (.sipush 205, 3) := dk_17 0 205 (dk_at dksX5_init_1 1 rfl rfl)
theorem dX5_init_28 : decode cX5_init 28 = .ok (.newarray .int, 2) := dk_188_10 (dk_at dksX5_init_1 4 rfl rfl)
theorem dX5_init_30 : decode cX5_init 30 = .ok (.putfield 22, 3) := dk_181 0 22 (dk_at dksX5_init_1 6 rfl rfl)
theorem dX5_init_33 : decode cX5_init 33 = .ok (.return_, 1) := dk_177 (dk_at dksX5_init_1 9 rfl rfl)
abbrev cX5_run : ByteArray := prog_8_method_2_code
def yX5_run : MethodName := ⟨RX5, "run", "(LUmbrellaHeir$County;III)V"⟩
def dkwX5_run_7 : List UInt8 := [167, 255, 109, 177]
abbrev dktX5_run_7 : List UInt8 := dkwX5_run_7 ++ []
def dkwX5_run_6 : List UInt8 := [180, 0, 12, 180, 0, 67, 3, 42, 180, 0, 22, 8, 21, 6, 104, 8, 184, 0, 61, 132, 6, 1]
abbrev dktX5_run_6 : List UInt8 := dkwX5_run_6 ++ dktX5_run_7
def dkwX5_run_5 : List UInt8 := [182, 0, 56, 42, 180, 0, 12, 180, 0, 60, 3, 42, 180, 0, 18, 8, 21, 6, 104, 8, 184, 0, 61, 42]
abbrev dktX5_run_5 : List UInt8 := dkwX5_run_5 ++ dktX5_run_6
def dkwX5_run_4 : List UInt8 := [153, 0, 7, 4, 167, 0, 4, 3, 54, 7, 132, 5, 1, 167, 255, 190, 42, 180, 0, 12, 21, 7]
abbrev dktX5_run_4 : List UInt8 := dkwX5_run_4 ++ dktX5_run_5
def dkwX5_run_3 : List UInt8 := [50, 42, 180, 0, 12, 182, 0, 48, 21, 7, 154, 0, 16, 43, 180, 0, 39, 21, 5, 50, 182, 0, 52]
abbrev dktX5_run_3 : List UInt8 := dkwX5_run_3 ++ dktX5_run_4
def dkwX5_run_2 : List UInt8 := [162, 0, 63, 43, 180, 0, 39, 21, 5, 50, 180, 0, 43, 21, 6, 160, 0, 48, 43, 180, 0, 39, 21, 5]
abbrev dktX5_run_2 : List UInt8 := dkwX5_run_2 ++ dktX5_run_3
def dkwX5_run_1 : List UInt8 := [160, 0, 13, 42, 180, 0, 12, 29, 21, 4, 182, 0, 29, 3, 54, 7, 21, 5, 43, 180, 0, 33]
abbrev dktX5_run_1 : List UInt8 := dkwX5_run_1 ++ dktX5_run_2
def dkwX5_run_0 : List UInt8 := [42, 180, 0, 12, 43, 182, 0, 25, 3, 54, 5, 3, 54, 6, 21, 6, 16, 40, 163, 0, 146, 21, 6, 28]
abbrev dktX5_run_0 : List UInt8 := dkwX5_run_0 ++ dktX5_run_1
theorem dksX5_run_0 : cX5_run.data.toList.drop 0 = dktX5_run_0 := by decide +kernel
theorem dksX5_run_1 : cX5_run.data.toList.drop 24 = dktX5_run_1 := dk_seg dksX5_run_0 24 rfl rfl
theorem dksX5_run_2 : cX5_run.data.toList.drop 46 = dktX5_run_2 := dk_seg dksX5_run_1 22 rfl rfl
theorem dksX5_run_3 : cX5_run.data.toList.drop 70 = dktX5_run_3 := dk_seg dksX5_run_2 24 rfl rfl
theorem dksX5_run_4 : cX5_run.data.toList.drop 93 = dktX5_run_4 := dk_seg dksX5_run_3 23 rfl rfl
theorem dksX5_run_5 : cX5_run.data.toList.drop 115 = dktX5_run_5 := dk_seg dksX5_run_4 22 rfl rfl
theorem dksX5_run_6 : cX5_run.data.toList.drop 139 = dktX5_run_6 := dk_seg dksX5_run_5 24 rfl rfl
theorem dksX5_run_7 : cX5_run.data.toList.drop 161 = dktX5_run_7 := dk_seg dksX5_run_6 22 rfl rfl
theorem dX5_run_0 : decode cX5_run 0 = .ok (.aload_n 0, 1) := dk_42 (dk_at dksX5_run_0 0 rfl rfl)
theorem dX5_run_1 : decode cX5_run 1 = .ok (.getfield 12, 3) := dk_180 0 12 (dk_at dksX5_run_0 1 rfl rfl)
theorem dX5_run_4 : decode cX5_run 4 = .ok (.aload_n 1, 1) := dk_43 (dk_at dksX5_run_0 4 rfl rfl)
theorem dX5_run_5 : decode cX5_run 5 = .ok (.invokevirtual 25, 3) := dk_182 0 25 (dk_at dksX5_run_0 5 rfl rfl)
theorem dX5_run_8 : decode cX5_run 8 = .ok (.iconst 0, 1) := dk_3 (dk_at dksX5_run_0 8 rfl rfl)
theorem dX5_run_9 : decode cX5_run 9 = .ok (.istore 5, 2) := dk_54 5 (dk_at dksX5_run_0 9 rfl rfl)
theorem dX5_run_11 : decode cX5_run 11 = .ok (.iconst 0, 1) := dk_3 (dk_at dksX5_run_0 11 rfl rfl)
theorem dX5_run_12 : decode cX5_run 12 = .ok (.istore 6, 2) := dk_54 6 (dk_at dksX5_run_0 12 rfl rfl)
theorem dX5_run_14 : decode cX5_run 14 = .ok (.iload 6, 2) := dk_21 6 (dk_at dksX5_run_0 14 rfl rfl)
theorem dX5_run_16 : decode cX5_run 16 = .ok (.bipush 40, 2) := dk_16 40 (dk_at dksX5_run_0 16 rfl rfl)
theorem dX5_run_18 : decode cX5_run 18 = .ok (.if_icmp .gt 146, 3) := dk_163 0 146 (dk_at dksX5_run_0 18 rfl rfl)
theorem dX5_run_21 : decode cX5_run 21 = .ok (.iload 6, 2) := dk_21 6 (dk_at dksX5_run_0 21 rfl rfl)
theorem dX5_run_23 : decode cX5_run 23 = .ok (.iload_n 2, 1) := dk_28 (dk_at dksX5_run_0 23 rfl rfl)
theorem dX5_run_24 : decode cX5_run 24 = .ok (.if_icmp .ne 13, 3) := dk_160 0 13 (dk_at dksX5_run_1 0 rfl rfl)
theorem dX5_run_27 : decode cX5_run 27 = .ok (.aload_n 0, 1) := dk_42 (dk_at dksX5_run_1 3 rfl rfl)
theorem dX5_run_28 : decode cX5_run 28 = .ok (.getfield 12, 3) := dk_180 0 12 (dk_at dksX5_run_1 4 rfl rfl)
theorem dX5_run_31 : decode cX5_run 31 = .ok (.iload_n 3, 1) := dk_29 (dk_at dksX5_run_1 7 rfl rfl)
theorem dX5_run_32 : decode cX5_run 32 = .ok (.iload 4, 2) := dk_21 4 (dk_at dksX5_run_1 8 rfl rfl)
theorem dX5_run_34 : decode cX5_run 34 = .ok (.invokevirtual 29, 3) := dk_182 0 29 (dk_at dksX5_run_1 10 rfl rfl)
theorem dX5_run_37 : decode cX5_run 37 = .ok (.iconst 0, 1) := dk_3 (dk_at dksX5_run_1 13 rfl rfl)
theorem dX5_run_38 : decode cX5_run 38 = .ok (.istore 7, 2) := dk_54 7 (dk_at dksX5_run_1 14 rfl rfl)
theorem dX5_run_40 : decode cX5_run 40 = .ok (.iload 5, 2) := dk_21 5 (dk_at dksX5_run_1 16 rfl rfl)
theorem dX5_run_42 : decode cX5_run 42 = .ok (.aload_n 1, 1) := dk_43 (dk_at dksX5_run_1 18 rfl rfl)
theorem dX5_run_43 : decode cX5_run 43 = .ok (.getfield 33, 3) := dk_180 0 33 (dk_at dksX5_run_1 19 rfl rfl)
theorem dX5_run_46 : decode cX5_run 46 = .ok (.if_icmp .ge 63, 3) := dk_162 0 63 (dk_at dksX5_run_2 0 rfl rfl)
theorem dX5_run_49 : decode cX5_run 49 = .ok (.aload_n 1, 1) := dk_43 (dk_at dksX5_run_2 3 rfl rfl)
theorem dX5_run_50 : decode cX5_run 50 = .ok (.getfield 39, 3) := dk_180 0 39 (dk_at dksX5_run_2 4 rfl rfl)
theorem dX5_run_53 : decode cX5_run 53 = .ok (.iload 5, 2) := dk_21 5 (dk_at dksX5_run_2 7 rfl rfl)
theorem dX5_run_55 : decode cX5_run 55 = .ok (.aaload, 1) := dk_50 (dk_at dksX5_run_2 9 rfl rfl)
theorem dX5_run_56 : decode cX5_run 56 = .ok (.getfield 43, 3) := dk_180 0 43 (dk_at dksX5_run_2 10 rfl rfl)
theorem dX5_run_59 : decode cX5_run 59 = .ok (.iload 6, 2) := dk_21 6 (dk_at dksX5_run_2 13 rfl rfl)
theorem dX5_run_61 : decode cX5_run 61 = .ok (.if_icmp .ne 48, 3) := dk_160 0 48 (dk_at dksX5_run_2 15 rfl rfl)
theorem dX5_run_64 : decode cX5_run 64 = .ok (.aload_n 1, 1) := dk_43 (dk_at dksX5_run_2 18 rfl rfl)
theorem dX5_run_65 : decode cX5_run 65 = .ok (.getfield 39, 3) := dk_180 0 39 (dk_at dksX5_run_2 19 rfl rfl)
theorem dX5_run_68 : decode cX5_run 68 = .ok (.iload 5, 2) := dk_21 5 (dk_at dksX5_run_2 22 rfl rfl)
theorem dX5_run_70 : decode cX5_run 70 = .ok (.aaload, 1) := dk_50 (dk_at dksX5_run_3 0 rfl rfl)
theorem dX5_run_71 : decode cX5_run 71 = .ok (.aload_n 0, 1) := dk_42 (dk_at dksX5_run_3 1 rfl rfl)
theorem dX5_run_72 : decode cX5_run 72 = .ok (.getfield 12, 3) := dk_180 0 12 (dk_at dksX5_run_3 2 rfl rfl)
theorem dX5_run_75 : decode cX5_run 75 = .ok (.invokevirtual 48, 3) := dk_182 0 48 (dk_at dksX5_run_3 5 rfl rfl)
theorem dX5_run_78 : decode cX5_run 78 = .ok (.iload 7, 2) := dk_21 7 (dk_at dksX5_run_3 8 rfl rfl)
theorem dX5_run_80 : decode cX5_run 80 = .ok (.ifCond .ne 16, 3) := dk_154 0 16 (dk_at dksX5_run_3 10 rfl rfl)
theorem dX5_run_83 : decode cX5_run 83 = .ok (.aload_n 1, 1) := dk_43 (dk_at dksX5_run_3 13 rfl rfl)
theorem dX5_run_84 : decode cX5_run 84 = .ok (.getfield 39, 3) := dk_180 0 39 (dk_at dksX5_run_3 14 rfl rfl)
theorem dX5_run_87 : decode cX5_run 87 = .ok (.iload 5, 2) := dk_21 5 (dk_at dksX5_run_3 17 rfl rfl)
theorem dX5_run_89 : decode cX5_run 89 = .ok (.aaload, 1) := dk_50 (dk_at dksX5_run_3 19 rfl rfl)
theorem dX5_run_90 : decode cX5_run 90 = .ok (.invokevirtual 52, 3) := dk_182 0 52 (dk_at dksX5_run_3 20 rfl rfl)
theorem dX5_run_93 : decode cX5_run 93 = .ok (.ifCond .eq 7, 3) := dk_153 0 7 (dk_at dksX5_run_4 0 rfl rfl)
theorem dX5_run_96 : decode cX5_run 96 = .ok (.iconst 1, 1) := dk_4 (dk_at dksX5_run_4 3 rfl rfl)
theorem dX5_run_97 : decode cX5_run 97 = .ok (.goto 4, 3) := dk_167 0 4 (dk_at dksX5_run_4 4 rfl rfl)
theorem dX5_run_100 : decode cX5_run 100 = .ok (.iconst 0, 1) := dk_3 (dk_at dksX5_run_4 7 rfl rfl)
theorem dX5_run_101 : decode cX5_run 101 = .ok (.istore 7, 2) := dk_54 7 (dk_at dksX5_run_4 8 rfl rfl)
theorem dX5_run_103 : decode cX5_run 103 = .ok (.iinc 5 1, 3) := dk_132 5 1 (dk_at dksX5_run_4 10 rfl rfl)
theorem dX5_run_106 : decode cX5_run 106 = .ok (.goto (-66), 3) := dk_167 255 190 (dk_at dksX5_run_4 13 rfl rfl)
theorem dX5_run_109 : decode cX5_run 109 = .ok (.aload_n 0, 1) := dk_42 (dk_at dksX5_run_4 16 rfl rfl)
theorem dX5_run_110 : decode cX5_run 110 = .ok (.getfield 12, 3) := dk_180 0 12 (dk_at dksX5_run_4 17 rfl rfl)
theorem dX5_run_113 : decode cX5_run 113 = .ok (.iload 7, 2) := dk_21 7 (dk_at dksX5_run_4 20 rfl rfl)
theorem dX5_run_115 : decode cX5_run 115 = .ok (.invokevirtual 56, 3) := dk_182 0 56 (dk_at dksX5_run_5 0 rfl rfl)
theorem dX5_run_118 : decode cX5_run 118 = .ok (.aload_n 0, 1) := dk_42 (dk_at dksX5_run_5 3 rfl rfl)
theorem dX5_run_119 : decode cX5_run 119 = .ok (.getfield 12, 3) := dk_180 0 12 (dk_at dksX5_run_5 4 rfl rfl)
theorem dX5_run_122 : decode cX5_run 122 = .ok (.getfield 60, 3) := dk_180 0 60 (dk_at dksX5_run_5 7 rfl rfl)
theorem dX5_run_125 : decode cX5_run 125 = .ok (.iconst 0, 1) := dk_3 (dk_at dksX5_run_5 10 rfl rfl)
theorem dX5_run_126 : decode cX5_run 126 = .ok (.aload_n 0, 1) := dk_42 (dk_at dksX5_run_5 11 rfl rfl)
theorem dX5_run_127 : decode cX5_run 127 = .ok (.getfield 18, 3) := dk_180 0 18 (dk_at dksX5_run_5 12 rfl rfl)
theorem dX5_run_130 : decode cX5_run 130 = .ok (.iconst 5, 1) := dk_8 (dk_at dksX5_run_5 15 rfl rfl)
theorem dX5_run_131 : decode cX5_run 131 = .ok (.iload 6, 2) := dk_21 6 (dk_at dksX5_run_5 16 rfl rfl)
theorem dX5_run_133 : decode cX5_run 133 = .ok (.imul, 1) := dk_104 (dk_at dksX5_run_5 18 rfl rfl)
theorem dX5_run_134 : decode cX5_run 134 = .ok (.iconst 5, 1) := dk_8 (dk_at dksX5_run_5 19 rfl rfl)
theorem dX5_run_135 : decode cX5_run 135 = .ok (.invokestatic 61, 3) := dk_184 0 61 (dk_at dksX5_run_5 20 rfl rfl)
theorem dX5_run_138 : decode cX5_run 138 = .ok (.aload_n 0, 1) := dk_42 (dk_at dksX5_run_5 23 rfl rfl)
theorem dX5_run_139 : decode cX5_run 139 = .ok (.getfield 12, 3) := dk_180 0 12 (dk_at dksX5_run_6 0 rfl rfl)
theorem dX5_run_142 : decode cX5_run 142 = .ok (.getfield 67, 3) := dk_180 0 67 (dk_at dksX5_run_6 3 rfl rfl)
theorem dX5_run_145 : decode cX5_run 145 = .ok (.iconst 0, 1) := dk_3 (dk_at dksX5_run_6 6 rfl rfl)
theorem dX5_run_146 : decode cX5_run 146 = .ok (.aload_n 0, 1) := dk_42 (dk_at dksX5_run_6 7 rfl rfl)
theorem dX5_run_147 : decode cX5_run 147 = .ok (.getfield 22, 3) := dk_180 0 22 (dk_at dksX5_run_6 8 rfl rfl)
theorem dX5_run_150 : decode cX5_run 150 = .ok (.iconst 5, 1) := dk_8 (dk_at dksX5_run_6 11 rfl rfl)
theorem dX5_run_151 : decode cX5_run 151 = .ok (.iload 6, 2) := dk_21 6 (dk_at dksX5_run_6 12 rfl rfl)
theorem dX5_run_153 : decode cX5_run 153 = .ok (.imul, 1) := dk_104 (dk_at dksX5_run_6 14 rfl rfl)
theorem dX5_run_154 : decode cX5_run 154 = .ok (.iconst 5, 1) := dk_8 (dk_at dksX5_run_6 15 rfl rfl)
theorem dX5_run_155 : decode cX5_run 155 = .ok (.invokestatic 61, 3) := dk_184 0 61 (dk_at dksX5_run_6 16 rfl rfl)
theorem dX5_run_158 : decode cX5_run 158 = .ok (.iinc 6 1, 3) := dk_132 6 1 (dk_at dksX5_run_6 19 rfl rfl)
theorem dX5_run_161 : decode cX5_run 161 = .ok (.goto (-147), 3) := dk_167 255 109 (dk_at dksX5_run_7 0 rfl rfl)
theorem dX5_run_164 : decode cX5_run 164 = .ok (.return_, 1) := dk_177 (dk_at dksX5_run_7 3 rfl rfl)
abbrev cX5_holder : ByteArray := prog_8_method_3_code
def yX5_holder : MethodName := ⟨RX5, "holder", "(II)I"⟩
def dkwX5_holder_0 : List UInt8 := [42, 180, 0, 18, 8, 28, 104, 27, 96, 46, 172]
abbrev dktX5_holder_0 : List UInt8 := dkwX5_holder_0 ++ []
theorem dksX5_holder_0 : cX5_holder.data.toList.drop 0 = dktX5_holder_0 := by decide +kernel
theorem dX5_holder_0 : decode cX5_holder 0 = .ok (.aload_n 0, 1) := dk_42 (dk_at dksX5_holder_0 0 rfl rfl)
theorem dX5_holder_1 : decode cX5_holder 1 = .ok (.getfield 18, 3) := dk_180 0 18 (dk_at dksX5_holder_0 1 rfl rfl)
theorem dX5_holder_4 : decode cX5_holder 4 = .ok (.iconst 5, 1) := dk_8 (dk_at dksX5_holder_0 4 rfl rfl)
theorem dX5_holder_5 : decode cX5_holder 5 = .ok (.iload_n 2, 1) := dk_28 (dk_at dksX5_holder_0 5 rfl rfl)
theorem dX5_holder_6 : decode cX5_holder 6 = .ok (.imul, 1) := dk_104 (dk_at dksX5_holder_0 6 rfl rfl)
theorem dX5_holder_7 : decode cX5_holder 7 = .ok (.iload_n 1, 1) := dk_27 (dk_at dksX5_holder_0 7 rfl rfl)
theorem dX5_holder_8 : decode cX5_holder 8 = .ok (.iadd, 1) := dk_96 (dk_at dksX5_holder_0 8 rfl rfl)
theorem dX5_holder_9 : decode cX5_holder 9 = .ok (.iaload, 1) := dk_46 (dk_at dksX5_holder_0 9 rfl rfl)
theorem dX5_holder_10 : decode cX5_holder 10 = .ok (.ireturn, 1) := dk_172 (dk_at dksX5_holder_0 10 rfl rfl)
abbrev cX5_title : ByteArray := prog_8_method_4_code
def yX5_title : MethodName := ⟨RX5, "title", "(II)I"⟩
def dkwX5_title_0 : List UInt8 := [42, 180, 0, 22, 8, 28, 104, 27, 96, 46, 172]
abbrev dktX5_title_0 : List UInt8 := dkwX5_title_0 ++ []
theorem dksX5_title_0 : cX5_title.data.toList.drop 0 = dktX5_title_0 := by decide +kernel
theorem dX5_title_0 : decode cX5_title 0 = .ok (.aload_n 0, 1) := dk_42 (dk_at dksX5_title_0 0 rfl rfl)
theorem dX5_title_1 : decode cX5_title 1 = .ok (.getfield 22, 3) := dk_180 0 22 (dk_at dksX5_title_0 1 rfl rfl)
theorem dX5_title_4 : decode cX5_title 4 = .ok (.iconst 5, 1) := dk_8 (dk_at dksX5_title_0 4 rfl rfl)
theorem dX5_title_5 : decode cX5_title 5 = .ok (.iload_n 2, 1) := dk_28 (dk_at dksX5_title_0 5 rfl rfl)
theorem dX5_title_6 : decode cX5_title 6 = .ok (.imul, 1) := dk_104 (dk_at dksX5_title_0 6 rfl rfl)
theorem dX5_title_7 : decode cX5_title 7 = .ok (.iload_n 1, 1) := dk_27 (dk_at dksX5_title_0 7 rfl rfl)
theorem dX5_title_8 : decode cX5_title 8 = .ok (.iadd, 1) := dk_96 (dk_at dksX5_title_0 8 rfl rfl)
theorem dX5_title_9 : decode cX5_title 9 = .ok (.iaload, 1) := dk_46 (dk_at dksX5_title_0 9 rfl rfl)
theorem dX5_title_10 : decode cX5_title 10 = .ok (.ireturn, 1) := dk_172 (dk_at dksX5_title_0 10 rfl rfl)
abbrev cX5_wrongly : ByteArray := prog_8_method_5_code
def yX5_wrongly : MethodName := ⟨RX5, "wrongly", "(LUmbrellaHeir$County;)I"⟩
def dkwX5_wrongly_2 : List UInt8 := [132, 2, 1, 167, 255, 209, 16, 254, 172]
abbrev dktX5_wrongly_2 : List UInt8 := dkwX5_wrongly_2 ++ []
def dkwX5_wrongly_1 : List UInt8 := [28, 50, 180, 0, 80, 182, 0, 81, 43, 180, 0, 71, 28, 50, 180, 0, 85, 159, 0, 5, 28, 172]
abbrev dktX5_wrongly_1 : List UInt8 := dkwX5_wrongly_1 ++ dktX5_wrongly_2
def dkwX5_wrongly_0 : List UInt8 := [3, 61, 28, 43, 180, 0, 68, 162, 0, 45, 42, 43, 180, 0, 71, 28, 50, 180, 0, 75, 43, 180, 0, 71]
abbrev dktX5_wrongly_0 : List UInt8 := dkwX5_wrongly_0 ++ dktX5_wrongly_1
theorem dksX5_wrongly_0 : cX5_wrongly.data.toList.drop 0 = dktX5_wrongly_0 := by decide +kernel
theorem dksX5_wrongly_1 : cX5_wrongly.data.toList.drop 24 = dktX5_wrongly_1 := dk_seg dksX5_wrongly_0 24 rfl rfl
theorem dksX5_wrongly_2 : cX5_wrongly.data.toList.drop 46 = dktX5_wrongly_2 := dk_seg dksX5_wrongly_1 22 rfl rfl
theorem dX5_wrongly_0 : decode cX5_wrongly 0 = .ok (.iconst 0, 1) := dk_3 (dk_at dksX5_wrongly_0 0 rfl rfl)
theorem dX5_wrongly_1 : decode cX5_wrongly 1 = .ok (.istore_n 2, 1) := dk_61 (dk_at dksX5_wrongly_0 1 rfl rfl)
theorem dX5_wrongly_2 : decode cX5_wrongly 2 = .ok (.iload_n 2, 1) := dk_28 (dk_at dksX5_wrongly_0 2 rfl rfl)
theorem dX5_wrongly_3 : decode cX5_wrongly 3 = .ok (.aload_n 1, 1) := dk_43 (dk_at dksX5_wrongly_0 3 rfl rfl)
theorem dX5_wrongly_4 : decode cX5_wrongly 4 = .ok (.getfield 68, 3) := dk_180 0 68 (dk_at dksX5_wrongly_0 4 rfl rfl)
theorem dX5_wrongly_7 : decode cX5_wrongly 7 = .ok (.if_icmp .ge 45, 3) := dk_162 0 45 (dk_at dksX5_wrongly_0 7 rfl rfl)
theorem dX5_wrongly_10 : decode cX5_wrongly 10 = .ok (.aload_n 0, 1) := dk_42 (dk_at dksX5_wrongly_0 10 rfl rfl)
theorem dX5_wrongly_11 : decode cX5_wrongly 11 = .ok (.aload_n 1, 1) := dk_43 (dk_at dksX5_wrongly_0 11 rfl rfl)
theorem dX5_wrongly_12 : decode cX5_wrongly 12 = .ok (.getfield 71, 3) := dk_180 0 71 (dk_at dksX5_wrongly_0 12 rfl rfl)
theorem dX5_wrongly_15 : decode cX5_wrongly 15 = .ok (.iload_n 2, 1) := dk_28 (dk_at dksX5_wrongly_0 15 rfl rfl)
theorem dX5_wrongly_16 : decode cX5_wrongly 16 = .ok (.aaload, 1) := dk_50 (dk_at dksX5_wrongly_0 16 rfl rfl)
theorem dX5_wrongly_17 : decode cX5_wrongly 17 = .ok (.getfield 75, 3) := dk_180 0 75 (dk_at dksX5_wrongly_0 17 rfl rfl)
theorem dX5_wrongly_20 : decode cX5_wrongly 20 = .ok (.aload_n 1, 1) := dk_43 (dk_at dksX5_wrongly_0 20 rfl rfl)
theorem dX5_wrongly_21 : decode cX5_wrongly 21 = .ok (.getfield 71, 3) := dk_180 0 71 (dk_at dksX5_wrongly_0 21 rfl rfl)
theorem dX5_wrongly_24 : decode cX5_wrongly 24 = .ok (.iload_n 2, 1) := dk_28 (dk_at dksX5_wrongly_1 0 rfl rfl)
theorem dX5_wrongly_25 : decode cX5_wrongly 25 = .ok (.aaload, 1) := dk_50 (dk_at dksX5_wrongly_1 1 rfl rfl)
theorem dX5_wrongly_26 : decode cX5_wrongly 26 = .ok (.getfield 80, 3) := dk_180 0 80 (dk_at dksX5_wrongly_1 2 rfl rfl)
theorem dX5_wrongly_29 : decode cX5_wrongly 29 = .ok (.invokevirtual 81, 3) := dk_182 0 81 (dk_at dksX5_wrongly_1 5 rfl rfl)
theorem dX5_wrongly_32 : decode cX5_wrongly 32 = .ok (.aload_n 1, 1) := dk_43 (dk_at dksX5_wrongly_1 8 rfl rfl)
theorem dX5_wrongly_33 : decode cX5_wrongly 33 = .ok (.getfield 71, 3) := dk_180 0 71 (dk_at dksX5_wrongly_1 9 rfl rfl)
theorem dX5_wrongly_36 : decode cX5_wrongly 36 = .ok (.iload_n 2, 1) := dk_28 (dk_at dksX5_wrongly_1 12 rfl rfl)
theorem dX5_wrongly_37 : decode cX5_wrongly 37 = .ok (.aaload, 1) := dk_50 (dk_at dksX5_wrongly_1 13 rfl rfl)
theorem dX5_wrongly_38 : decode cX5_wrongly 38 = .ok (.getfield 85, 3) := dk_180 0 85 (dk_at dksX5_wrongly_1 14 rfl rfl)
theorem dX5_wrongly_41 : decode cX5_wrongly 41 = .ok (.if_icmp .eq 5, 3) := dk_159 0 5 (dk_at dksX5_wrongly_1 17 rfl rfl)
theorem dX5_wrongly_44 : decode cX5_wrongly 44 = .ok (.iload_n 2, 1) := dk_28 (dk_at dksX5_wrongly_1 20 rfl rfl)
theorem dX5_wrongly_45 : decode cX5_wrongly 45 = .ok (.ireturn, 1) := dk_172 (dk_at dksX5_wrongly_1 21 rfl rfl)
theorem dX5_wrongly_46 : decode cX5_wrongly 46 = .ok (.iinc 2 1, 3) := dk_132 2 1 (dk_at dksX5_wrongly_2 0 rfl rfl)
theorem dX5_wrongly_49 : decode cX5_wrongly 49 = .ok (.goto (-47), 3) := dk_167 255 209 (dk_at dksX5_wrongly_2 3 rfl rfl)
theorem dX5_wrongly_52 : decode cX5_wrongly 52 = .ok (.bipush (-2), 2) := dk_16 254 (dk_at dksX5_wrongly_2 6 rfl rfl)
theorem dX5_wrongly_54 : decode cX5_wrongly 54 = .ok (.ireturn, 1) := dk_172 (dk_at dksX5_wrongly_2 8 rfl rfl)
theorem q122 : (Jvm.Cond.initialized "UmbrellaHeir$Course") ∈ lw_all := lw_g (lw_at lw_m1 8 rfl) rfl
theorem q282 : (Jvm.Cond.fieldLink "UmbrellaHeir$Course" (60 : Nat) "UmbrellaHeir$Hall" "holders" "[I") ∈ lw_all := lw_g (lw_at lw_m1 168 rfl) rfl
theorem q286 : (Jvm.Cond.fieldLink "UmbrellaHeir$Course" (67 : Nat) "UmbrellaHeir$Hall" "titles" "[I") ∈ lw_all := lw_g (lw_at lw_m1 172 rfl) rfl
theorem q303 : (Jvm.Cond.instantiable "UmbrellaHeir$Course" (3 : Nat)) ∈ lw_all := lw_g (lw_at lw_m1 189 rfl) rfl
theorem q305 : (Jvm.Cond.instanceMethod ({ cls := "UmbrellaHeir$Course", name := "<init>", desc := "()V" } : Jvm.MethodName)) ∈ lw_all := lw_g (lw_at lw_m1 191 rfl) rfl
theorem q306 : (Jvm.Cond.code ({ cls := "UmbrellaHeir$Course", name := "<init>", desc := "()V" } : Jvm.MethodName) prog_8_method_1_code (1 : Nat) (Option.none : Option Jvm.ClassFile.FieldType)) ∈ lw_all := lw_g (lw_at lw_m1 192 rfl) rfl
theorem q307 : (Jvm.Cond.methodLink "UmbrellaHeir$Course" (3 : Nat) ({ cls := "java/lang/Object", name := "<init>", desc := "()V" } : Jvm.MethodName)) ∈ lw_all := lw_g (lw_at lw_m1 193 rfl) rfl
theorem q308 : (Jvm.Cond.classLink "UmbrellaHeir$Course" (9 : Nat) "UmbrellaHeir$Hall") ∈ lw_all := lw_g (lw_at lw_m1 194 rfl) rfl
theorem q309 : (Jvm.Cond.methodLinkNest "UmbrellaHeir$Course" (11 : Nat) ({ cls := "UmbrellaHeir$Hall", name := "<init>", desc := "()V" } : Jvm.MethodName) "UmbrellaHeir") ∈ lw_tbl := lw_at lw_m1 195 rfl
theorem q310 : (Jvm.Cond.fieldLink "UmbrellaHeir$Course" (12 : Nat) "UmbrellaHeir$Course" "hall" "LUmbrellaHeir$Hall;") ∈ lw_all := lw_g (lw_at lw_m1 196 rfl) rfl
theorem q311 : (Jvm.Cond.fieldLink "UmbrellaHeir$Course" (18 : Nat) "UmbrellaHeir$Course" "holders" "[I") ∈ lw_all := lw_g (lw_at lw_m1 197 rfl) rfl
theorem q312 : (Jvm.Cond.fieldLink "UmbrellaHeir$Course" (22 : Nat) "UmbrellaHeir$Course" "titles" "[I") ∈ lw_all := lw_g (lw_at lw_m1 198 rfl) rfl
theorem q313 : (Jvm.Cond.laysFinal "UmbrellaHeir$Course" "UmbrellaHeir$Course" "hall" "LUmbrellaHeir$Hall;") ∈ lw_all := lw_g (lw_at lw_m1 199 rfl) rfl
theorem q314 : (Jvm.Cond.soleField "UmbrellaHeir$Course" "hall") ∈ lw_all := lw_g (lw_at lw_m1 200 rfl) rfl
theorem q315 : (Jvm.Cond.laysFinal "UmbrellaHeir$Course" "UmbrellaHeir$Course" "holders" "[I") ∈ lw_all := lw_g (lw_at lw_m1 201 rfl) rfl
theorem q316 : (Jvm.Cond.soleField "UmbrellaHeir$Course" "holders") ∈ lw_all := lw_g (lw_at lw_m1 202 rfl) rfl
theorem q317 : (Jvm.Cond.laysFinal "UmbrellaHeir$Course" "UmbrellaHeir$Course" "titles" "[I") ∈ lw_all := lw_g (lw_at lw_m1 203 rfl) rfl
theorem q318 : (Jvm.Cond.soleField "UmbrellaHeir$Course" "titles") ∈ lw_all := lw_g (lw_at lw_m1 204 rfl) rfl
theorem q319 : (Jvm.Cond.superclass "UmbrellaHeir$Course" "java/lang/Object") ∈ lw_all := lw_g (lw_at lw_m1 205 rfl) rfl
theorem q494 : (Jvm.Cond.fieldLink "UmbrellaHeir$Course" (39 : Nat) "UmbrellaHeir$County" "log" "[LUmbrellaHeir$Event;") ∈ lw_all := lw_g (lw_at lw_m2 140 rfl) rfl
theorem q497 : (Jvm.Cond.fieldLink "UmbrellaHeir$Course" (71 : Nat) "UmbrellaHeir$County" "claims" "[LUmbrellaHeir$Claim;") ∈ lw_all := lw_g (lw_at lw_m2 143 rfl) rfl
theorem q517 : (Jvm.Cond.fieldLink "UmbrellaHeir$Course" (33 : Nat) "UmbrellaHeir$County" "logMany" "I") ∈ lw_all := lw_g (lw_at lw_m2 163 rfl) rfl
theorem q520 : (Jvm.Cond.fieldLink "UmbrellaHeir$Course" (68 : Nat) "UmbrellaHeir$County" "claimMany" "I") ∈ lw_all := lw_g (lw_at lw_m2 166 rfl) rfl
theorem q933 : (Jvm.Cond.fieldLink "UmbrellaHeir$Course" (43 : Nat) "UmbrellaHeir$Event" "day" "I") ∈ lw_all := lw_g (lw_at lw_m4 99 rfl) rfl
theorem q999 : (Jvm.Cond.fieldLink "UmbrellaHeir$Course" (85 : Nat) "UmbrellaHeir$Claim" "person" "I") ∈ lw_all := lw_g (lw_at lw_m4 165 rfl) rfl
theorem q1001 : (Jvm.Cond.fieldLink "UmbrellaHeir$Course" (75 : Nat) "UmbrellaHeir$Claim" "umbrella" "I") ∈ lw_all := lw_g (lw_at lw_m4 167 rfl) rfl
theorem q1003 : (Jvm.Cond.fieldLink "UmbrellaHeir$Course" (80 : Nat) "UmbrellaHeir$Claim" "day" "I") ∈ lw_all := lw_g (lw_at lw_m4 169 rfl) rfl
theorem q1040 : (Jvm.Cond.instanceMethod ({ cls := "UmbrellaHeir$Course", name := "run", desc := "(LUmbrellaHeir$County;III)V" } : Jvm.MethodName)) ∈ lw_all := lw_g (lw_at lw_m4 206 rfl) rfl
theorem q1041 : (Jvm.Cond.selects "UmbrellaHeir$Course" ({ cls := "UmbrellaHeir$Course", name := "run", desc := "(LUmbrellaHeir$County;III)V" } : Jvm.MethodName) ({ cls := "UmbrellaHeir$Course", name := "run", desc := "(LUmbrellaHeir$County;III)V" } : Jvm.MethodName)) ∈ lw_all := lw_g (lw_at lw_m4 207 rfl) rfl
theorem q1042 : (Jvm.Cond.code ({ cls := "UmbrellaHeir$Course", name := "run", desc := "(LUmbrellaHeir$County;III)V" } : Jvm.MethodName) prog_8_method_2_code (8 : Nat) (Option.none : Option Jvm.ClassFile.FieldType)) ∈ lw_all := lw_g (lw_at lw_m4 208 rfl) rfl
theorem q1043 : (Jvm.Cond.methodLink "UmbrellaHeir$Course" (25 : Nat) ({ cls := "UmbrellaHeir$Hall", name := "begin", desc := "(LUmbrellaHeir$County;)V" } : Jvm.MethodName)) ∈ lw_all := lw_g (lw_at lw_m4 209 rfl) rfl
theorem q1044 : (Jvm.Cond.methodLink "UmbrellaHeir$Course" (29 : Nat) ({ cls := "UmbrellaHeir$Hall", name := "change", desc := "(II)V" } : Jvm.MethodName)) ∈ lw_all := lw_g (lw_at lw_m4 210 rfl) rfl
theorem q1048 : (Jvm.Cond.methodLink "UmbrellaHeir$Course" (48 : Nat) ({ cls := "UmbrellaHeir$Event", name := "happens", desc := "(LUmbrellaHeir$Hall;)V" } : Jvm.MethodName)) ∈ lw_all := lw_g (lw_at lw_m4 214 rfl) rfl
theorem q1064 : (Jvm.Cond.methodLink "UmbrellaHeir$Course" (52 : Nat) ({ cls := "UmbrellaHeir$Event", name := "isRain", desc := "()Z" } : Jvm.MethodName)) ∈ lw_all := lw_g (lw_at lw_m4 230 rfl) rfl
theorem q1074 : (Jvm.Cond.methodLink "UmbrellaHeir$Course" (56 : Nat) ({ cls := "UmbrellaHeir$Hall", name := "ends", desc := "(Z)V" } : Jvm.MethodName)) ∈ lw_all := lw_g (lw_at lw_m5 0 rfl) rfl
theorem q1127 : (Jvm.Cond.methodLink "UmbrellaHeir$Course" (61 : Nat) ({ cls := "java/lang/System", name := "arraycopy", desc := "(Ljava/lang/Object;ILjava/lang/Object;II)V" } : Jvm.MethodName)) ∈ lw_all := lw_g (lw_at lw_m5 53 rfl) rfl
theorem q1216 : (Jvm.Cond.instanceMethod ({ cls := "UmbrellaHeir$Course", name := "holder", desc := "(II)I" } : Jvm.MethodName)) ∈ lw_all := lw_g (lw_at lw_m5 142 rfl) rfl
theorem q1217 : (Jvm.Cond.selects "UmbrellaHeir$Course" ({ cls := "UmbrellaHeir$Course", name := "holder", desc := "(II)I" } : Jvm.MethodName) ({ cls := "UmbrellaHeir$Course", name := "holder", desc := "(II)I" } : Jvm.MethodName)) ∈ lw_all := lw_g (lw_at lw_m5 143 rfl) rfl
theorem q1218 : (Jvm.Cond.code ({ cls := "UmbrellaHeir$Course", name := "holder", desc := "(II)I" } : Jvm.MethodName) prog_8_method_3_code (3 : Nat) (Option.some Jvm.ClassFile.FieldType.int)) ∈ lw_all := lw_g (lw_at lw_m5 144 rfl) rfl
theorem q1224 : (Jvm.Cond.instanceMethod ({ cls := "UmbrellaHeir$Course", name := "title", desc := "(II)I" } : Jvm.MethodName)) ∈ lw_all := lw_g (lw_at lw_m5 150 rfl) rfl
theorem q1225 : (Jvm.Cond.selects "UmbrellaHeir$Course" ({ cls := "UmbrellaHeir$Course", name := "title", desc := "(II)I" } : Jvm.MethodName) ({ cls := "UmbrellaHeir$Course", name := "title", desc := "(II)I" } : Jvm.MethodName)) ∈ lw_all := lw_g (lw_at lw_m5 151 rfl) rfl
theorem q1226 : (Jvm.Cond.code ({ cls := "UmbrellaHeir$Course", name := "title", desc := "(II)I" } : Jvm.MethodName) prog_8_method_4_code (3 : Nat) (Option.some Jvm.ClassFile.FieldType.int)) ∈ lw_all := lw_g (lw_at lw_m5 152 rfl) rfl
theorem q1248 : (Jvm.Cond.instanceMethod ({ cls := "UmbrellaHeir$Course", name := "wrongly", desc := "(LUmbrellaHeir$County;)I" } : Jvm.MethodName)) ∈ lw_all := lw_g (lw_at lw_m5 174 rfl) rfl
theorem q1249 : (Jvm.Cond.selects "UmbrellaHeir$Course" ({ cls := "UmbrellaHeir$Course", name := "wrongly", desc := "(LUmbrellaHeir$County;)I" } : Jvm.MethodName) ({ cls := "UmbrellaHeir$Course", name := "wrongly", desc := "(LUmbrellaHeir$County;)I" } : Jvm.MethodName)) ∈ lw_all := lw_g (lw_at lw_m5 175 rfl) rfl
theorem q1250 : (Jvm.Cond.code ({ cls := "UmbrellaHeir$Course", name := "wrongly", desc := "(LUmbrellaHeir$County;)I" } : Jvm.MethodName) prog_8_method_5_code (3 : Nat) (Option.some Jvm.ClassFile.FieldType.int)) ∈ lw_all := lw_g (lw_at lw_m5 176 rfl) rfl
theorem q1251 : (Jvm.Cond.methodLink "UmbrellaHeir$Course" (81 : Nat) ({ cls := "UmbrellaHeir$Course", name := "title", desc := "(II)I" } : Jvm.MethodName)) ∈ lw_all := lw_g (lw_at lw_m5 177 rfl) rfl
theorem q2303 : (Jvm.Cond.castable "UmbrellaHeir$Course" "java/lang/Object") ∈ lw_tbl := lw_at lw_m10 29 rfl
theorem in_X5 : ∀ w ∈ wsX50, w ∈ lw_all := lw_in wsX50 [313, 315, 317] (by decide +kernel) (by decide +kernel)
/-! UmbrellaHeir$Righting -/
set_option maxRecDepth 100000
def RX6 : String := "UmbrellaHeir$Righting"
def TX6 : u_T := fun k => match k with
  | 0 => ("UmbrellaHeir$Righting", "halls", "[LUmbrellaHeir$Hall;", true)
  | 1 => ("UmbrellaHeir$Righting", "row", "[I", true)
  | 2 => ("UmbrellaHeir$Righting", "best", "[I", true)
  | 3 => ("UmbrellaHeir$Righting", "county", "LUmbrellaHeir$County;", false)
  | 4 => ("UmbrellaHeir$Righting", "right", "I", false)
  | _ => ("UmbrellaHeir$Righting", "many", "I", false)
def tyX6 : Nat → FieldType := fun k => match k with
  | 0 => .array (.object "UmbrellaHeir$Hall")
  | 1 => .array .int
  | 2 => .array .int
  | 3 => .object "UmbrellaHeir$County"
  | 4 => .int
  | _ => .int
abbrev wsX60 : List Cond := u_ws RX6 TX6 6
theorem nmX6 : ∀ a, a < 6 → ∀ b, b < 6 → a ≠ b → (TX6 a).2.1 ≠ (TX6 b).2.1 := by decide +kernel
theorem tyX6_ok : ∀ k, k < 6 → parseFieldDescriptor (TX6 k).2.2.1 = some (tyX6 k) := by decide +kernel
abbrev cX6_init : ByteArray := prog_21_method_1_code
def yX6_init : MethodName := ⟨RX6, "<init>", "()V"⟩
def dkwX6_init_2 : List UInt8 := [132, 1, 1, 167, 255, 235, 177]
abbrev dktX6_init_2 : List UInt8 := dkwX6_init_2 ++ []
def dkwX6_init_1 : List UInt8 := [181, 0, 21, 3, 60, 27, 6, 163, 0, 22, 42, 180, 0, 11, 27, 187, 0, 9, 89, 183, 0, 24, 83]
abbrev dktX6_init_1 : List UInt8 := dkwX6_init_1 ++ dktX6_init_2
def dkwX6_init_0 : List UInt8 := [42, 183, 0, 3, 42, 7, 189, 0, 9, 181, 0, 11, 42, 6, 188, 10, 181, 0, 17, 42, 6, 188, 10]
abbrev dktX6_init_0 : List UInt8 := dkwX6_init_0 ++ dktX6_init_1
theorem dksX6_init_0 : cX6_init.data.toList.drop 0 = dktX6_init_0 := by decide +kernel
theorem dksX6_init_1 : cX6_init.data.toList.drop 23 = dktX6_init_1 := dk_seg dksX6_init_0 23 rfl rfl
theorem dksX6_init_2 : cX6_init.data.toList.drop 46 = dktX6_init_2 := dk_seg dksX6_init_1 23 rfl rfl
theorem dX6_init_0 : decode cX6_init 0 = .ok (.aload_n 0, 1) := dk_42 (dk_at dksX6_init_0 0 rfl rfl)
theorem dX6_init_1 : decode cX6_init 1 = .ok (.invokespecial 3, 3) := dk_183 0 3 (dk_at dksX6_init_0 1 rfl rfl)
theorem dX6_init_4 : decode cX6_init 4 = .ok (.aload_n 0, 1) := dk_42 (dk_at dksX6_init_0 4 rfl rfl)
theorem dX6_init_5 : decode cX6_init 5 = .ok (.iconst 4, 1) := dk_7 (dk_at dksX6_init_0 5 rfl rfl)
theorem dX6_init_6 : decode cX6_init 6 = .ok (.anewarray 9, 3) := dk_189 0 9 (dk_at dksX6_init_0 6 rfl rfl)
theorem dX6_init_9 : decode cX6_init 9 = .ok (.putfield 11, 3) := dk_181 0 11 (dk_at dksX6_init_0 9 rfl rfl)
theorem dX6_init_12 : decode cX6_init 12 = .ok (.aload_n 0, 1) := dk_42 (dk_at dksX6_init_0 12 rfl rfl)
theorem dX6_init_13 : decode cX6_init 13 = .ok (.iconst 3, 1) := dk_6 (dk_at dksX6_init_0 13 rfl rfl)
theorem dX6_init_14 : decode cX6_init 14 = .ok (.newarray .int, 2) := dk_188_10 (dk_at dksX6_init_0 14 rfl rfl)
theorem dX6_init_16 : decode cX6_init 16 = .ok (.putfield 17, 3) := dk_181 0 17 (dk_at dksX6_init_0 16 rfl rfl)
theorem dX6_init_19 : decode cX6_init 19 = .ok (.aload_n 0, 1) := dk_42 (dk_at dksX6_init_0 19 rfl rfl)
theorem dX6_init_20 : decode cX6_init 20 = .ok (.iconst 3, 1) := dk_6 (dk_at dksX6_init_0 20 rfl rfl)
theorem dX6_init_21 : decode cX6_init 21 = .ok (.newarray .int, 2) := dk_188_10 (dk_at dksX6_init_0 21 rfl rfl)
theorem dX6_init_23 : decode cX6_init 23 = .ok (.putfield 21, 3) := dk_181 0 21 (dk_at dksX6_init_1 0 rfl rfl)
theorem dX6_init_26 : decode cX6_init 26 = .ok (.iconst 0, 1) := dk_3 (dk_at dksX6_init_1 3 rfl rfl)
theorem dX6_init_27 : decode cX6_init 27 = .ok (.istore_n 1, 1) := dk_60 (dk_at dksX6_init_1 4 rfl rfl)
theorem dX6_init_28 : decode cX6_init 28 = .ok (.iload_n 1, 1) := dk_27 (dk_at dksX6_init_1 5 rfl rfl)
theorem dX6_init_29 : decode cX6_init 29 = .ok (.iconst 3, 1) := dk_6 (dk_at dksX6_init_1 6 rfl rfl)
theorem dX6_init_30 : decode cX6_init 30 = .ok (.if_icmp .gt 22, 3) := dk_163 0 22 (dk_at dksX6_init_1 7 rfl rfl)
theorem dX6_init_33 : decode cX6_init 33 = .ok (.aload_n 0, 1) := dk_42 (dk_at dksX6_init_1 10 rfl rfl)
theorem dX6_init_34 : decode cX6_init 34 = .ok (.getfield 11, 3) := dk_180 0 11 (dk_at dksX6_init_1 11 rfl rfl)
theorem dX6_init_37 : decode cX6_init 37 = .ok (.iload_n 1, 1) := dk_27 (dk_at dksX6_init_1 14 rfl rfl)
theorem dX6_init_38 : decode cX6_init 38 = .ok (.new 9, 3) := dk_187 0 9 (dk_at dksX6_init_1 15 rfl rfl)
theorem dX6_init_41 : decode cX6_init 41 = .ok (.dup, 1) := dk_89 (dk_at dksX6_init_1 18 rfl rfl)
theorem dX6_init_42 : decode cX6_init 42 = .ok (.invokespecial 24, 3) := dk_183 0 24 (dk_at dksX6_init_1 19 rfl rfl)
theorem dX6_init_45 : decode cX6_init 45 = .ok (.aastore, 1) := dk_83 (dk_at dksX6_init_1 22 rfl rfl)
theorem dX6_init_46 : decode cX6_init 46 = .ok (.iinc 1 1, 3) := dk_132 1 1 (dk_at dksX6_init_2 0 rfl rfl)
theorem dX6_init_49 : decode cX6_init 49 = .ok (.goto (-21), 3) := dk_167 255 235 (dk_at dksX6_init_2 3 rfl rfl)
theorem dX6_init_52 : decode cX6_init 52 = .ok (.return_, 1) := dk_177 (dk_at dksX6_init_2 6 rfl rfl)
abbrev cX6_seek : ByteArray := prog_21_method_2_code
def yX6_seek : MethodName := ⟨RX6, "seek", "(LUmbrellaHeir$County;LUmbrellaHeir$Hall;)V"⟩
def dkwX6_seek_1 : List UInt8 := [182, 0, 36, 3, 62, 29, 6, 163, 0, 15, 42, 3, 29, 182, 0, 40, 132, 3, 1, 167, 255, 242, 177]
abbrev dktX6_seek_1 : List UInt8 := dkwX6_seek_1 ++ []
def dkwX6_seek_0 : List UInt8 := [42, 43, 181, 0, 25, 42, 2, 181, 0, 29, 42, 3, 181, 0, 33, 42, 180, 0, 11, 3, 50, 44]
abbrev dktX6_seek_0 : List UInt8 := dkwX6_seek_0 ++ dktX6_seek_1
theorem dksX6_seek_0 : cX6_seek.data.toList.drop 0 = dktX6_seek_0 := by decide +kernel
theorem dksX6_seek_1 : cX6_seek.data.toList.drop 22 = dktX6_seek_1 := dk_seg dksX6_seek_0 22 rfl rfl
theorem dX6_seek_0 : decode cX6_seek 0 = .ok (.aload_n 0, 1) := dk_42 (dk_at dksX6_seek_0 0 rfl rfl)
theorem dX6_seek_1 : decode cX6_seek 1 = .ok (.aload_n 1, 1) := dk_43 (dk_at dksX6_seek_0 1 rfl rfl)
theorem dX6_seek_2 : decode cX6_seek 2 = .ok (.putfield 25, 3) := dk_181 0 25 (dk_at dksX6_seek_0 2 rfl rfl)
theorem dX6_seek_5 : decode cX6_seek 5 = .ok (.aload_n 0, 1) := dk_42 (dk_at dksX6_seek_0 5 rfl rfl)
theorem dX6_seek_6 : decode cX6_seek 6 = .ok (.iconst (-1), 1) := dk_2 (dk_at dksX6_seek_0 6 rfl rfl)
theorem dX6_seek_7 : decode cX6_seek 7 = .ok (.putfield 29, 3) := dk_181 0 29 (dk_at dksX6_seek_0 7 rfl rfl)
theorem dX6_seek_10 : decode cX6_seek 10 = .ok (.aload_n 0, 1) := dk_42 (dk_at dksX6_seek_0 10 rfl rfl)
theorem dX6_seek_11 : decode cX6_seek 11 = .ok (.iconst 0, 1) := dk_3 (dk_at dksX6_seek_0 11 rfl rfl)
theorem dX6_seek_12 : decode cX6_seek 12 = .ok (.putfield 33, 3) := dk_181 0 33 (dk_at dksX6_seek_0 12 rfl rfl)
theorem dX6_seek_15 : decode cX6_seek 15 = .ok (.aload_n 0, 1) := dk_42 (dk_at dksX6_seek_0 15 rfl rfl)
theorem dX6_seek_16 : decode cX6_seek 16 = .ok (.getfield 11, 3) := dk_180 0 11 (dk_at dksX6_seek_0 16 rfl rfl)
theorem dX6_seek_19 : decode cX6_seek 19 = .ok (.iconst 0, 1) := dk_3 (dk_at dksX6_seek_0 19 rfl rfl)
theorem dX6_seek_20 : decode cX6_seek 20 = .ok (.aaload, 1) := dk_50 (dk_at dksX6_seek_0 20 rfl rfl)
theorem dX6_seek_21 : decode cX6_seek 21 = .ok (.aload_n 2, 1) := dk_44 (dk_at dksX6_seek_0 21 rfl rfl)
theorem dX6_seek_22 : decode cX6_seek 22 = .ok (.invokevirtual 36, 3) := dk_182 0 36 (dk_at dksX6_seek_1 0 rfl rfl)
theorem dX6_seek_25 : decode cX6_seek 25 = .ok (.iconst 0, 1) := dk_3 (dk_at dksX6_seek_1 3 rfl rfl)
theorem dX6_seek_26 : decode cX6_seek 26 = .ok (.istore_n 3, 1) := dk_62 (dk_at dksX6_seek_1 4 rfl rfl)
theorem dX6_seek_27 : decode cX6_seek 27 = .ok (.iload_n 3, 1) := dk_29 (dk_at dksX6_seek_1 5 rfl rfl)
theorem dX6_seek_28 : decode cX6_seek 28 = .ok (.iconst 3, 1) := dk_6 (dk_at dksX6_seek_1 6 rfl rfl)
theorem dX6_seek_29 : decode cX6_seek 29 = .ok (.if_icmp .gt 15, 3) := dk_163 0 15 (dk_at dksX6_seek_1 7 rfl rfl)
theorem dX6_seek_32 : decode cX6_seek 32 = .ok (.aload_n 0, 1) := dk_42 (dk_at dksX6_seek_1 10 rfl rfl)
theorem dX6_seek_33 : decode cX6_seek 33 = .ok (.iconst 0, 1) := dk_3 (dk_at dksX6_seek_1 11 rfl rfl)
theorem dX6_seek_34 : decode cX6_seek 34 = .ok (.iload_n 3, 1) := dk_29 (dk_at dksX6_seek_1 12 rfl rfl)
theorem dX6_seek_35 : decode cX6_seek 35 = .ok (.invokevirtual 40, 3) := dk_182 0 40 (dk_at dksX6_seek_1 13 rfl rfl)
theorem dX6_seek_38 : decode cX6_seek 38 = .ok (.iinc 3 1, 3) := dk_132 3 1 (dk_at dksX6_seek_1 16 rfl rfl)
theorem dX6_seek_41 : decode cX6_seek 41 = .ok (.goto (-14), 3) := dk_167 255 242 (dk_at dksX6_seek_1 19 rfl rfl)
theorem dX6_seek_44 : decode cX6_seek 44 = .ok (.return_, 1) := dk_177 (dk_at dksX6_seek_1 22 rfl rfl)
abbrev cX6_tries : ByteArray := prog_21_method_3_code
def yX6_tries : MethodName := ⟨RX6, "tries", "(II)V"⟩
def dkwX6_tries_7 : List UInt8 := [167, 255, 160, 132, 3, 1, 167, 255, 138, 177]
abbrev dktX6_tries_7 : List UInt8 := dkwX6_tries_7 ++ []
def dkwX6_tries_6 : List UInt8 := [42, 180, 0, 17, 27, 16, 10, 29, 104, 21, 4, 96, 79, 42, 27, 4, 96, 28, 182, 0, 40, 132, 4, 1]
abbrev dktX6_tries_6 : List UInt8 := dkwX6_tries_6 ++ dktX6_tries_7
def dkwX6_tries_5 : List UInt8 := [50, 42, 180, 0, 11, 27, 50, 182, 0, 36, 42, 180, 0, 11, 27, 4, 96, 50, 29, 21, 4, 182, 0, 65]
abbrev dktX6_tries_5 : List UInt8 := dkwX6_tries_5 ++ dktX6_tries_6
def dkwX6_tries_4 : List UInt8 := [180, 0, 11, 27, 50, 180, 0, 62, 21, 4, 46, 160, 0, 6, 167, 0, 55, 42, 180, 0, 11, 27, 4, 96]
abbrev dktX6_tries_4 : List UInt8 := dkwX6_tries_4 ++ dktX6_tries_5
def dkwX6_tries_3 : List UInt8 := [21, 4, 42, 180, 0, 25, 180, 0, 57, 162, 0, 90, 42, 180, 0, 11, 27, 50, 180, 0, 62, 29, 46, 42]
abbrev dktX6_tries_3 : List UInt8 := dkwX6_tries_3 ++ dktX6_tries_4
def dkwX6_tries_2 : List UInt8 := [6, 184, 0, 51, 177, 3, 62, 29, 42, 180, 0, 25, 180, 0, 57, 162, 0, 113, 29, 4, 96, 54, 4]
abbrev dktX6_tries_2 : List UInt8 := dkwX6_tries_2 ++ dktX6_tries_3
def dkwX6_tries_1 : List UInt8 := [163, 0, 4, 177, 42, 29, 181, 0, 29, 42, 28, 181, 0, 33, 42, 180, 0, 17, 3, 42, 180, 0, 21, 3]
abbrev dktX6_tries_1 : List UInt8 := dkwX6_tries_1 ++ dktX6_tries_2
def dkwX6_tries_0 : List UInt8 := [27, 28, 160, 0, 50, 42, 180, 0, 11, 27, 50, 182, 0, 44, 184, 0, 47, 62, 29, 42, 180, 0, 29]
abbrev dktX6_tries_0 : List UInt8 := dkwX6_tries_0 ++ dktX6_tries_1
theorem dksX6_tries_0 : cX6_tries.data.toList.drop 0 = dktX6_tries_0 := by decide +kernel
theorem dksX6_tries_1 : cX6_tries.data.toList.drop 23 = dktX6_tries_1 := dk_seg dksX6_tries_0 23 rfl rfl
theorem dksX6_tries_2 : cX6_tries.data.toList.drop 47 = dktX6_tries_2 := dk_seg dksX6_tries_1 24 rfl rfl
theorem dksX6_tries_3 : cX6_tries.data.toList.drop 70 = dktX6_tries_3 := dk_seg dksX6_tries_2 23 rfl rfl
theorem dksX6_tries_4 : cX6_tries.data.toList.drop 94 = dktX6_tries_4 := dk_seg dksX6_tries_3 24 rfl rfl
theorem dksX6_tries_5 : cX6_tries.data.toList.drop 118 = dktX6_tries_5 := dk_seg dksX6_tries_4 24 rfl rfl
theorem dksX6_tries_6 : cX6_tries.data.toList.drop 142 = dktX6_tries_6 := dk_seg dksX6_tries_5 24 rfl rfl
theorem dksX6_tries_7 : cX6_tries.data.toList.drop 166 = dktX6_tries_7 := dk_seg dksX6_tries_6 24 rfl rfl
theorem dX6_tries_0 : decode cX6_tries 0 = .ok (.iload_n 1, 1) := dk_27 (dk_at dksX6_tries_0 0 rfl rfl)
theorem dX6_tries_1 : decode cX6_tries 1 = .ok (.iload_n 2, 1) := dk_28 (dk_at dksX6_tries_0 1 rfl rfl)
theorem dX6_tries_2 : decode cX6_tries 2 = .ok (.if_icmp .ne 50, 3) := dk_160 0 50 (dk_at dksX6_tries_0 2 rfl rfl)
theorem dX6_tries_5 : decode cX6_tries 5 = .ok (.aload_n 0, 1) := dk_42 (dk_at dksX6_tries_0 5 rfl rfl)
theorem dX6_tries_6 : decode cX6_tries 6 = .ok (.getfield 11, 3) := dk_180 0 11 (dk_at dksX6_tries_0 6 rfl rfl)
theorem dX6_tries_9 : decode cX6_tries 9 = .ok (.iload_n 1, 1) := dk_27 (dk_at dksX6_tries_0 9 rfl rfl)
theorem dX6_tries_10 : decode cX6_tries 10 = .ok (.aaload, 1) := dk_50 (dk_at dksX6_tries_0 10 rfl rfl)
theorem dX6_tries_11 : decode cX6_tries 11 = .ok (.invokevirtual 44, 3) := dk_182 0 44 (dk_at dksX6_tries_0 11 rfl rfl)
theorem dX6_tries_14 : decode cX6_tries 14 = .ok (.invokestatic 47, 3) := dk_184 0 47 (dk_at dksX6_tries_0 14 rfl rfl)
theorem dX6_tries_17 : decode cX6_tries 17 = .ok (.istore_n 3, 1) := dk_62 (dk_at dksX6_tries_0 17 rfl rfl)
theorem dX6_tries_18 : decode cX6_tries 18 = .ok (.iload_n 3, 1) := dk_29 (dk_at dksX6_tries_0 18 rfl rfl)
theorem dX6_tries_19 : decode cX6_tries 19 = .ok (.aload_n 0, 1) := dk_42 (dk_at dksX6_tries_0 19 rfl rfl)
theorem dX6_tries_20 : decode cX6_tries 20 = .ok (.getfield 29, 3) := dk_180 0 29 (dk_at dksX6_tries_0 20 rfl rfl)
theorem dX6_tries_23 : decode cX6_tries 23 = .ok (.if_icmp .gt 4, 3) := dk_163 0 4 (dk_at dksX6_tries_1 0 rfl rfl)
theorem dX6_tries_26 : decode cX6_tries 26 = .ok (.return_, 1) := dk_177 (dk_at dksX6_tries_1 3 rfl rfl)
theorem dX6_tries_27 : decode cX6_tries 27 = .ok (.aload_n 0, 1) := dk_42 (dk_at dksX6_tries_1 4 rfl rfl)
theorem dX6_tries_28 : decode cX6_tries 28 = .ok (.iload_n 3, 1) := dk_29 (dk_at dksX6_tries_1 5 rfl rfl)
theorem dX6_tries_29 : decode cX6_tries 29 = .ok (.putfield 29, 3) := dk_181 0 29 (dk_at dksX6_tries_1 6 rfl rfl)
theorem dX6_tries_32 : decode cX6_tries 32 = .ok (.aload_n 0, 1) := dk_42 (dk_at dksX6_tries_1 9 rfl rfl)
theorem dX6_tries_33 : decode cX6_tries 33 = .ok (.iload_n 2, 1) := dk_28 (dk_at dksX6_tries_1 10 rfl rfl)
theorem dX6_tries_34 : decode cX6_tries 34 = .ok (.putfield 33, 3) := dk_181 0 33 (dk_at dksX6_tries_1 11 rfl rfl)
theorem dX6_tries_37 : decode cX6_tries 37 = .ok (.aload_n 0, 1) := dk_42 (dk_at dksX6_tries_1 14 rfl rfl)
theorem dX6_tries_38 : decode cX6_tries 38 = .ok (.getfield 17, 3) := dk_180 0 17 (dk_at dksX6_tries_1 15 rfl rfl)
theorem dX6_tries_41 : decode cX6_tries 41 = .ok (.iconst 0, 1) := dk_3 (dk_at dksX6_tries_1 18 rfl rfl)
theorem dX6_tries_42 : decode cX6_tries 42 = .ok (.aload_n 0, 1) := dk_42 (dk_at dksX6_tries_1 19 rfl rfl)
theorem dX6_tries_43 : decode cX6_tries 43 = .ok (.getfield 21, 3) := dk_180 0 21 (dk_at dksX6_tries_1 20 rfl rfl)
theorem dX6_tries_46 : decode cX6_tries 46 = .ok (.iconst 0, 1) := dk_3 (dk_at dksX6_tries_1 23 rfl rfl)
theorem dX6_tries_47 : decode cX6_tries 47 = .ok (.iconst 3, 1) := dk_6 (dk_at dksX6_tries_2 0 rfl rfl)
theorem dX6_tries_48 : decode cX6_tries 48 = .ok (.invokestatic 51, 3) := dk_184 0 51 (dk_at dksX6_tries_2 1 rfl rfl)
theorem dX6_tries_51 : decode cX6_tries 51 = .ok (.return_, 1) := dk_177 (dk_at dksX6_tries_2 4 rfl rfl)
theorem dX6_tries_52 : decode cX6_tries 52 = .ok (.iconst 0, 1) := dk_3 (dk_at dksX6_tries_2 5 rfl rfl)
theorem dX6_tries_53 : decode cX6_tries 53 = .ok (.istore_n 3, 1) := dk_62 (dk_at dksX6_tries_2 6 rfl rfl)
theorem dX6_tries_54 : decode cX6_tries 54 = .ok (.iload_n 3, 1) := dk_29 (dk_at dksX6_tries_2 7 rfl rfl)
theorem dX6_tries_55 : decode cX6_tries 55 = .ok (.aload_n 0, 1) := dk_42 (dk_at dksX6_tries_2 8 rfl rfl)
theorem dX6_tries_56 : decode cX6_tries 56 = .ok (.getfield 25, 3) := dk_180 0 25 (dk_at dksX6_tries_2 9 rfl rfl)
theorem dX6_tries_59 : decode cX6_tries 59 = .ok (.getfield 57, 3) := dk_180 0 57 (dk_at dksX6_tries_2 12 rfl rfl)
theorem dX6_tries_62 : decode cX6_tries 62 = .ok (.if_icmp .ge 113, 3) := dk_162 0 113 (dk_at dksX6_tries_2 15 rfl rfl)
theorem dX6_tries_65 : decode cX6_tries 65 = .ok (.iload_n 3, 1) := dk_29 (dk_at dksX6_tries_2 18 rfl rfl)
theorem dX6_tries_66 : decode cX6_tries 66 = .ok (.iconst 1, 1) := dk_4 (dk_at dksX6_tries_2 19 rfl rfl)
theorem dX6_tries_67 : decode cX6_tries 67 = .ok (.iadd, 1) := dk_96 (dk_at dksX6_tries_2 20 rfl rfl)
theorem dX6_tries_68 : decode cX6_tries 68 = .ok (.istore 4, 2) := dk_54 4 (dk_at dksX6_tries_2 21 rfl rfl)
theorem dX6_tries_70 : decode cX6_tries 70 = .ok (.iload 4, 2) := dk_21 4 (dk_at dksX6_tries_3 0 rfl rfl)
theorem dX6_tries_72 : decode cX6_tries 72 = .ok (.aload_n 0, 1) := dk_42 (dk_at dksX6_tries_3 2 rfl rfl)
theorem dX6_tries_73 : decode cX6_tries 73 = .ok (.getfield 25, 3) := dk_180 0 25 (dk_at dksX6_tries_3 3 rfl rfl)
theorem dX6_tries_76 : decode cX6_tries 76 = .ok (.getfield 57, 3) := dk_180 0 57 (dk_at dksX6_tries_3 6 rfl rfl)
theorem dX6_tries_79 : decode cX6_tries 79 = .ok (.if_icmp .ge 90, 3) := dk_162 0 90 (dk_at dksX6_tries_3 9 rfl rfl)
theorem dX6_tries_82 : decode cX6_tries 82 = .ok (.aload_n 0, 1) := dk_42 (dk_at dksX6_tries_3 12 rfl rfl)
theorem dX6_tries_83 : decode cX6_tries 83 = .ok (.getfield 11, 3) := dk_180 0 11 (dk_at dksX6_tries_3 13 rfl rfl)
theorem dX6_tries_86 : decode cX6_tries 86 = .ok (.iload_n 1, 1) := dk_27 (dk_at dksX6_tries_3 16 rfl rfl)
theorem dX6_tries_87 : decode cX6_tries 87 = .ok (.aaload, 1) := dk_50 (dk_at dksX6_tries_3 17 rfl rfl)
theorem dX6_tries_88 : decode cX6_tries 88 = .ok (.getfield 62, 3) := dk_180 0 62 (dk_at dksX6_tries_3 18 rfl rfl)
theorem dX6_tries_91 : decode cX6_tries 91 = .ok (.iload_n 3, 1) := dk_29 (dk_at dksX6_tries_3 21 rfl rfl)
theorem dX6_tries_92 : decode cX6_tries 92 = .ok (.iaload, 1) := dk_46 (dk_at dksX6_tries_3 22 rfl rfl)
theorem dX6_tries_93 : decode cX6_tries 93 = .ok (.aload_n 0, 1) := dk_42 (dk_at dksX6_tries_3 23 rfl rfl)
theorem dX6_tries_94 : decode cX6_tries 94 = .ok (.getfield 11, 3) := dk_180 0 11 (dk_at dksX6_tries_4 0 rfl rfl)
theorem dX6_tries_97 : decode cX6_tries 97 = .ok (.iload_n 1, 1) := dk_27 (dk_at dksX6_tries_4 3 rfl rfl)
theorem dX6_tries_98 : decode cX6_tries 98 = .ok (.aaload, 1) := dk_50 (dk_at dksX6_tries_4 4 rfl rfl)
theorem dX6_tries_99 : decode cX6_tries 99 = .ok (.getfield 62, 3) := dk_180 0 62 (dk_at dksX6_tries_4 5 rfl rfl)
theorem dX6_tries_102 : decode cX6_tries 102 = .ok (.iload 4, 2) := dk_21 4 (dk_at dksX6_tries_4 8 rfl rfl)
theorem dX6_tries_104 : decode cX6_tries 104 = .ok (.iaload, 1) := dk_46 (dk_at dksX6_tries_4 10 rfl rfl)
theorem dX6_tries_105 : decode cX6_tries 105 = .ok (.if_icmp .ne 6, 3) := dk_160 0 6 (dk_at dksX6_tries_4 11 rfl rfl)
theorem dX6_tries_108 : decode cX6_tries 108 = .ok (.goto 55, 3) := dk_167 0 55 (dk_at dksX6_tries_4 14 rfl rfl)
theorem dX6_tries_111 : decode cX6_tries 111 = .ok (.aload_n 0, 1) := dk_42 (dk_at dksX6_tries_4 17 rfl rfl)
theorem dX6_tries_112 : decode cX6_tries 112 = .ok (.getfield 11, 3) := dk_180 0 11 (dk_at dksX6_tries_4 18 rfl rfl)
theorem dX6_tries_115 : decode cX6_tries 115 = .ok (.iload_n 1, 1) := dk_27 (dk_at dksX6_tries_4 21 rfl rfl)
theorem dX6_tries_116 : decode cX6_tries 116 = .ok (.iconst 1, 1) := dk_4 (dk_at dksX6_tries_4 22 rfl rfl)
theorem dX6_tries_117 : decode cX6_tries 117 = .ok (.iadd, 1) := dk_96 (dk_at dksX6_tries_4 23 rfl rfl)
theorem dX6_tries_118 : decode cX6_tries 118 = .ok (.aaload, 1) := dk_50 (dk_at dksX6_tries_5 0 rfl rfl)
theorem dX6_tries_119 : decode cX6_tries 119 = .ok (.aload_n 0, 1) := dk_42 (dk_at dksX6_tries_5 1 rfl rfl)
theorem dX6_tries_120 : decode cX6_tries 120 = .ok (.getfield 11, 3) := dk_180 0 11 (dk_at dksX6_tries_5 2 rfl rfl)
theorem dX6_tries_123 : decode cX6_tries 123 = .ok (.iload_n 1, 1) := dk_27 (dk_at dksX6_tries_5 5 rfl rfl)
theorem dX6_tries_124 : decode cX6_tries 124 = .ok (.aaload, 1) := dk_50 (dk_at dksX6_tries_5 6 rfl rfl)
theorem dX6_tries_125 : decode cX6_tries 125 = .ok (.invokevirtual 36, 3) := dk_182 0 36 (dk_at dksX6_tries_5 7 rfl rfl)
theorem dX6_tries_128 : decode cX6_tries 128 = .ok (.aload_n 0, 1) := dk_42 (dk_at dksX6_tries_5 10 rfl rfl)
theorem dX6_tries_129 : decode cX6_tries 129 = .ok (.getfield 11, 3) := dk_180 0 11 (dk_at dksX6_tries_5 11 rfl rfl)
theorem dX6_tries_132 : decode cX6_tries 132 = .ok (.iload_n 1, 1) := dk_27 (dk_at dksX6_tries_5 14 rfl rfl)
theorem dX6_tries_133 : decode cX6_tries 133 = .ok (.iconst 1, 1) := dk_4 (dk_at dksX6_tries_5 15 rfl rfl)
theorem dX6_tries_134 : decode cX6_tries 134 = .ok (.iadd, 1) := dk_96 (dk_at dksX6_tries_5 16 rfl rfl)
theorem dX6_tries_135 : decode cX6_tries 135 = .ok (.aaload, 1) := dk_50 (dk_at dksX6_tries_5 17 rfl rfl)
theorem dX6_tries_136 : decode cX6_tries 136 = .ok (.iload_n 3, 1) := dk_29 (dk_at dksX6_tries_5 18 rfl rfl)
theorem dX6_tries_137 : decode cX6_tries 137 = .ok (.iload 4, 2) := dk_21 4 (dk_at dksX6_tries_5 19 rfl rfl)
theorem dX6_tries_139 : decode cX6_tries 139 = .ok (.invokevirtual 65, 3) := dk_182 0 65 (dk_at dksX6_tries_5 21 rfl rfl)
theorem dX6_tries_142 : decode cX6_tries 142 = .ok (.aload_n 0, 1) := dk_42 (dk_at dksX6_tries_6 0 rfl rfl)
theorem dX6_tries_143 : decode cX6_tries 143 = .ok (.getfield 17, 3) := dk_180 0 17 (dk_at dksX6_tries_6 1 rfl rfl)
theorem dX6_tries_146 : decode cX6_tries 146 = .ok (.iload_n 1, 1) := dk_27 (dk_at dksX6_tries_6 4 rfl rfl)
theorem dX6_tries_147 : decode cX6_tries 147 = .ok (.bipush 10, 2) := dk_16 10 (dk_at dksX6_tries_6 5 rfl rfl)
theorem dX6_tries_149 : decode cX6_tries 149 = .ok (.iload_n 3, 1) := dk_29 (dk_at dksX6_tries_6 7 rfl rfl)
theorem dX6_tries_150 : decode cX6_tries 150 = .ok (.imul, 1) := dk_104 (dk_at dksX6_tries_6 8 rfl rfl)
theorem dX6_tries_151 : decode cX6_tries 151 = .ok (.iload 4, 2) := dk_21 4 (dk_at dksX6_tries_6 9 rfl rfl)
theorem dX6_tries_153 : decode cX6_tries 153 = .ok (.iadd, 1) := dk_96 (dk_at dksX6_tries_6 11 rfl rfl)
theorem dX6_tries_154 : decode cX6_tries 154 = .ok (.iastore, 1) := dk_79 (dk_at dksX6_tries_6 12 rfl rfl)
theorem dX6_tries_155 : decode cX6_tries 155 = .ok (.aload_n 0, 1) := dk_42 (dk_at dksX6_tries_6 13 rfl rfl)
theorem dX6_tries_156 : decode cX6_tries 156 = .ok (.iload_n 1, 1) := dk_27 (dk_at dksX6_tries_6 14 rfl rfl)
theorem dX6_tries_157 : decode cX6_tries 157 = .ok (.iconst 1, 1) := dk_4 (dk_at dksX6_tries_6 15 rfl rfl)
theorem dX6_tries_158 : decode cX6_tries 158 = .ok (.iadd, 1) := dk_96 (dk_at dksX6_tries_6 16 rfl rfl)
theorem dX6_tries_159 : decode cX6_tries 159 = .ok (.iload_n 2, 1) := dk_28 (dk_at dksX6_tries_6 17 rfl rfl)
theorem dX6_tries_160 : decode cX6_tries 160 = .ok (.invokevirtual 40, 3) := dk_182 0 40 (dk_at dksX6_tries_6 18 rfl rfl)
theorem dX6_tries_163 : decode cX6_tries 163 = .ok (.iinc 4 1, 3) := dk_132 4 1 (dk_at dksX6_tries_6 21 rfl rfl)
theorem dX6_tries_166 : decode cX6_tries 166 = .ok (.goto (-96), 3) := dk_167 255 160 (dk_at dksX6_tries_7 0 rfl rfl)
theorem dX6_tries_169 : decode cX6_tries 169 = .ok (.iinc 3 1, 3) := dk_132 3 1 (dk_at dksX6_tries_7 3 rfl rfl)
theorem dX6_tries_172 : decode cX6_tries 172 = .ok (.goto (-118), 3) := dk_167 255 138 (dk_at dksX6_tries_7 6 rfl rfl)
theorem dX6_tries_175 : decode cX6_tries 175 = .ok (.return_, 1) := dk_177 (dk_at dksX6_tries_7 9 rfl rfl)
abbrev cX6_at : ByteArray := prog_21_method_4_code
def yX6_at : MethodName := ⟨RX6, "at", "(I)I"⟩
def dkwX6_at_0 : List UInt8 := [42, 180, 0, 21, 27, 46, 172]
abbrev dktX6_at_0 : List UInt8 := dkwX6_at_0 ++ []
theorem dksX6_at_0 : cX6_at.data.toList.drop 0 = dktX6_at_0 := by decide +kernel
theorem dX6_at_0 : decode cX6_at 0 = .ok (.aload_n 0, 1) := dk_42 (dk_at dksX6_at_0 0 rfl rfl)
theorem dX6_at_1 : decode cX6_at 1 = .ok (.getfield 21, 3) := dk_180 0 21 (dk_at dksX6_at_0 1 rfl rfl)
theorem dX6_at_4 : decode cX6_at 4 = .ok (.iload_n 1, 1) := dk_27 (dk_at dksX6_at_0 4 rfl rfl)
theorem dX6_at_5 : decode cX6_at 5 = .ok (.iaload, 1) := dk_46 (dk_at dksX6_at_0 5 rfl rfl)
theorem dX6_at_6 : decode cX6_at 6 = .ok (.ireturn, 1) := dk_172 (dk_at dksX6_at_0 6 rfl rfl)
theorem q123 : (Jvm.Cond.initialized "UmbrellaHeir$Righting") ∈ lw_all := lw_g (lw_at lw_m1 9 rfl) rfl
theorem q283 : (Jvm.Cond.fieldLink "UmbrellaHeir$Righting" (62 : Nat) "UmbrellaHeir$Hall" "holders" "[I") ∈ lw_all := lw_g (lw_at lw_m1 169 rfl) rfl
theorem q321 : (Jvm.Cond.instantiable "UmbrellaHeir$Righting" (6 : Nat)) ∈ lw_all := lw_g (lw_at lw_m1 207 rfl) rfl
theorem q323 : (Jvm.Cond.instanceMethod ({ cls := "UmbrellaHeir$Righting", name := "<init>", desc := "()V" } : Jvm.MethodName)) ∈ lw_all := lw_g (lw_at lw_m1 209 rfl) rfl
theorem q324 : (Jvm.Cond.code ({ cls := "UmbrellaHeir$Righting", name := "<init>", desc := "()V" } : Jvm.MethodName) prog_21_method_1_code (2 : Nat) (Option.none : Option Jvm.ClassFile.FieldType)) ∈ lw_all := lw_g (lw_at lw_m1 210 rfl) rfl
theorem q325 : (Jvm.Cond.methodLink "UmbrellaHeir$Righting" (3 : Nat) ({ cls := "java/lang/Object", name := "<init>", desc := "()V" } : Jvm.MethodName)) ∈ lw_all := lw_g (lw_at lw_m1 211 rfl) rfl
theorem q326 : (Jvm.Cond.classLink "UmbrellaHeir$Righting" (9 : Nat) "UmbrellaHeir$Hall") ∈ lw_all := lw_g (lw_at lw_m1 212 rfl) rfl
theorem q328 : (Jvm.Cond.methodLinkNest "UmbrellaHeir$Righting" (24 : Nat) ({ cls := "UmbrellaHeir$Hall", name := "<init>", desc := "()V" } : Jvm.MethodName) "UmbrellaHeir") ∈ lw_tbl := lw_at lw_m1 214 rfl
theorem q329 : (Jvm.Cond.fieldLink "UmbrellaHeir$Righting" (11 : Nat) "UmbrellaHeir$Righting" "halls" "[LUmbrellaHeir$Hall;") ∈ lw_all := lw_g (lw_at lw_m1 215 rfl) rfl
theorem q330 : (Jvm.Cond.fieldLink "UmbrellaHeir$Righting" (17 : Nat) "UmbrellaHeir$Righting" "row" "[I") ∈ lw_all := lw_g (lw_at lw_m1 216 rfl) rfl
theorem q331 : (Jvm.Cond.fieldLink "UmbrellaHeir$Righting" (21 : Nat) "UmbrellaHeir$Righting" "best" "[I") ∈ lw_all := lw_g (lw_at lw_m1 217 rfl) rfl
theorem q332 : (Jvm.Cond.fieldLink "UmbrellaHeir$Righting" (25 : Nat) "UmbrellaHeir$Righting" "county" "LUmbrellaHeir$County;") ∈ lw_all := lw_g (lw_at lw_m1 218 rfl) rfl
theorem q333 : (Jvm.Cond.fieldLink "UmbrellaHeir$Righting" (29 : Nat) "UmbrellaHeir$Righting" "right" "I") ∈ lw_all := lw_g (lw_at lw_m1 219 rfl) rfl
theorem q335 : (Jvm.Cond.fieldLink "UmbrellaHeir$Righting" (33 : Nat) "UmbrellaHeir$Righting" "many" "I") ∈ lw_all := lw_g (lw_at lw_m1 221 rfl) rfl
theorem q337 : (Jvm.Cond.laysFinal "UmbrellaHeir$Righting" "UmbrellaHeir$Righting" "halls" "[LUmbrellaHeir$Hall;") ∈ lw_all := lw_g (lw_at lw_m1 223 rfl) rfl
theorem q338 : (Jvm.Cond.soleField "UmbrellaHeir$Righting" "halls") ∈ lw_all := lw_g (lw_at lw_m1 224 rfl) rfl
theorem q339 : (Jvm.Cond.laysFinal "UmbrellaHeir$Righting" "UmbrellaHeir$Righting" "row" "[I") ∈ lw_all := lw_g (lw_at lw_m1 225 rfl) rfl
theorem q340 : (Jvm.Cond.soleField "UmbrellaHeir$Righting" "row") ∈ lw_all := lw_g (lw_at lw_m1 226 rfl) rfl
theorem q341 : (Jvm.Cond.laysFinal "UmbrellaHeir$Righting" "UmbrellaHeir$Righting" "best" "[I") ∈ lw_all := lw_g (lw_at lw_m1 227 rfl) rfl
theorem q342 : (Jvm.Cond.soleField "UmbrellaHeir$Righting" "best") ∈ lw_all := lw_g (lw_at lw_m1 228 rfl) rfl
theorem q343 : (Jvm.Cond.lays "UmbrellaHeir$Righting" "UmbrellaHeir$Righting" "county" "LUmbrellaHeir$County;") ∈ lw_all := lw_g (lw_at lw_m1 229 rfl) rfl
theorem q344 : (Jvm.Cond.soleField "UmbrellaHeir$Righting" "county") ∈ lw_all := lw_g (lw_at lw_m1 230 rfl) rfl
theorem q345 : (Jvm.Cond.lays "UmbrellaHeir$Righting" "UmbrellaHeir$Righting" "right" "I") ∈ lw_all := lw_g (lw_at lw_m1 231 rfl) rfl
theorem q346 : (Jvm.Cond.soleField "UmbrellaHeir$Righting" "right") ∈ lw_all := lw_g (lw_at lw_m1 232 rfl) rfl
theorem q347 : (Jvm.Cond.lays "UmbrellaHeir$Righting" "UmbrellaHeir$Righting" "many" "I") ∈ lw_all := lw_g (lw_at lw_m1 233 rfl) rfl
theorem q348 : (Jvm.Cond.soleField "UmbrellaHeir$Righting" "many") ∈ lw_all := lw_g (lw_at lw_m1 234 rfl) rfl
theorem q349 : (Jvm.Cond.superclass "UmbrellaHeir$Righting" "java/lang/Object") ∈ lw_all := lw_g (lw_at lw_m1 235 rfl) rfl
theorem q514 : (Jvm.Cond.fieldLink "UmbrellaHeir$Righting" (57 : Nat) "UmbrellaHeir$County" "umbrellaMany" "I") ∈ lw_all := lw_g (lw_at lw_m2 160 rfl) rfl
theorem q1330 : (Jvm.Cond.instanceMethod ({ cls := "UmbrellaHeir$Righting", name := "seek", desc := "(LUmbrellaHeir$County;LUmbrellaHeir$Hall;)V" } : Jvm.MethodName)) ∈ lw_all := lw_g (lw_at lw_m6 16 rfl) rfl
theorem q1331 : (Jvm.Cond.selects "UmbrellaHeir$Righting" ({ cls := "UmbrellaHeir$Righting", name := "seek", desc := "(LUmbrellaHeir$County;LUmbrellaHeir$Hall;)V" } : Jvm.MethodName) ({ cls := "UmbrellaHeir$Righting", name := "seek", desc := "(LUmbrellaHeir$County;LUmbrellaHeir$Hall;)V" } : Jvm.MethodName)) ∈ lw_all := lw_g (lw_at lw_m6 17 rfl) rfl
theorem q1332 : (Jvm.Cond.code ({ cls := "UmbrellaHeir$Righting", name := "seek", desc := "(LUmbrellaHeir$County;LUmbrellaHeir$Hall;)V" } : Jvm.MethodName) prog_21_method_2_code (4 : Nat) (Option.none : Option Jvm.ClassFile.FieldType)) ∈ lw_all := lw_g (lw_at lw_m6 18 rfl) rfl
theorem q1333 : (Jvm.Cond.methodLink "UmbrellaHeir$Righting" (36 : Nat) ({ cls := "UmbrellaHeir$Hall", name := "become", desc := "(LUmbrellaHeir$Hall;)V" } : Jvm.MethodName)) ∈ lw_all := lw_g (lw_at lw_m6 19 rfl) rfl
theorem q1334 : (Jvm.Cond.methodLink "UmbrellaHeir$Righting" (40 : Nat) ({ cls := "UmbrellaHeir$Righting", name := "tries", desc := "(II)V" } : Jvm.MethodName)) ∈ lw_all := lw_g (lw_at lw_m6 20 rfl) rfl
theorem q1335 : (Jvm.Cond.privateMethod ({ cls := "UmbrellaHeir$Righting", name := "tries", desc := "(II)V" } : Jvm.MethodName)) ∈ lw_tbl := lw_at lw_m6 21 rfl
theorem q1336 : (Jvm.Cond.instanceMethod ({ cls := "UmbrellaHeir$Righting", name := "tries", desc := "(II)V" } : Jvm.MethodName)) ∈ lw_all := lw_g (lw_at lw_m6 22 rfl) rfl
theorem q1337 : (Jvm.Cond.code ({ cls := "UmbrellaHeir$Righting", name := "tries", desc := "(II)V" } : Jvm.MethodName) prog_21_method_3_code (5 : Nat) (Option.none : Option Jvm.ClassFile.FieldType)) ∈ lw_all := lw_g (lw_at lw_m6 23 rfl) rfl
theorem q1338 : (Jvm.Cond.methodLink "UmbrellaHeir$Righting" (44 : Nat) ({ cls := "UmbrellaHeir$Hall", name := "right", desc := "()I" } : Jvm.MethodName)) ∈ lw_all := lw_g (lw_at lw_m6 24 rfl) rfl
theorem q1339 : (Jvm.Cond.methodLinkNest "UmbrellaHeir$Righting" (47 : Nat) ({ cls := "UmbrellaHeir", name := "ones", desc := "(I)I" } : Jvm.MethodName) "UmbrellaHeir") ∈ lw_tbl := lw_at lw_m6 25 rfl
theorem q1340 : (Jvm.Cond.methodLink "UmbrellaHeir$Righting" (51 : Nat) ({ cls := "java/lang/System", name := "arraycopy", desc := "(Ljava/lang/Object;ILjava/lang/Object;II)V" } : Jvm.MethodName)) ∈ lw_all := lw_g (lw_at lw_m6 26 rfl) rfl
theorem q1341 : (Jvm.Cond.methodLink "UmbrellaHeir$Righting" (65 : Nat) ({ cls := "UmbrellaHeir$Hall", name := "change", desc := "(II)V" } : Jvm.MethodName)) ∈ lw_all := lw_g (lw_at lw_m6 27 rfl) rfl
theorem q1351 : (Jvm.Cond.instanceMethod ({ cls := "UmbrellaHeir$Righting", name := "at", desc := "(I)I" } : Jvm.MethodName)) ∈ lw_all := lw_g (lw_at lw_m6 37 rfl) rfl
theorem q1352 : (Jvm.Cond.selects "UmbrellaHeir$Righting" ({ cls := "UmbrellaHeir$Righting", name := "at", desc := "(I)I" } : Jvm.MethodName) ({ cls := "UmbrellaHeir$Righting", name := "at", desc := "(I)I" } : Jvm.MethodName)) ∈ lw_all := lw_g (lw_at lw_m6 38 rfl) rfl
theorem q1353 : (Jvm.Cond.code ({ cls := "UmbrellaHeir$Righting", name := "at", desc := "(I)I" } : Jvm.MethodName) prog_21_method_4_code (2 : Nat) (Option.some Jvm.ClassFile.FieldType.int)) ∈ lw_all := lw_g (lw_at lw_m6 39 rfl) rfl
theorem q2304 : (Jvm.Cond.castable "UmbrellaHeir$Righting" "java/lang/Object") ∈ lw_tbl := lw_at lw_m10 30 rfl
theorem in_X6 : ∀ w ∈ wsX60, w ∈ lw_all := lw_in wsX60 [337, 339, 341, 343, 345, 347] (by decide +kernel) (by decide +kernel)
/-! UmbrellaHeir$Party -/
set_option maxRecDepth 100000
def RX7 : String := "UmbrellaHeir$Party"
def TX7 : u_T := fun k => match k with
  | 0 => ("UmbrellaHeir$Party", "now", "[I", true)
  | 1 => ("UmbrellaHeir$Party", "best", "[I", true)
  | 2 => ("UmbrellaHeir$Party", "left", "[I", true)
  | 3 => ("UmbrellaHeir$Party", "county", "LUmbrellaHeir$County;", false)
  | 4 => ("UmbrellaHeir$Party", "hall", "LUmbrellaHeir$Hall;", false)
  | 5 => ("UmbrellaHeir$Party", "people", "I", false)
  | _ => ("UmbrellaHeir$Party", "least", "I", false)
def tyX7 : Nat → FieldType := fun k => match k with
  | 0 => .array .int
  | 1 => .array .int
  | 2 => .array .int
  | 3 => .object "UmbrellaHeir$County"
  | 4 => .object "UmbrellaHeir$Hall"
  | 5 => .int
  | _ => .int
abbrev wsX70 : List Cond := u_ws RX7 TX7 7
theorem nmX7 : ∀ a, a < 7 → ∀ b, b < 7 → a ≠ b → (TX7 a).2.1 ≠ (TX7 b).2.1 := by decide +kernel
theorem tyX7_ok : ∀ k, k < 7 → parseFieldDescriptor (TX7 k).2.2.1 = some (tyX7 k) := by decide +kernel
abbrev cX7_init : ByteArray := prog_15_method_1_code
def yX7_init : MethodName := ⟨RX7, "<init>", "()V"⟩
def dkwX7_init_1 : List UInt8 := [181, 0, 18, 177]
abbrev dktX7_init_1 : List UInt8 := dkwX7_init_1 ++ []
def dkwX7_init_0 : List UInt8 := [42, 183, 0, 3, 42, 16, 6, 188, 10, 181, 0, 9, 42, 16, 6, 188, 10, 181, 0, 15, 42, 8, 188, 10]
abbrev dktX7_init_0 : List UInt8 := dkwX7_init_0 ++ dktX7_init_1
theorem dksX7_init_0 : cX7_init.data.toList.drop 0 = dktX7_init_0 := by decide +kernel
theorem dksX7_init_1 : cX7_init.data.toList.drop 24 = dktX7_init_1 := dk_seg dksX7_init_0 24 rfl rfl
theorem dX7_init_0 : decode cX7_init 0 = .ok (.aload_n 0, 1) := dk_42 (dk_at dksX7_init_0 0 rfl rfl)
theorem dX7_init_1 : decode cX7_init 1 = .ok (.invokespecial 3, 3) := dk_183 0 3 (dk_at dksX7_init_0 1 rfl rfl)
theorem dX7_init_4 : decode cX7_init 4 = .ok (.aload_n 0, 1) := dk_42 (dk_at dksX7_init_0 4 rfl rfl)
theorem dX7_init_5 : decode cX7_init 5 = .ok (.bipush 6, 2) := dk_16 6 (dk_at dksX7_init_0 5 rfl rfl)
theorem dX7_init_7 : decode cX7_init 7 = .ok (.newarray .int, 2) := dk_188_10 (dk_at dksX7_init_0 7 rfl rfl)
theorem dX7_init_9 : decode cX7_init 9 = .ok (.putfield 9, 3) := dk_181 0 9 (dk_at dksX7_init_0 9 rfl rfl)
theorem dX7_init_12 : decode cX7_init 12 = .ok (.aload_n 0, 1) := dk_42 (dk_at dksX7_init_0 12 rfl rfl)
theorem dX7_init_13 : decode cX7_init 13 = .ok (.bipush 6, 2) := dk_16 6 (dk_at dksX7_init_0 13 rfl rfl)
theorem dX7_init_15 : decode cX7_init 15 = .ok (.newarray .int, 2) := dk_188_10 (dk_at dksX7_init_0 15 rfl rfl)
theorem dX7_init_17 : decode cX7_init 17 = .ok (.putfield 15, 3) := dk_181 0 15 (dk_at dksX7_init_0 17 rfl rfl)
theorem dX7_init_20 : decode cX7_init 20 = .ok (.aload_n 0, 1) := dk_42 (dk_at dksX7_init_0 20 rfl rfl)
theorem dX7_init_21 : decode cX7_init 21 = .ok (.iconst 5, 1) := dk_8 (dk_at dksX7_init_0 21 rfl rfl)
theorem dX7_init_22 : decode cX7_init 22 = .ok (.newarray .int, 2) := dk_188_10 (dk_at dksX7_init_0 22 rfl rfl)
theorem dX7_init_24 : decode cX7_init 24 = .ok (.putfield 18, 3) := dk_181 0 18 (dk_at dksX7_init_1 0 rfl rfl)
theorem dX7_init_27 : decode cX7_init 27 = .ok (.return_, 1) := dk_177 (dk_at dksX7_init_1 3 rfl rfl)
abbrev cX7_seek : ByteArray := prog_15_method_2_code
def yX7_seek : MethodName := ⟨RX7, "seek", "(LUmbrellaHeir$County;LUmbrellaHeir$Hall;I)I"⟩
def dkwX7_seek_4 : List UInt8 := [18, 33, 160, 0, 8, 16, 254, 167, 0, 7, 42, 180, 0, 34, 172]
abbrev dktX7_seek_4 : List UInt8 := dkwX7_seek_4 ++ []
def dkwX7_seek_3 : List UInt8 := [182, 0, 55, 167, 0, 4, 3, 79, 132, 4, 1, 167, 255, 197, 42, 3, 3, 182, 0, 61, 42, 180, 0, 34]
abbrev dktX7_seek_3 : List UInt8 := dkwX7_seek_3 ++ dktX7_seek_4
def dkwX7_seek_2 : List UInt8 := [159, 0, 30, 29, 44, 180, 0, 42, 21, 4, 46, 184, 0, 47, 153, 0, 16, 43, 180, 0, 51, 21, 4, 50]
abbrev dktX7_seek_2 : List UInt8 := dkwX7_seek_2 ++ dktX7_seek_3
def dkwX7_seek_1 : List UInt8 := [21, 4, 43, 180, 0, 37, 162, 0, 56, 42, 180, 0, 18, 21, 4, 44, 180, 0, 42, 21, 4, 46, 16, 254]
abbrev dktX7_seek_1 : List UInt8 := dkwX7_seek_1 ++ dktX7_seek_2
def dkwX7_seek_0 : List UInt8 := [42, 43, 181, 0, 21, 42, 44, 181, 0, 25, 42, 29, 181, 0, 29, 42, 18, 33, 181, 0, 34, 3, 54, 4]
abbrev dktX7_seek_0 : List UInt8 := dkwX7_seek_0 ++ dktX7_seek_1
theorem dksX7_seek_0 : cX7_seek.data.toList.drop 0 = dktX7_seek_0 := by decide +kernel
theorem dksX7_seek_1 : cX7_seek.data.toList.drop 24 = dktX7_seek_1 := dk_seg dksX7_seek_0 24 rfl rfl
theorem dksX7_seek_2 : cX7_seek.data.toList.drop 48 = dktX7_seek_2 := dk_seg dksX7_seek_1 24 rfl rfl
theorem dksX7_seek_3 : cX7_seek.data.toList.drop 72 = dktX7_seek_3 := dk_seg dksX7_seek_2 24 rfl rfl
theorem dksX7_seek_4 : cX7_seek.data.toList.drop 96 = dktX7_seek_4 := dk_seg dksX7_seek_3 24 rfl rfl
theorem dX7_seek_0 : decode cX7_seek 0 = .ok (.aload_n 0, 1) := dk_42 (dk_at dksX7_seek_0 0 rfl rfl)
theorem dX7_seek_1 : decode cX7_seek 1 = .ok (.aload_n 1, 1) := dk_43 (dk_at dksX7_seek_0 1 rfl rfl)
theorem dX7_seek_2 : decode cX7_seek 2 = .ok (.putfield 21, 3) := dk_181 0 21 (dk_at dksX7_seek_0 2 rfl rfl)
theorem dX7_seek_5 : decode cX7_seek 5 = .ok (.aload_n 0, 1) := dk_42 (dk_at dksX7_seek_0 5 rfl rfl)
theorem dX7_seek_6 : decode cX7_seek 6 = .ok (.aload_n 2, 1) := dk_44 (dk_at dksX7_seek_0 6 rfl rfl)
theorem dX7_seek_7 : decode cX7_seek 7 = .ok (.putfield 25, 3) := dk_181 0 25 (dk_at dksX7_seek_0 7 rfl rfl)
theorem dX7_seek_10 : decode cX7_seek 10 = .ok (.aload_n 0, 1) := dk_42 (dk_at dksX7_seek_0 10 rfl rfl)
theorem dX7_seek_11 : decode cX7_seek 11 = .ok (.iload_n 3, 1) := dk_29 (dk_at dksX7_seek_0 11 rfl rfl)
theorem dX7_seek_12 : decode cX7_seek 12 = .ok (.putfield 29, 3) := dk_181 0 29 (dk_at dksX7_seek_0 12 rfl rfl)
theorem dX7_seek_15 : decode cX7_seek 15 = .ok (.aload_n 0, 1) := dk_42 (dk_at dksX7_seek_0 15 rfl rfl)
theorem dX7_seek_16 : decode cX7_seek 16 = .ok (.ldc 33, 2) := dk_18 33 (dk_at dksX7_seek_0 16 rfl rfl)
theorem dX7_seek_18 : decode cX7_seek 18 = .ok (.putfield 34, 3) := dk_181 0 34 (dk_at dksX7_seek_0 18 rfl rfl)
theorem dX7_seek_21 : decode cX7_seek 21 = .ok (.iconst 0, 1) := dk_3 (dk_at dksX7_seek_0 21 rfl rfl)
theorem dX7_seek_22 : decode cX7_seek 22 = .ok (.istore 4, 2) := dk_54 4 (dk_at dksX7_seek_0 22 rfl rfl)
theorem dX7_seek_24 : decode cX7_seek 24 = .ok (.iload 4, 2) := dk_21 4 (dk_at dksX7_seek_1 0 rfl rfl)
theorem dX7_seek_26 : decode cX7_seek 26 = .ok (.aload_n 1, 1) := dk_43 (dk_at dksX7_seek_1 2 rfl rfl)
theorem dX7_seek_27 : decode cX7_seek 27 = .ok (.getfield 37, 3) := dk_180 0 37 (dk_at dksX7_seek_1 3 rfl rfl)
theorem dX7_seek_30 : decode cX7_seek 30 = .ok (.if_icmp .ge 56, 3) := dk_162 0 56 (dk_at dksX7_seek_1 6 rfl rfl)
theorem dX7_seek_33 : decode cX7_seek 33 = .ok (.aload_n 0, 1) := dk_42 (dk_at dksX7_seek_1 9 rfl rfl)
theorem dX7_seek_34 : decode cX7_seek 34 = .ok (.getfield 18, 3) := dk_180 0 18 (dk_at dksX7_seek_1 10 rfl rfl)
theorem dX7_seek_37 : decode cX7_seek 37 = .ok (.iload 4, 2) := dk_21 4 (dk_at dksX7_seek_1 13 rfl rfl)
theorem dX7_seek_39 : decode cX7_seek 39 = .ok (.aload_n 2, 1) := dk_44 (dk_at dksX7_seek_1 15 rfl rfl)
theorem dX7_seek_40 : decode cX7_seek 40 = .ok (.getfield 42, 3) := dk_180 0 42 (dk_at dksX7_seek_1 16 rfl rfl)
theorem dX7_seek_43 : decode cX7_seek 43 = .ok (.iload 4, 2) := dk_21 4 (dk_at dksX7_seek_1 19 rfl rfl)
theorem dX7_seek_45 : decode cX7_seek 45 = .ok (.iaload, 1) := dk_46 (dk_at dksX7_seek_1 21 rfl rfl)
theorem dX7_seek_46 : decode cX7_seek 46 = .ok (.bipush (-2), 2) := dk_16 254 (dk_at dksX7_seek_1 22 rfl rfl)
theorem dX7_seek_48 : decode cX7_seek 48 = .ok (.if_icmp .eq 30, 3) := dk_159 0 30 (dk_at dksX7_seek_2 0 rfl rfl)
theorem dX7_seek_51 : decode cX7_seek 51 = .ok (.iload_n 3, 1) := dk_29 (dk_at dksX7_seek_2 3 rfl rfl)
theorem dX7_seek_52 : decode cX7_seek 52 = .ok (.aload_n 2, 1) := dk_44 (dk_at dksX7_seek_2 4 rfl rfl)
theorem dX7_seek_53 : decode cX7_seek 53 = .ok (.getfield 42, 3) := dk_180 0 42 (dk_at dksX7_seek_2 5 rfl rfl)
theorem dX7_seek_56 : decode cX7_seek 56 = .ok (.iload 4, 2) := dk_21 4 (dk_at dksX7_seek_2 8 rfl rfl)
theorem dX7_seek_58 : decode cX7_seek 58 = .ok (.iaload, 1) := dk_46 (dk_at dksX7_seek_2 10 rfl rfl)
theorem dX7_seek_59 : decode cX7_seek 59 = .ok (.invokestatic 47, 3) := dk_184 0 47 (dk_at dksX7_seek_2 11 rfl rfl)
theorem dX7_seek_62 : decode cX7_seek 62 = .ok (.ifCond .eq 16, 3) := dk_153 0 16 (dk_at dksX7_seek_2 14 rfl rfl)
theorem dX7_seek_65 : decode cX7_seek 65 = .ok (.aload_n 1, 1) := dk_43 (dk_at dksX7_seek_2 17 rfl rfl)
theorem dX7_seek_66 : decode cX7_seek 66 = .ok (.getfield 51, 3) := dk_180 0 51 (dk_at dksX7_seek_2 18 rfl rfl)
theorem dX7_seek_69 : decode cX7_seek 69 = .ok (.iload 4, 2) := dk_21 4 (dk_at dksX7_seek_2 21 rfl rfl)
theorem dX7_seek_71 : decode cX7_seek 71 = .ok (.aaload, 1) := dk_50 (dk_at dksX7_seek_2 23 rfl rfl)
theorem dX7_seek_72 : decode cX7_seek 72 = .ok (.invokevirtual 55, 3) := dk_182 0 55 (dk_at dksX7_seek_3 0 rfl rfl)
theorem dX7_seek_75 : decode cX7_seek 75 = .ok (.goto 4, 3) := dk_167 0 4 (dk_at dksX7_seek_3 3 rfl rfl)
theorem dX7_seek_78 : decode cX7_seek 78 = .ok (.iconst 0, 1) := dk_3 (dk_at dksX7_seek_3 6 rfl rfl)
theorem dX7_seek_79 : decode cX7_seek 79 = .ok (.iastore, 1) := dk_79 (dk_at dksX7_seek_3 7 rfl rfl)
theorem dX7_seek_80 : decode cX7_seek 80 = .ok (.iinc 4 1, 3) := dk_132 4 1 (dk_at dksX7_seek_3 8 rfl rfl)
theorem dX7_seek_83 : decode cX7_seek 83 = .ok (.goto (-59), 3) := dk_167 255 197 (dk_at dksX7_seek_3 11 rfl rfl)
theorem dX7_seek_86 : decode cX7_seek 86 = .ok (.aload_n 0, 1) := dk_42 (dk_at dksX7_seek_3 14 rfl rfl)
theorem dX7_seek_87 : decode cX7_seek 87 = .ok (.iconst 0, 1) := dk_3 (dk_at dksX7_seek_3 15 rfl rfl)
theorem dX7_seek_88 : decode cX7_seek 88 = .ok (.iconst 0, 1) := dk_3 (dk_at dksX7_seek_3 16 rfl rfl)
theorem dX7_seek_89 : decode cX7_seek 89 = .ok (.invokevirtual 61, 3) := dk_182 0 61 (dk_at dksX7_seek_3 17 rfl rfl)
theorem dX7_seek_92 : decode cX7_seek 92 = .ok (.aload_n 0, 1) := dk_42 (dk_at dksX7_seek_3 20 rfl rfl)
theorem dX7_seek_93 : decode cX7_seek 93 = .ok (.getfield 34, 3) := dk_180 0 34 (dk_at dksX7_seek_3 21 rfl rfl)
theorem dX7_seek_96 : decode cX7_seek 96 = .ok (.ldc 33, 2) := dk_18 33 (dk_at dksX7_seek_4 0 rfl rfl)
theorem dX7_seek_98 : decode cX7_seek 98 = .ok (.if_icmp .ne 8, 3) := dk_160 0 8 (dk_at dksX7_seek_4 2 rfl rfl)
theorem dX7_seek_101 : decode cX7_seek 101 = .ok (.bipush (-2), 2) := dk_16 254 (dk_at dksX7_seek_4 5 rfl rfl)
theorem dX7_seek_103 : decode cX7_seek 103 = .ok (.goto 7, 3) := dk_167 0 7 (dk_at dksX7_seek_4 7 rfl rfl)
theorem dX7_seek_106 : decode cX7_seek 106 = .ok (.aload_n 0, 1) := dk_42 (dk_at dksX7_seek_4 10 rfl rfl)
theorem dX7_seek_107 : decode cX7_seek 107 = .ok (.getfield 34, 3) := dk_180 0 34 (dk_at dksX7_seek_4 11 rfl rfl)
theorem dX7_seek_110 : decode cX7_seek 110 = .ok (.ireturn, 1) := dk_172 (dk_at dksX7_seek_4 14 rfl rfl)
abbrev cX7_tries : ByteArray := prog_15_method_3_code
def yX7_tries : MethodName := ⟨RX7, "tries", "(II)V"⟩
def dkwX7_tries_7 : List UInt8 := [177]
abbrev dktX7_tries_7 : List UInt8 := dkwX7_tries_7 ++ []
def dkwX7_tries_6 : List UInt8 := [50, 180, 0, 77, 96, 182, 0, 61, 42, 180, 0, 18, 29, 92, 46, 4, 96, 79, 132, 3, 1, 167, 255, 165]
abbrev dktX7_tries_6 : List UInt8 := dkwX7_tries_6 ++ dktX7_tries_7
def dkwX7_tries_5 : List UInt8 := [180, 0, 25, 180, 0, 74, 29, 46, 27, 160, 0, 7, 3, 167, 0, 15, 42, 180, 0, 21, 180, 0, 51, 29]
abbrev dktX7_tries_5 : List UInt8 := dkwX7_tries_5 ++ dktX7_tries_6
def dkwX7_tries_4 : List UInt8 := [42, 180, 0, 18, 29, 92, 46, 4, 100, 79, 42, 180, 0, 9, 27, 29, 79, 42, 27, 4, 96, 28, 42]
abbrev dktX7_tries_4 : List UInt8 := dkwX7_tries_4 ++ dktX7_tries_5
def dkwX7_tries_3 : List UInt8 := [62, 29, 42, 180, 0, 21, 180, 0, 37, 162, 0, 86, 42, 180, 0, 18, 29, 46, 154, 0, 6, 167, 0, 68]
abbrev dktX7_tries_3 : List UInt8 := dkwX7_tries_3 ++ dktX7_tries_4
def dkwX7_tries_2 : List UInt8 := [184, 0, 47, 154, 0, 20, 42, 180, 0, 9, 27, 16, 254, 79, 42, 27, 4, 96, 28, 182, 0, 61, 177, 3]
abbrev dktX7_tries_2 : List UInt8 := dkwX7_tries_2 ++ dktX7_tries_3
def dkwX7_tries_1 : List UInt8 := [181, 0, 34, 42, 180, 0, 9, 3, 42, 180, 0, 15, 3, 16, 6, 184, 0, 68, 177, 42, 180, 0, 29, 27]
abbrev dktX7_tries_1 : List UInt8 := dkwX7_tries_1 ++ dktX7_tries_2
def dkwX7_tries_0 : List UInt8 := [28, 42, 180, 0, 34, 161, 0, 4, 177, 27, 42, 180, 0, 21, 180, 0, 65, 160, 0, 24, 42, 28]
abbrev dktX7_tries_0 : List UInt8 := dkwX7_tries_0 ++ dktX7_tries_1
theorem dksX7_tries_0 : cX7_tries.data.toList.drop 0 = dktX7_tries_0 := by decide +kernel
theorem dksX7_tries_1 : cX7_tries.data.toList.drop 22 = dktX7_tries_1 := dk_seg dksX7_tries_0 22 rfl rfl
theorem dksX7_tries_2 : cX7_tries.data.toList.drop 46 = dktX7_tries_2 := dk_seg dksX7_tries_1 24 rfl rfl
theorem dksX7_tries_3 : cX7_tries.data.toList.drop 70 = dktX7_tries_3 := dk_seg dksX7_tries_2 24 rfl rfl
theorem dksX7_tries_4 : cX7_tries.data.toList.drop 94 = dktX7_tries_4 := dk_seg dksX7_tries_3 24 rfl rfl
theorem dksX7_tries_5 : cX7_tries.data.toList.drop 117 = dktX7_tries_5 := dk_seg dksX7_tries_4 23 rfl rfl
theorem dksX7_tries_6 : cX7_tries.data.toList.drop 141 = dktX7_tries_6 := dk_seg dksX7_tries_5 24 rfl rfl
theorem dksX7_tries_7 : cX7_tries.data.toList.drop 165 = dktX7_tries_7 := dk_seg dksX7_tries_6 24 rfl rfl
theorem dX7_tries_0 : decode cX7_tries 0 = .ok (.iload_n 2, 1) := dk_28 (dk_at dksX7_tries_0 0 rfl rfl)
theorem dX7_tries_1 : decode cX7_tries 1 = .ok (.aload_n 0, 1) := dk_42 (dk_at dksX7_tries_0 1 rfl rfl)
theorem dX7_tries_2 : decode cX7_tries 2 = .ok (.getfield 34, 3) := dk_180 0 34 (dk_at dksX7_tries_0 2 rfl rfl)
theorem dX7_tries_5 : decode cX7_tries 5 = .ok (.if_icmp .lt 4, 3) := dk_161 0 4 (dk_at dksX7_tries_0 5 rfl rfl)
theorem dX7_tries_8 : decode cX7_tries 8 = .ok (.return_, 1) := dk_177 (dk_at dksX7_tries_0 8 rfl rfl)
theorem dX7_tries_9 : decode cX7_tries 9 = .ok (.iload_n 1, 1) := dk_27 (dk_at dksX7_tries_0 9 rfl rfl)
theorem dX7_tries_10 : decode cX7_tries 10 = .ok (.aload_n 0, 1) := dk_42 (dk_at dksX7_tries_0 10 rfl rfl)
theorem dX7_tries_11 : decode cX7_tries 11 = .ok (.getfield 21, 3) := dk_180 0 21 (dk_at dksX7_tries_0 11 rfl rfl)
theorem dX7_tries_14 : decode cX7_tries 14 = .ok (.getfield 65, 3) := dk_180 0 65 (dk_at dksX7_tries_0 14 rfl rfl)
theorem dX7_tries_17 : decode cX7_tries 17 = .ok (.if_icmp .ne 24, 3) := dk_160 0 24 (dk_at dksX7_tries_0 17 rfl rfl)
theorem dX7_tries_20 : decode cX7_tries 20 = .ok (.aload_n 0, 1) := dk_42 (dk_at dksX7_tries_0 20 rfl rfl)
theorem dX7_tries_21 : decode cX7_tries 21 = .ok (.iload_n 2, 1) := dk_28 (dk_at dksX7_tries_0 21 rfl rfl)
theorem dX7_tries_22 : decode cX7_tries 22 = .ok (.putfield 34, 3) := dk_181 0 34 (dk_at dksX7_tries_1 0 rfl rfl)
theorem dX7_tries_25 : decode cX7_tries 25 = .ok (.aload_n 0, 1) := dk_42 (dk_at dksX7_tries_1 3 rfl rfl)
theorem dX7_tries_26 : decode cX7_tries 26 = .ok (.getfield 9, 3) := dk_180 0 9 (dk_at dksX7_tries_1 4 rfl rfl)
theorem dX7_tries_29 : decode cX7_tries 29 = .ok (.iconst 0, 1) := dk_3 (dk_at dksX7_tries_1 7 rfl rfl)
theorem dX7_tries_30 : decode cX7_tries 30 = .ok (.aload_n 0, 1) := dk_42 (dk_at dksX7_tries_1 8 rfl rfl)
theorem dX7_tries_31 : decode cX7_tries 31 = .ok (.getfield 15, 3) := dk_180 0 15 (dk_at dksX7_tries_1 9 rfl rfl)
theorem dX7_tries_34 : decode cX7_tries 34 = .ok (.iconst 0, 1) := dk_3 (dk_at dksX7_tries_1 12 rfl rfl)
theorem dX7_tries_35 : decode cX7_tries 35 = .ok (.bipush 6, 2) := dk_16 6 (dk_at dksX7_tries_1 13 rfl rfl)
theorem dX7_tries_37 : decode cX7_tries 37 = .ok (.invokestatic 68, 3) := dk_184 0 68 (dk_at dksX7_tries_1 15 rfl rfl)
theorem dX7_tries_40 : decode cX7_tries 40 = .ok (.return_, 1) := dk_177 (dk_at dksX7_tries_1 18 rfl rfl)
theorem dX7_tries_41 : decode cX7_tries 41 = .ok (.aload_n 0, 1) := dk_42 (dk_at dksX7_tries_1 19 rfl rfl)
theorem dX7_tries_42 : decode cX7_tries 42 = .ok (.getfield 29, 3) := dk_180 0 29 (dk_at dksX7_tries_1 20 rfl rfl)
theorem dX7_tries_45 : decode cX7_tries 45 = .ok (.iload_n 1, 1) := dk_27 (dk_at dksX7_tries_1 23 rfl rfl)
theorem dX7_tries_46 : decode cX7_tries 46 = .ok (.invokestatic 47, 3) := dk_184 0 47 (dk_at dksX7_tries_2 0 rfl rfl)
theorem dX7_tries_49 : decode cX7_tries 49 = .ok (.ifCond .ne 20, 3) := dk_154 0 20 (dk_at dksX7_tries_2 3 rfl rfl)
theorem dX7_tries_52 : decode cX7_tries 52 = .ok (.aload_n 0, 1) := dk_42 (dk_at dksX7_tries_2 6 rfl rfl)
theorem dX7_tries_53 : decode cX7_tries 53 = .ok (.getfield 9, 3) := dk_180 0 9 (dk_at dksX7_tries_2 7 rfl rfl)
theorem dX7_tries_56 : decode cX7_tries 56 = .ok (.iload_n 1, 1) := dk_27 (dk_at dksX7_tries_2 10 rfl rfl)
theorem dX7_tries_57 : decode cX7_tries 57 = .ok (.bipush (-2), 2) := dk_16 254 (dk_at dksX7_tries_2 11 rfl rfl)
theorem dX7_tries_59 : decode cX7_tries 59 = .ok (.iastore, 1) := dk_79 (dk_at dksX7_tries_2 13 rfl rfl)
theorem dX7_tries_60 : decode cX7_tries 60 = .ok (.aload_n 0, 1) := dk_42 (dk_at dksX7_tries_2 14 rfl rfl)
theorem dX7_tries_61 : decode cX7_tries 61 = .ok (.iload_n 1, 1) := dk_27 (dk_at dksX7_tries_2 15 rfl rfl)
theorem dX7_tries_62 : decode cX7_tries 62 = .ok (.iconst 1, 1) := dk_4 (dk_at dksX7_tries_2 16 rfl rfl)
theorem dX7_tries_63 : decode cX7_tries 63 = .ok (.iadd, 1) := dk_96 (dk_at dksX7_tries_2 17 rfl rfl)
theorem dX7_tries_64 : decode cX7_tries 64 = .ok (.iload_n 2, 1) := dk_28 (dk_at dksX7_tries_2 18 rfl rfl)
theorem dX7_tries_65 : decode cX7_tries 65 = .ok (.invokevirtual 61, 3) := dk_182 0 61 (dk_at dksX7_tries_2 19 rfl rfl)
theorem dX7_tries_68 : decode cX7_tries 68 = .ok (.return_, 1) := dk_177 (dk_at dksX7_tries_2 22 rfl rfl)
theorem dX7_tries_69 : decode cX7_tries 69 = .ok (.iconst 0, 1) := dk_3 (dk_at dksX7_tries_2 23 rfl rfl)
theorem dX7_tries_70 : decode cX7_tries 70 = .ok (.istore_n 3, 1) := dk_62 (dk_at dksX7_tries_3 0 rfl rfl)
theorem dX7_tries_71 : decode cX7_tries 71 = .ok (.iload_n 3, 1) := dk_29 (dk_at dksX7_tries_3 1 rfl rfl)
theorem dX7_tries_72 : decode cX7_tries 72 = .ok (.aload_n 0, 1) := dk_42 (dk_at dksX7_tries_3 2 rfl rfl)
theorem dX7_tries_73 : decode cX7_tries 73 = .ok (.getfield 21, 3) := dk_180 0 21 (dk_at dksX7_tries_3 3 rfl rfl)
theorem dX7_tries_76 : decode cX7_tries 76 = .ok (.getfield 37, 3) := dk_180 0 37 (dk_at dksX7_tries_3 6 rfl rfl)
theorem dX7_tries_79 : decode cX7_tries 79 = .ok (.if_icmp .ge 86, 3) := dk_162 0 86 (dk_at dksX7_tries_3 9 rfl rfl)
theorem dX7_tries_82 : decode cX7_tries 82 = .ok (.aload_n 0, 1) := dk_42 (dk_at dksX7_tries_3 12 rfl rfl)
theorem dX7_tries_83 : decode cX7_tries 83 = .ok (.getfield 18, 3) := dk_180 0 18 (dk_at dksX7_tries_3 13 rfl rfl)
theorem dX7_tries_86 : decode cX7_tries 86 = .ok (.iload_n 3, 1) := dk_29 (dk_at dksX7_tries_3 16 rfl rfl)
theorem dX7_tries_87 : decode cX7_tries 87 = .ok (.iaload, 1) := dk_46 (dk_at dksX7_tries_3 17 rfl rfl)
theorem dX7_tries_88 : decode cX7_tries 88 = .ok (.ifCond .ne 6, 3) := dk_154 0 6 (dk_at dksX7_tries_3 18 rfl rfl)
theorem dX7_tries_91 : decode cX7_tries 91 = .ok (.goto 68, 3) := dk_167 0 68 (dk_at dksX7_tries_3 21 rfl rfl)
theorem dX7_tries_94 : decode cX7_tries 94 = .ok (.aload_n 0, 1) := dk_42 (dk_at dksX7_tries_4 0 rfl rfl)
theorem dX7_tries_95 : decode cX7_tries 95 = .ok (.getfield 18, 3) := dk_180 0 18 (dk_at dksX7_tries_4 1 rfl rfl)
theorem dX7_tries_98 : decode cX7_tries 98 = .ok (.iload_n 3, 1) := dk_29 (dk_at dksX7_tries_4 4 rfl rfl)
theorem dX7_tries_99 : decode cX7_tries 99 = .ok (.dup2, 1) := dk_92 (dk_at dksX7_tries_4 5 rfl rfl)
theorem dX7_tries_100 : decode cX7_tries 100 = .ok (.iaload, 1) := dk_46 (dk_at dksX7_tries_4 6 rfl rfl)
theorem dX7_tries_101 : decode cX7_tries 101 = .ok (.iconst 1, 1) := dk_4 (dk_at dksX7_tries_4 7 rfl rfl)
theorem dX7_tries_102 : decode cX7_tries 102 = .ok (.isub, 1) := dk_100 (dk_at dksX7_tries_4 8 rfl rfl)
theorem dX7_tries_103 : decode cX7_tries 103 = .ok (.iastore, 1) := dk_79 (dk_at dksX7_tries_4 9 rfl rfl)
theorem dX7_tries_104 : decode cX7_tries 104 = .ok (.aload_n 0, 1) := dk_42 (dk_at dksX7_tries_4 10 rfl rfl)
theorem dX7_tries_105 : decode cX7_tries 105 = .ok (.getfield 9, 3) := dk_180 0 9 (dk_at dksX7_tries_4 11 rfl rfl)
theorem dX7_tries_108 : decode cX7_tries 108 = .ok (.iload_n 1, 1) := dk_27 (dk_at dksX7_tries_4 14 rfl rfl)
theorem dX7_tries_109 : decode cX7_tries 109 = .ok (.iload_n 3, 1) := dk_29 (dk_at dksX7_tries_4 15 rfl rfl)
theorem dX7_tries_110 : decode cX7_tries 110 = .ok (.iastore, 1) := dk_79 (dk_at dksX7_tries_4 16 rfl rfl)
theorem dX7_tries_111 : decode cX7_tries 111 = .ok (.aload_n 0, 1) := dk_42 (dk_at dksX7_tries_4 17 rfl rfl)
theorem dX7_tries_112 : decode cX7_tries 112 = .ok (.iload_n 1, 1) := dk_27 (dk_at dksX7_tries_4 18 rfl rfl)
theorem dX7_tries_113 : decode cX7_tries 113 = .ok (.iconst 1, 1) := dk_4 (dk_at dksX7_tries_4 19 rfl rfl)
theorem dX7_tries_114 : decode cX7_tries 114 = .ok (.iadd, 1) := dk_96 (dk_at dksX7_tries_4 20 rfl rfl)
theorem dX7_tries_115 : decode cX7_tries 115 = .ok (.iload_n 2, 1) := dk_28 (dk_at dksX7_tries_4 21 rfl rfl)
theorem dX7_tries_116 : decode cX7_tries 116 = .ok (.aload_n 0, 1) := dk_42 (dk_at dksX7_tries_4 22 rfl rfl)
theorem dX7_tries_117 : decode cX7_tries 117 = .ok (.getfield 25, 3) := dk_180 0 25 (dk_at dksX7_tries_5 0 rfl rfl)
theorem dX7_tries_120 : decode cX7_tries 120 = .ok (.getfield 74, 3) := dk_180 0 74 (dk_at dksX7_tries_5 3 rfl rfl)
theorem dX7_tries_123 : decode cX7_tries 123 = .ok (.iload_n 3, 1) := dk_29 (dk_at dksX7_tries_5 6 rfl rfl)
theorem dX7_tries_124 : decode cX7_tries 124 = .ok (.iaload, 1) := dk_46 (dk_at dksX7_tries_5 7 rfl rfl)
theorem dX7_tries_125 : decode cX7_tries 125 = .ok (.iload_n 1, 1) := dk_27 (dk_at dksX7_tries_5 8 rfl rfl)
theorem dX7_tries_126 : decode cX7_tries 126 = .ok (.if_icmp .ne 7, 3) := dk_160 0 7 (dk_at dksX7_tries_5 9 rfl rfl)
theorem dX7_tries_129 : decode cX7_tries 129 = .ok (.iconst 0, 1) := dk_3 (dk_at dksX7_tries_5 12 rfl rfl)
theorem dX7_tries_130 : decode cX7_tries 130 = .ok (.goto 15, 3) := dk_167 0 15 (dk_at dksX7_tries_5 13 rfl rfl)
theorem dX7_tries_133 : decode cX7_tries 133 = .ok (.aload_n 0, 1) := dk_42 (dk_at dksX7_tries_5 16 rfl rfl)
theorem dX7_tries_134 : decode cX7_tries 134 = .ok (.getfield 21, 3) := dk_180 0 21 (dk_at dksX7_tries_5 17 rfl rfl)
theorem dX7_tries_137 : decode cX7_tries 137 = .ok (.getfield 51, 3) := dk_180 0 51 (dk_at dksX7_tries_5 20 rfl rfl)
theorem dX7_tries_140 : decode cX7_tries 140 = .ok (.iload_n 3, 1) := dk_29 (dk_at dksX7_tries_5 23 rfl rfl)
theorem dX7_tries_141 : decode cX7_tries 141 = .ok (.aaload, 1) := dk_50 (dk_at dksX7_tries_6 0 rfl rfl)
theorem dX7_tries_142 : decode cX7_tries 142 = .ok (.getfield 77, 3) := dk_180 0 77 (dk_at dksX7_tries_6 1 rfl rfl)
theorem dX7_tries_145 : decode cX7_tries 145 = .ok (.iadd, 1) := dk_96 (dk_at dksX7_tries_6 4 rfl rfl)
theorem dX7_tries_146 : decode cX7_tries 146 = .ok (.invokevirtual 61, 3) := dk_182 0 61 (dk_at dksX7_tries_6 5 rfl rfl)
theorem dX7_tries_149 : decode cX7_tries 149 = .ok (.aload_n 0, 1) := dk_42 (dk_at dksX7_tries_6 8 rfl rfl)
theorem dX7_tries_150 : decode cX7_tries 150 = .ok (.getfield 18, 3) := dk_180 0 18 (dk_at dksX7_tries_6 9 rfl rfl)
theorem dX7_tries_153 : decode cX7_tries 153 = .ok (.iload_n 3, 1) := dk_29 (dk_at dksX7_tries_6 12 rfl rfl)
theorem dX7_tries_154 : decode cX7_tries 154 = .ok (.dup2, 1) := dk_92 (dk_at dksX7_tries_6 13 rfl rfl)
theorem dX7_tries_155 : decode cX7_tries 155 = .ok (.iaload, 1) := dk_46 (dk_at dksX7_tries_6 14 rfl rfl)
theorem dX7_tries_156 : decode cX7_tries 156 = .ok (.iconst 1, 1) := dk_4 (dk_at dksX7_tries_6 15 rfl rfl)
theorem dX7_tries_157 : decode cX7_tries 157 = .ok (.iadd, 1) := dk_96 (dk_at dksX7_tries_6 16 rfl rfl)
theorem dX7_tries_158 : decode cX7_tries 158 = .ok (.iastore, 1) := dk_79 (dk_at dksX7_tries_6 17 rfl rfl)
theorem dX7_tries_159 : decode cX7_tries 159 = .ok (.iinc 3 1, 3) := dk_132 3 1 (dk_at dksX7_tries_6 18 rfl rfl)
theorem dX7_tries_162 : decode cX7_tries 162 = .ok (.goto (-91), 3) := dk_167 255 165 (dk_at dksX7_tries_6 21 rfl rfl)
theorem dX7_tries_165 : decode cX7_tries 165 = .ok (.return_, 1) := dk_177 (dk_at dksX7_tries_7 0 rfl rfl)
abbrev cX7_at : ByteArray := prog_15_method_5_code
def yX7_at : MethodName := ⟨RX7, "at", "(I)I"⟩
def dkwX7_at_0 : List UInt8 := [42, 180, 0, 15, 27, 46, 172]
abbrev dktX7_at_0 : List UInt8 := dkwX7_at_0 ++ []
theorem dksX7_at_0 : cX7_at.data.toList.drop 0 = dktX7_at_0 := by decide +kernel
theorem dX7_at_0 : decode cX7_at 0 = .ok (.aload_n 0, 1) := dk_42 (dk_at dksX7_at_0 0 rfl rfl)
theorem dX7_at_1 : decode cX7_at 1 = .ok (.getfield 15, 3) := dk_180 0 15 (dk_at dksX7_at_0 1 rfl rfl)
theorem dX7_at_4 : decode cX7_at 4 = .ok (.iload_n 1, 1) := dk_27 (dk_at dksX7_at_0 4 rfl rfl)
theorem dX7_at_5 : decode cX7_at 5 = .ok (.iaload, 1) := dk_46 (dk_at dksX7_at_0 5 rfl rfl)
theorem dX7_at_6 : decode cX7_at 6 = .ok (.ireturn, 1) := dk_172 (dk_at dksX7_at_0 6 rfl rfl)
abbrev cX7_room : ByteArray := prog_15_method_4_code
def yX7_room : MethodName := ⟨RX7, "room", "()I"⟩
def dkwX7_room_1 : List UInt8 := [132, 2, 1, 167, 255, 233, 27, 172]
abbrev dktX7_room_1 : List UInt8 := dkwX7_room_1 ++ []
def dkwX7_room_0 : List UInt8 := [3, 60, 3, 61, 28, 42, 180, 0, 21, 180, 0, 37, 162, 0, 18, 27, 42, 180, 0, 18, 28, 46, 96, 60]
abbrev dktX7_room_0 : List UInt8 := dkwX7_room_0 ++ dktX7_room_1
theorem dksX7_room_0 : cX7_room.data.toList.drop 0 = dktX7_room_0 := by decide +kernel
theorem dksX7_room_1 : cX7_room.data.toList.drop 24 = dktX7_room_1 := dk_seg dksX7_room_0 24 rfl rfl
theorem dX7_room_0 : decode cX7_room 0 = .ok (.iconst 0, 1) := dk_3 (dk_at dksX7_room_0 0 rfl rfl)
theorem dX7_room_1 : decode cX7_room 1 = .ok (.istore_n 1, 1) := dk_60 (dk_at dksX7_room_0 1 rfl rfl)
theorem dX7_room_2 : decode cX7_room 2 = .ok (.iconst 0, 1) := dk_3 (dk_at dksX7_room_0 2 rfl rfl)
theorem dX7_room_3 : decode cX7_room 3 = .ok (.istore_n 2, 1) := dk_61 (dk_at dksX7_room_0 3 rfl rfl)
theorem dX7_room_4 : decode cX7_room 4 = .ok (.iload_n 2, 1) := dk_28 (dk_at dksX7_room_0 4 rfl rfl)
theorem dX7_room_5 : decode cX7_room 5 = .ok (.aload_n 0, 1) := dk_42 (dk_at dksX7_room_0 5 rfl rfl)
theorem dX7_room_6 : decode cX7_room 6 = .ok (.getfield 21, 3) := dk_180 0 21 (dk_at dksX7_room_0 6 rfl rfl)
theorem dX7_room_9 : decode cX7_room 9 = .ok (.getfield 37, 3) := dk_180 0 37 (dk_at dksX7_room_0 9 rfl rfl)
theorem dX7_room_12 : decode cX7_room 12 = .ok (.if_icmp .ge 18, 3) := dk_162 0 18 (dk_at dksX7_room_0 12 rfl rfl)
theorem dX7_room_15 : decode cX7_room 15 = .ok (.iload_n 1, 1) := dk_27 (dk_at dksX7_room_0 15 rfl rfl)
theorem dX7_room_16 : decode cX7_room 16 = .ok (.aload_n 0, 1) := dk_42 (dk_at dksX7_room_0 16 rfl rfl)
theorem dX7_room_17 : decode cX7_room 17 = .ok (.getfield 18, 3) := dk_180 0 18 (dk_at dksX7_room_0 17 rfl rfl)
theorem dX7_room_20 : decode cX7_room 20 = .ok (.iload_n 2, 1) := dk_28 (dk_at dksX7_room_0 20 rfl rfl)
theorem dX7_room_21 : decode cX7_room 21 = .ok (.iaload, 1) := dk_46 (dk_at dksX7_room_0 21 rfl rfl)
theorem dX7_room_22 : decode cX7_room 22 = .ok (.iadd, 1) := dk_96 (dk_at dksX7_room_0 22 rfl rfl)
theorem dX7_room_23 : decode cX7_room 23 = .ok (.istore_n 1, 1) := dk_60 (dk_at dksX7_room_0 23 rfl rfl)
theorem dX7_room_24 : decode cX7_room 24 = .ok (.iinc 2 1, 3) := dk_132 2 1 (dk_at dksX7_room_1 0 rfl rfl)
theorem dX7_room_27 : decode cX7_room 27 = .ok (.goto (-23), 3) := dk_167 255 233 (dk_at dksX7_room_1 3 rfl rfl)
theorem dX7_room_30 : decode cX7_room 30 = .ok (.iload_n 1, 1) := dk_27 (dk_at dksX7_room_1 6 rfl rfl)
theorem dX7_room_31 : decode cX7_room 31 = .ok (.ireturn, 1) := dk_172 (dk_at dksX7_room_1 7 rfl rfl)
theorem q124 : (Jvm.Cond.initialized "UmbrellaHeir$Party") ∈ lw_all := lw_g (lw_at lw_m1 10 rfl) rfl
theorem q281 : (Jvm.Cond.fieldLink "UmbrellaHeir$Party" (42 : Nat) "UmbrellaHeir$Hall" "holders" "[I") ∈ lw_all := lw_g (lw_at lw_m1 167 rfl) rfl
theorem q287 : (Jvm.Cond.fieldLink "UmbrellaHeir$Party" (74 : Nat) "UmbrellaHeir$Hall" "titles" "[I") ∈ lw_all := lw_g (lw_at lw_m1 173 rfl) rfl
theorem q351 : (Jvm.Cond.instantiable "UmbrellaHeir$Party" (7 : Nat)) ∈ lw_all := lw_g (lw_at lw_m1 237 rfl) rfl
theorem q353 : (Jvm.Cond.instanceMethod ({ cls := "UmbrellaHeir$Party", name := "<init>", desc := "()V" } : Jvm.MethodName)) ∈ lw_all := lw_g (lw_at lw_m1 239 rfl) rfl
theorem q354 : (Jvm.Cond.code ({ cls := "UmbrellaHeir$Party", name := "<init>", desc := "()V" } : Jvm.MethodName) prog_15_method_1_code (1 : Nat) (Option.none : Option Jvm.ClassFile.FieldType)) ∈ lw_all := lw_g (lw_at lw_m2 0 rfl) rfl
theorem q355 : (Jvm.Cond.methodLink "UmbrellaHeir$Party" (3 : Nat) ({ cls := "java/lang/Object", name := "<init>", desc := "()V" } : Jvm.MethodName)) ∈ lw_all := lw_g (lw_at lw_m2 1 rfl) rfl
theorem q356 : (Jvm.Cond.fieldLink "UmbrellaHeir$Party" (9 : Nat) "UmbrellaHeir$Party" "now" "[I") ∈ lw_all := lw_g (lw_at lw_m2 2 rfl) rfl
theorem q357 : (Jvm.Cond.fieldLink "UmbrellaHeir$Party" (15 : Nat) "UmbrellaHeir$Party" "best" "[I") ∈ lw_all := lw_g (lw_at lw_m2 3 rfl) rfl
theorem q358 : (Jvm.Cond.fieldLink "UmbrellaHeir$Party" (18 : Nat) "UmbrellaHeir$Party" "left" "[I") ∈ lw_all := lw_g (lw_at lw_m2 4 rfl) rfl
theorem q359 : (Jvm.Cond.fieldLink "UmbrellaHeir$Party" (21 : Nat) "UmbrellaHeir$Party" "county" "LUmbrellaHeir$County;") ∈ lw_all := lw_g (lw_at lw_m2 5 rfl) rfl
theorem q360 : (Jvm.Cond.fieldLink "UmbrellaHeir$Party" (25 : Nat) "UmbrellaHeir$Party" "hall" "LUmbrellaHeir$Hall;") ∈ lw_all := lw_g (lw_at lw_m2 6 rfl) rfl
theorem q361 : (Jvm.Cond.fieldLink "UmbrellaHeir$Party" (29 : Nat) "UmbrellaHeir$Party" "people" "I") ∈ lw_all := lw_g (lw_at lw_m2 7 rfl) rfl
theorem q362 : (Jvm.Cond.fieldLink "UmbrellaHeir$Party" (34 : Nat) "UmbrellaHeir$Party" "least" "I") ∈ lw_all := lw_g (lw_at lw_m2 8 rfl) rfl
theorem q363 : (Jvm.Cond.laysFinal "UmbrellaHeir$Party" "UmbrellaHeir$Party" "now" "[I") ∈ lw_all := lw_g (lw_at lw_m2 9 rfl) rfl
theorem q364 : (Jvm.Cond.soleField "UmbrellaHeir$Party" "now") ∈ lw_all := lw_g (lw_at lw_m2 10 rfl) rfl
theorem q365 : (Jvm.Cond.laysFinal "UmbrellaHeir$Party" "UmbrellaHeir$Party" "best" "[I") ∈ lw_all := lw_g (lw_at lw_m2 11 rfl) rfl
theorem q366 : (Jvm.Cond.soleField "UmbrellaHeir$Party" "best") ∈ lw_all := lw_g (lw_at lw_m2 12 rfl) rfl
theorem q367 : (Jvm.Cond.laysFinal "UmbrellaHeir$Party" "UmbrellaHeir$Party" "left" "[I") ∈ lw_all := lw_g (lw_at lw_m2 13 rfl) rfl
theorem q368 : (Jvm.Cond.soleField "UmbrellaHeir$Party" "left") ∈ lw_all := lw_g (lw_at lw_m2 14 rfl) rfl
theorem q369 : (Jvm.Cond.lays "UmbrellaHeir$Party" "UmbrellaHeir$Party" "county" "LUmbrellaHeir$County;") ∈ lw_all := lw_g (lw_at lw_m2 15 rfl) rfl
theorem q370 : (Jvm.Cond.soleField "UmbrellaHeir$Party" "county") ∈ lw_all := lw_g (lw_at lw_m2 16 rfl) rfl
theorem q371 : (Jvm.Cond.lays "UmbrellaHeir$Party" "UmbrellaHeir$Party" "hall" "LUmbrellaHeir$Hall;") ∈ lw_all := lw_g (lw_at lw_m2 17 rfl) rfl
theorem q372 : (Jvm.Cond.soleField "UmbrellaHeir$Party" "hall") ∈ lw_all := lw_g (lw_at lw_m2 18 rfl) rfl
theorem q373 : (Jvm.Cond.lays "UmbrellaHeir$Party" "UmbrellaHeir$Party" "people" "I") ∈ lw_all := lw_g (lw_at lw_m2 19 rfl) rfl
theorem q374 : (Jvm.Cond.soleField "UmbrellaHeir$Party" "people") ∈ lw_all := lw_g (lw_at lw_m2 20 rfl) rfl
theorem q375 : (Jvm.Cond.lays "UmbrellaHeir$Party" "UmbrellaHeir$Party" "least" "I") ∈ lw_all := lw_g (lw_at lw_m2 21 rfl) rfl
theorem q376 : (Jvm.Cond.soleField "UmbrellaHeir$Party" "least") ∈ lw_all := lw_g (lw_at lw_m2 22 rfl) rfl
theorem q377 : (Jvm.Cond.superclass "UmbrellaHeir$Party" "java/lang/Object") ∈ lw_all := lw_g (lw_at lw_m2 23 rfl) rfl
theorem q490 : (Jvm.Cond.fieldLink "UmbrellaHeir$Party" (51 : Nat) "UmbrellaHeir$County" "umbrellas" "[LUmbrellaHeir$Umbrella;") ∈ lw_all := lw_g (lw_at lw_m2 136 rfl) rfl
theorem q507 : (Jvm.Cond.fieldLink "UmbrellaHeir$Party" (65 : Nat) "UmbrellaHeir$County" "personMany" "I") ∈ lw_all := lw_g (lw_at lw_m2 153 rfl) rfl
theorem q512 : (Jvm.Cond.fieldLink "UmbrellaHeir$Party" (37 : Nat) "UmbrellaHeir$County" "umbrellaMany" "I") ∈ lw_all := lw_g (lw_at lw_m2 158 rfl) rfl
theorem q832 : (Jvm.Cond.fieldLink "UmbrellaHeir$Party" (77 : Nat) "UmbrellaHeir$Umbrella" "lands" "I") ∈ lw_all := lw_g (lw_at lw_m3 238 rfl) rfl
theorem q1307 : (Jvm.Cond.instanceMethod ({ cls := "UmbrellaHeir$Party", name := "seek", desc := "(LUmbrellaHeir$County;LUmbrellaHeir$Hall;I)I" } : Jvm.MethodName)) ∈ lw_all := lw_g (lw_at lw_m5 233 rfl) rfl
theorem q1308 : (Jvm.Cond.selects "UmbrellaHeir$Party" ({ cls := "UmbrellaHeir$Party", name := "seek", desc := "(LUmbrellaHeir$County;LUmbrellaHeir$Hall;I)I" } : Jvm.MethodName) ({ cls := "UmbrellaHeir$Party", name := "seek", desc := "(LUmbrellaHeir$County;LUmbrellaHeir$Hall;I)I" } : Jvm.MethodName)) ∈ lw_all := lw_g (lw_at lw_m5 234 rfl) rfl
theorem q1309 : (Jvm.Cond.code ({ cls := "UmbrellaHeir$Party", name := "seek", desc := "(LUmbrellaHeir$County;LUmbrellaHeir$Hall;I)I" } : Jvm.MethodName) prog_15_method_2_code (5 : Nat) (Option.some Jvm.ClassFile.FieldType.int)) ∈ lw_all := lw_g (lw_at lw_m5 235 rfl) rfl
theorem q1310 : (Jvm.Cond.constant "UmbrellaHeir$Party" (33 : Nat) (1000000 : Int32)) ∈ lw_all := lw_g (lw_at lw_m5 236 rfl) rfl
theorem q1311 : (Jvm.Cond.methodLinkNest "UmbrellaHeir$Party" (47 : Nat) ({ cls := "UmbrellaHeir", name := "has", desc := "(II)Z" } : Jvm.MethodName) "UmbrellaHeir") ∈ lw_tbl := lw_at lw_m5 237 rfl
theorem q1312 : (Jvm.Cond.methodLink "UmbrellaHeir$Party" (55 : Nat) ({ cls := "UmbrellaHeir$Umbrella", name := "room", desc := "()I" } : Jvm.MethodName)) ∈ lw_all := lw_g (lw_at lw_m5 238 rfl) rfl
theorem q1320 : (Jvm.Cond.methodLink "UmbrellaHeir$Party" (61 : Nat) ({ cls := "UmbrellaHeir$Party", name := "tries", desc := "(II)V" } : Jvm.MethodName)) ∈ lw_all := lw_g (lw_at lw_m6 6 rfl) rfl
theorem q1321 : (Jvm.Cond.privateMethod ({ cls := "UmbrellaHeir$Party", name := "tries", desc := "(II)V" } : Jvm.MethodName)) ∈ lw_tbl := lw_at lw_m6 7 rfl
theorem q1322 : (Jvm.Cond.instanceMethod ({ cls := "UmbrellaHeir$Party", name := "tries", desc := "(II)V" } : Jvm.MethodName)) ∈ lw_all := lw_g (lw_at lw_m6 8 rfl) rfl
theorem q1323 : (Jvm.Cond.code ({ cls := "UmbrellaHeir$Party", name := "tries", desc := "(II)V" } : Jvm.MethodName) prog_15_method_3_code (4 : Nat) (Option.none : Option Jvm.ClassFile.FieldType)) ∈ lw_all := lw_g (lw_at lw_m6 9 rfl) rfl
theorem q1324 : (Jvm.Cond.methodLink "UmbrellaHeir$Party" (68 : Nat) ({ cls := "java/lang/System", name := "arraycopy", desc := "(Ljava/lang/Object;ILjava/lang/Object;II)V" } : Jvm.MethodName)) ∈ lw_all := lw_g (lw_at lw_m6 10 rfl) rfl
theorem q1363 : (Jvm.Cond.instanceMethod ({ cls := "UmbrellaHeir$Party", name := "at", desc := "(I)I" } : Jvm.MethodName)) ∈ lw_all := lw_g (lw_at lw_m6 49 rfl) rfl
theorem q1364 : (Jvm.Cond.selects "UmbrellaHeir$Party" ({ cls := "UmbrellaHeir$Party", name := "at", desc := "(I)I" } : Jvm.MethodName) ({ cls := "UmbrellaHeir$Party", name := "at", desc := "(I)I" } : Jvm.MethodName)) ∈ lw_all := lw_g (lw_at lw_m6 50 rfl) rfl
theorem q1365 : (Jvm.Cond.code ({ cls := "UmbrellaHeir$Party", name := "at", desc := "(I)I" } : Jvm.MethodName) prog_15_method_5_code (2 : Nat) (Option.some Jvm.ClassFile.FieldType.int)) ∈ lw_all := lw_g (lw_at lw_m6 51 rfl) rfl
theorem q1371 : (Jvm.Cond.instanceMethod ({ cls := "UmbrellaHeir$Party", name := "room", desc := "()I" } : Jvm.MethodName)) ∈ lw_all := lw_g (lw_at lw_m6 57 rfl) rfl
theorem q1372 : (Jvm.Cond.selects "UmbrellaHeir$Party" ({ cls := "UmbrellaHeir$Party", name := "room", desc := "()I" } : Jvm.MethodName) ({ cls := "UmbrellaHeir$Party", name := "room", desc := "()I" } : Jvm.MethodName)) ∈ lw_all := lw_g (lw_at lw_m6 58 rfl) rfl
theorem q1373 : (Jvm.Cond.code ({ cls := "UmbrellaHeir$Party", name := "room", desc := "()I" } : Jvm.MethodName) prog_15_method_4_code (3 : Nat) (Option.some Jvm.ClassFile.FieldType.int)) ∈ lw_all := lw_g (lw_at lw_m6 59 rfl) rfl
theorem q2305 : (Jvm.Cond.castable "UmbrellaHeir$Party" "java/lang/Object") ∈ lw_tbl := lw_at lw_m10 31 rfl
theorem in_X7 : ∀ w ∈ wsX70, w ∈ lw_all := lw_in wsX70 [363, 365, 367, 369, 371, 373, 375] (by decide +kernel) (by decide +kernel)
/-! UmbrellaHeir$County -/
set_option maxRecDepth 100000
def RX9 : String := "UmbrellaHeir$County"
def TX9 : u_T := fun k => match k with
  | 0 => ("UmbrellaHeir$County", "people", "[LUmbrellaHeir$Person;", true)
  | 1 => ("UmbrellaHeir$County", "umbrellas", "[LUmbrellaHeir$Umbrella;", true)
  | 2 => ("UmbrellaHeir$County", "log", "[LUmbrellaHeir$Event;", true)
  | 3 => ("UmbrellaHeir$County", "claims", "[LUmbrellaHeir$Claim;", true)
  | 4 => ("UmbrellaHeir$County", "lapse", "I", false)
  | 5 => ("UmbrellaHeir$County", "gust", "I", false)
  | 6 => ("UmbrellaHeir$County", "rains", "I", false)
  | 7 => ("UmbrellaHeir$County", "personMany", "I", false)
  | 8 => ("UmbrellaHeir$County", "umbrellaMany", "I", false)
  | 9 => ("UmbrellaHeir$County", "logMany", "I", false)
  | _ => ("UmbrellaHeir$County", "claimMany", "I", false)
def tyX9 : Nat → FieldType := fun k => match k with
  | 0 => .array (.object "UmbrellaHeir$Person")
  | 1 => .array (.object "UmbrellaHeir$Umbrella")
  | 2 => .array (.object "UmbrellaHeir$Event")
  | 3 => .array (.object "UmbrellaHeir$Claim")
  | 4 => .int
  | 5 => .int
  | 6 => .int
  | 7 => .int
  | 8 => .int
  | 9 => .int
  | _ => .int
abbrev wsX90 : List Cond := u_ws RX9 TX9 11
theorem nmX9 : ∀ a, a < 11 → ∀ b, b < 11 → a ≠ b → (TX9 a).2.1 ≠ (TX9 b).2.1 := by decide +kernel
theorem tyX9_ok : ∀ k, k < 11 → parseFieldDescriptor (TX9 k).2.2.1 = some (tyX9 k) := by decide +kernel
abbrev cX9_init : ByteArray := prog_7_method_1_code
def yX9_init : MethodName := ⟨RX9, "<init>", "()V"⟩
def dkwX9_init_1 : List UInt8 := [189, 0, 23, 181, 0, 25, 42, 16, 6, 189, 0, 29, 181, 0, 31, 177]
abbrev dktX9_init_1 : List UInt8 := dkwX9_init_1 ++ []
def dkwX9_init_0 : List UInt8 := [42, 183, 0, 3, 42, 16, 6, 189, 0, 9, 181, 0, 11, 42, 8, 189, 0, 17, 181, 0, 19, 42, 16, 16]
abbrev dktX9_init_0 : List UInt8 := dkwX9_init_0 ++ dktX9_init_1
theorem dksX9_init_0 : cX9_init.data.toList.drop 0 = dktX9_init_0 := by decide +kernel
theorem dksX9_init_1 : cX9_init.data.toList.drop 24 = dktX9_init_1 := dk_seg dksX9_init_0 24 rfl rfl
theorem dX9_init_0 : decode cX9_init 0 = .ok (.aload_n 0, 1) := dk_42 (dk_at dksX9_init_0 0 rfl rfl)
theorem dX9_init_1 : decode cX9_init 1 = .ok (.invokespecial 3, 3) := dk_183 0 3 (dk_at dksX9_init_0 1 rfl rfl)
theorem dX9_init_4 : decode cX9_init 4 = .ok (.aload_n 0, 1) := dk_42 (dk_at dksX9_init_0 4 rfl rfl)
theorem dX9_init_5 : decode cX9_init 5 = .ok (.bipush 6, 2) := dk_16 6 (dk_at dksX9_init_0 5 rfl rfl)
theorem dX9_init_7 : decode cX9_init 7 = .ok (.anewarray 9, 3) := dk_189 0 9 (dk_at dksX9_init_0 7 rfl rfl)
theorem dX9_init_10 : decode cX9_init 10 = .ok (.putfield 11, 3) := dk_181 0 11 (dk_at dksX9_init_0 10 rfl rfl)
theorem dX9_init_13 : decode cX9_init 13 = .ok (.aload_n 0, 1) := dk_42 (dk_at dksX9_init_0 13 rfl rfl)
theorem dX9_init_14 : decode cX9_init 14 = .ok (.iconst 5, 1) := dk_8 (dk_at dksX9_init_0 14 rfl rfl)
theorem dX9_init_15 : decode cX9_init 15 = .ok (.anewarray 17, 3) := dk_189 0 17 (dk_at dksX9_init_0 15 rfl rfl)
theorem dX9_init_18 : decode cX9_init 18 = .ok (.putfield 19, 3) := dk_181 0 19 (dk_at dksX9_init_0 18 rfl rfl)
theorem dX9_init_21 : decode cX9_init 21 = .ok (.aload_n 0, 1) := dk_42 (dk_at dksX9_init_0 21 rfl rfl)
theorem dX9_init_22 : decode cX9_init 22 = .ok (.bipush 16, 2) := dk_16 16 (dk_at dksX9_init_0 22 rfl rfl)
theorem dX9_init_24 : decode cX9_init 24 = .ok (.anewarray 23, 3) := dk_189 0 23 (dk_at dksX9_init_1 0 rfl rfl)
theorem dX9_init_27 : decode cX9_init 27 = .ok (.putfield 25, 3) := dk_181 0 25 (dk_at dksX9_init_1 3 rfl rfl)
theorem dX9_init_30 : decode cX9_init 30 = .ok (.aload_n 0, 1) := dk_42 (dk_at dksX9_init_1 6 rfl rfl)
theorem dX9_init_31 : decode cX9_init 31 = .ok (.bipush 6, 2) := dk_16 6 (dk_at dksX9_init_1 7 rfl rfl)
theorem dX9_init_33 : decode cX9_init 33 = .ok (.anewarray 29, 3) := dk_189 0 29 (dk_at dksX9_init_1 9 rfl rfl)
theorem dX9_init_36 : decode cX9_init 36 = .ok (.putfield 31, 3) := dk_181 0 31 (dk_at dksX9_init_1 12 rfl rfl)
theorem dX9_init_39 : decode cX9_init 39 = .ok (.return_, 1) := dk_177 (dk_at dksX9_init_1 15 rfl rfl)
abbrev cX9_find : ByteArray := prog_7_method_2_code
def yX9_find : MethodName := ⟨RX9, "find", "(Ljava/lang/String;)LUmbrellaHeir$Named;"⟩
def dkwX9_find_3 : List UInt8 := [50, 176, 132, 2, 1, 167, 255, 222, 1, 176]
abbrev dktX9_find_3 : List UInt8 := dkwX9_find_3 ++ []
def dkwX9_find_2 : List UInt8 := [162, 0, 32, 42, 180, 0, 19, 28, 50, 180, 0, 52, 43, 182, 0, 43, 153, 0, 10, 42, 180, 0, 19, 28]
abbrev dktX9_find_2 : List UInt8 := dkwX9_find_2 ++ dktX9_find_3
def dkwX9_find_1 : List UInt8 := [153, 0, 10, 42, 180, 0, 11, 28, 50, 176, 132, 2, 1, 167, 255, 222, 3, 61, 28, 42, 180, 0, 49]
abbrev dktX9_find_1 : List UInt8 := dkwX9_find_1 ++ dktX9_find_2
def dkwX9_find_0 : List UInt8 := [3, 61, 28, 42, 180, 0, 35, 162, 0, 32, 42, 180, 0, 11, 28, 50, 180, 0, 39, 43, 182, 0, 43]
abbrev dktX9_find_0 : List UInt8 := dkwX9_find_0 ++ dktX9_find_1
theorem dksX9_find_0 : cX9_find.data.toList.drop 0 = dktX9_find_0 := by decide +kernel
theorem dksX9_find_1 : cX9_find.data.toList.drop 23 = dktX9_find_1 := dk_seg dksX9_find_0 23 rfl rfl
theorem dksX9_find_2 : cX9_find.data.toList.drop 46 = dktX9_find_2 := dk_seg dksX9_find_1 23 rfl rfl
theorem dksX9_find_3 : cX9_find.data.toList.drop 70 = dktX9_find_3 := dk_seg dksX9_find_2 24 rfl rfl
theorem dX9_find_0 : decode cX9_find 0 = .ok (.iconst 0, 1) := dk_3 (dk_at dksX9_find_0 0 rfl rfl)
theorem dX9_find_1 : decode cX9_find 1 = .ok (.istore_n 2, 1) := dk_61 (dk_at dksX9_find_0 1 rfl rfl)
theorem dX9_find_2 : decode cX9_find 2 = .ok (.iload_n 2, 1) := dk_28 (dk_at dksX9_find_0 2 rfl rfl)
theorem dX9_find_3 : decode cX9_find 3 = .ok (.aload_n 0, 1) := dk_42 (dk_at dksX9_find_0 3 rfl rfl)
theorem dX9_find_4 : decode cX9_find 4 = .ok (.getfield 35, 3) := dk_180 0 35 (dk_at dksX9_find_0 4 rfl rfl)
theorem dX9_find_7 : decode cX9_find 7 = .ok (.if_icmp .ge 32, 3) := dk_162 0 32 (dk_at dksX9_find_0 7 rfl rfl)
theorem dX9_find_10 : decode cX9_find 10 = .ok (.aload_n 0, 1) := dk_42 (dk_at dksX9_find_0 10 rfl rfl)
theorem dX9_find_11 : decode cX9_find 11 = .ok (.getfield 11, 3) := dk_180 0 11 (dk_at dksX9_find_0 11 rfl rfl)
theorem dX9_find_14 : decode cX9_find 14 = .ok (.iload_n 2, 1) := dk_28 (dk_at dksX9_find_0 14 rfl rfl)
theorem dX9_find_15 : decode cX9_find 15 = .ok (.aaload, 1) := dk_50 (dk_at dksX9_find_0 15 rfl rfl)
theorem dX9_find_16 : decode cX9_find 16 = .ok (.getfield 39, 3) := dk_180 0 39 (dk_at dksX9_find_0 16 rfl rfl)
theorem dX9_find_19 : decode cX9_find 19 = .ok (.aload_n 1, 1) := dk_43 (dk_at dksX9_find_0 19 rfl rfl)
theorem dX9_find_20 : decode cX9_find 20 = .ok (.invokevirtual 43, 3) := dk_182 0 43 (dk_at dksX9_find_0 20 rfl rfl)
theorem dX9_find_23 : decode cX9_find 23 = .ok (.ifCond .eq 10, 3) := dk_153 0 10 (dk_at dksX9_find_1 0 rfl rfl)
theorem dX9_find_26 : decode cX9_find 26 = .ok (.aload_n 0, 1) := dk_42 (dk_at dksX9_find_1 3 rfl rfl)
theorem dX9_find_27 : decode cX9_find 27 = .ok (.getfield 11, 3) := dk_180 0 11 (dk_at dksX9_find_1 4 rfl rfl)
theorem dX9_find_30 : decode cX9_find 30 = .ok (.iload_n 2, 1) := dk_28 (dk_at dksX9_find_1 7 rfl rfl)
theorem dX9_find_31 : decode cX9_find 31 = .ok (.aaload, 1) := dk_50 (dk_at dksX9_find_1 8 rfl rfl)
theorem dX9_find_32 : decode cX9_find 32 = .ok (.areturn, 1) := dk_176 (dk_at dksX9_find_1 9 rfl rfl)
theorem dX9_find_33 : decode cX9_find 33 = .ok (.iinc 2 1, 3) := dk_132 2 1 (dk_at dksX9_find_1 10 rfl rfl)
theorem dX9_find_36 : decode cX9_find 36 = .ok (.goto (-34), 3) := dk_167 255 222 (dk_at dksX9_find_1 13 rfl rfl)
theorem dX9_find_39 : decode cX9_find 39 = .ok (.iconst 0, 1) := dk_3 (dk_at dksX9_find_1 16 rfl rfl)
theorem dX9_find_40 : decode cX9_find 40 = .ok (.istore_n 2, 1) := dk_61 (dk_at dksX9_find_1 17 rfl rfl)
theorem dX9_find_41 : decode cX9_find 41 = .ok (.iload_n 2, 1) := dk_28 (dk_at dksX9_find_1 18 rfl rfl)
theorem dX9_find_42 : decode cX9_find 42 = .ok (.aload_n 0, 1) := dk_42 (dk_at dksX9_find_1 19 rfl rfl)
theorem dX9_find_43 : decode cX9_find 43 = .ok (.getfield 49, 3) := dk_180 0 49 (dk_at dksX9_find_1 20 rfl rfl)
theorem dX9_find_46 : decode cX9_find 46 = .ok (.if_icmp .ge 32, 3) := dk_162 0 32 (dk_at dksX9_find_2 0 rfl rfl)
theorem dX9_find_49 : decode cX9_find 49 = .ok (.aload_n 0, 1) := dk_42 (dk_at dksX9_find_2 3 rfl rfl)
theorem dX9_find_50 : decode cX9_find 50 = .ok (.getfield 19, 3) := dk_180 0 19 (dk_at dksX9_find_2 4 rfl rfl)
theorem dX9_find_53 : decode cX9_find 53 = .ok (.iload_n 2, 1) := dk_28 (dk_at dksX9_find_2 7 rfl rfl)
theorem dX9_find_54 : decode cX9_find 54 = .ok (.aaload, 1) := dk_50 (dk_at dksX9_find_2 8 rfl rfl)
theorem dX9_find_55 : decode cX9_find 55 = .ok (.getfield 52, 3) := dk_180 0 52 (dk_at dksX9_find_2 9 rfl rfl)
theorem dX9_find_58 : decode cX9_find 58 = .ok (.aload_n 1, 1) := dk_43 (dk_at dksX9_find_2 12 rfl rfl)
theorem dX9_find_59 : decode cX9_find 59 = .ok (.invokevirtual 43, 3) := dk_182 0 43 (dk_at dksX9_find_2 13 rfl rfl)
theorem dX9_find_62 : decode cX9_find 62 = .ok (.ifCond .eq 10, 3) := dk_153 0 10 (dk_at dksX9_find_2 16 rfl rfl)
theorem dX9_find_65 : decode cX9_find 65 = .ok (.aload_n 0, 1) := dk_42 (dk_at dksX9_find_2 19 rfl rfl)
theorem dX9_find_66 : decode cX9_find 66 = .ok (.getfield 19, 3) := dk_180 0 19 (dk_at dksX9_find_2 20 rfl rfl)
theorem dX9_find_69 : decode cX9_find 69 = .ok (.iload_n 2, 1) := dk_28 (dk_at dksX9_find_2 23 rfl rfl)
theorem dX9_find_70 : decode cX9_find 70 = .ok (.aaload, 1) := dk_50 (dk_at dksX9_find_3 0 rfl rfl)
theorem dX9_find_71 : decode cX9_find 71 = .ok (.areturn, 1) := dk_176 (dk_at dksX9_find_3 1 rfl rfl)
theorem dX9_find_72 : decode cX9_find 72 = .ok (.iinc 2 1, 3) := dk_132 2 1 (dk_at dksX9_find_3 2 rfl rfl)
theorem dX9_find_75 : decode cX9_find 75 = .ok (.goto (-34), 3) := dk_167 255 222 (dk_at dksX9_find_3 5 rfl rfl)
theorem dX9_find_78 : decode cX9_find 78 = .ok (.aconst_null, 1) := dk_1 (dk_at dksX9_find_3 8 rfl rfl)
theorem dX9_find_79 : decode cX9_find 79 = .ok (.areturn, 1) := dk_176 (dk_at dksX9_find_3 9 rfl rfl)
abbrev cX9_areAlike : ByteArray := prog_7_method_3_code
def yX9_areAlike : MethodName := ⟨RX9, "areAlike", "(II)Z"⟩
def dkwX9_areAlike_2 : List UInt8 := [4, 167, 0, 4, 3, 172]
abbrev dktX9_areAlike_2 : List UInt8 := dkwX9_areAlike_2 ++ []
def dkwX9_areAlike_1 : List UInt8 := [160, 0, 28, 42, 180, 0, 19, 27, 50, 180, 0, 57, 42, 180, 0, 19, 28, 50, 180, 0, 57, 160, 0, 7]
abbrev dktX9_areAlike_1 : List UInt8 := dkwX9_areAlike_1 ++ dktX9_areAlike_2
def dkwX9_areAlike_0 : List UInt8 := [27, 28, 159, 0, 49, 42, 180, 0, 19, 27, 50, 182, 0, 53, 42, 180, 0, 19, 28, 50, 182, 0, 53]
abbrev dktX9_areAlike_0 : List UInt8 := dkwX9_areAlike_0 ++ dktX9_areAlike_1
theorem dksX9_areAlike_0 : cX9_areAlike.data.toList.drop 0 = dktX9_areAlike_0 := by decide +kernel
theorem dksX9_areAlike_1 : cX9_areAlike.data.toList.drop 23 = dktX9_areAlike_1 := dk_seg dksX9_areAlike_0 23 rfl rfl
theorem dksX9_areAlike_2 : cX9_areAlike.data.toList.drop 47 = dktX9_areAlike_2 := dk_seg dksX9_areAlike_1 24 rfl rfl
theorem dX9_areAlike_0 : decode cX9_areAlike 0 = .ok (.iload_n 1, 1) := dk_27 (dk_at dksX9_areAlike_0 0 rfl rfl)
theorem dX9_areAlike_1 : decode cX9_areAlike 1 = .ok (.iload_n 2, 1) := dk_28 (dk_at dksX9_areAlike_0 1 rfl rfl)
theorem dX9_areAlike_2 : decode cX9_areAlike 2 = .ok (.if_icmp .eq 49, 3) := dk_159 0 49 (dk_at dksX9_areAlike_0 2 rfl rfl)
theorem dX9_areAlike_5 : decode cX9_areAlike 5 = .ok (.aload_n 0, 1) := dk_42 (dk_at dksX9_areAlike_0 5 rfl rfl)
theorem dX9_areAlike_6 : decode cX9_areAlike 6 = .ok (.getfield 19, 3) := dk_180 0 19 (dk_at dksX9_areAlike_0 6 rfl rfl)
theorem dX9_areAlike_9 : decode cX9_areAlike 9 = .ok (.iload_n 1, 1) := dk_27 (dk_at dksX9_areAlike_0 9 rfl rfl)
theorem dX9_areAlike_10 : decode cX9_areAlike 10 = .ok (.aaload, 1) := dk_50 (dk_at dksX9_areAlike_0 10 rfl rfl)
theorem dX9_areAlike_11 : decode cX9_areAlike 11 = .ok (.invokevirtual 53, 3) := dk_182 0 53 (dk_at dksX9_areAlike_0 11 rfl rfl)
theorem dX9_areAlike_14 : decode cX9_areAlike 14 = .ok (.aload_n 0, 1) := dk_42 (dk_at dksX9_areAlike_0 14 rfl rfl)
theorem dX9_areAlike_15 : decode cX9_areAlike 15 = .ok (.getfield 19, 3) := dk_180 0 19 (dk_at dksX9_areAlike_0 15 rfl rfl)
theorem dX9_areAlike_18 : decode cX9_areAlike 18 = .ok (.iload_n 2, 1) := dk_28 (dk_at dksX9_areAlike_0 18 rfl rfl)
theorem dX9_areAlike_19 : decode cX9_areAlike 19 = .ok (.aaload, 1) := dk_50 (dk_at dksX9_areAlike_0 19 rfl rfl)
theorem dX9_areAlike_20 : decode cX9_areAlike 20 = .ok (.invokevirtual 53, 3) := dk_182 0 53 (dk_at dksX9_areAlike_0 20 rfl rfl)
theorem dX9_areAlike_23 : decode cX9_areAlike 23 = .ok (.if_icmp .ne 28, 3) := dk_160 0 28 (dk_at dksX9_areAlike_1 0 rfl rfl)
theorem dX9_areAlike_26 : decode cX9_areAlike 26 = .ok (.aload_n 0, 1) := dk_42 (dk_at dksX9_areAlike_1 3 rfl rfl)
theorem dX9_areAlike_27 : decode cX9_areAlike 27 = .ok (.getfield 19, 3) := dk_180 0 19 (dk_at dksX9_areAlike_1 4 rfl rfl)
theorem dX9_areAlike_30 : decode cX9_areAlike 30 = .ok (.iload_n 1, 1) := dk_27 (dk_at dksX9_areAlike_1 7 rfl rfl)
theorem dX9_areAlike_31 : decode cX9_areAlike 31 = .ok (.aaload, 1) := dk_50 (dk_at dksX9_areAlike_1 8 rfl rfl)
theorem dX9_areAlike_32 : decode cX9_areAlike 32 = .ok (.getfield 57, 3) := dk_180 0 57 (dk_at dksX9_areAlike_1 9 rfl rfl)
theorem dX9_areAlike_35 : decode cX9_areAlike 35 = .ok (.aload_n 0, 1) := dk_42 (dk_at dksX9_areAlike_1 12 rfl rfl)
theorem dX9_areAlike_36 : decode cX9_areAlike 36 = .ok (.getfield 19, 3) := dk_180 0 19 (dk_at dksX9_areAlike_1 13 rfl rfl)
theorem dX9_areAlike_39 : decode cX9_areAlike 39 = .ok (.iload_n 2, 1) := dk_28 (dk_at dksX9_areAlike_1 16 rfl rfl)
theorem dX9_areAlike_40 : decode cX9_areAlike 40 = .ok (.aaload, 1) := dk_50 (dk_at dksX9_areAlike_1 17 rfl rfl)
theorem dX9_areAlike_41 : decode cX9_areAlike 41 = .ok (.getfield 57, 3) := dk_180 0 57 (dk_at dksX9_areAlike_1 18 rfl rfl)
theorem dX9_areAlike_44 : decode cX9_areAlike 44 = .ok (.if_icmp .ne 7, 3) := dk_160 0 7 (dk_at dksX9_areAlike_1 21 rfl rfl)
theorem dX9_areAlike_47 : decode cX9_areAlike 47 = .ok (.iconst 1, 1) := dk_4 (dk_at dksX9_areAlike_2 0 rfl rfl)
theorem dX9_areAlike_48 : decode cX9_areAlike 48 = .ok (.goto 4, 3) := dk_167 0 4 (dk_at dksX9_areAlike_2 1 rfl rfl)
theorem dX9_areAlike_51 : decode cX9_areAlike 51 = .ok (.iconst 0, 1) := dk_3 (dk_at dksX9_areAlike_2 4 rfl rfl)
theorem dX9_areAlike_52 : decode cX9_areAlike 52 = .ok (.ireturn, 1) := dk_172 (dk_at dksX9_areAlike_2 5 rfl rfl)
theorem q126 : (Jvm.Cond.initialized "UmbrellaHeir$County") ∈ lw_all := lw_g (lw_at lw_m1 12 rfl) rfl
theorem q471 : (Jvm.Cond.instantiable "UmbrellaHeir$County" (11 : Nat)) ∈ lw_all := lw_g (lw_at lw_m2 117 rfl) rfl
theorem q473 : (Jvm.Cond.instanceMethod ({ cls := "UmbrellaHeir$County", name := "<init>", desc := "()V" } : Jvm.MethodName)) ∈ lw_all := lw_g (lw_at lw_m2 119 rfl) rfl
theorem q474 : (Jvm.Cond.code ({ cls := "UmbrellaHeir$County", name := "<init>", desc := "()V" } : Jvm.MethodName) prog_7_method_1_code (1 : Nat) (Option.none : Option Jvm.ClassFile.FieldType)) ∈ lw_all := lw_g (lw_at lw_m2 120 rfl) rfl
theorem q475 : (Jvm.Cond.methodLink "UmbrellaHeir$County" (3 : Nat) ({ cls := "java/lang/Object", name := "<init>", desc := "()V" } : Jvm.MethodName)) ∈ lw_all := lw_g (lw_at lw_m2 121 rfl) rfl
theorem q476 : (Jvm.Cond.classLink "UmbrellaHeir$County" (9 : Nat) "UmbrellaHeir$Person") ∈ lw_all := lw_g (lw_at lw_m2 122 rfl) rfl
theorem q478 : (Jvm.Cond.classLink "UmbrellaHeir$County" (17 : Nat) "UmbrellaHeir$Umbrella") ∈ lw_all := lw_g (lw_at lw_m2 124 rfl) rfl
theorem q480 : (Jvm.Cond.classLink "UmbrellaHeir$County" (23 : Nat) "UmbrellaHeir$Event") ∈ lw_all := lw_g (lw_at lw_m2 126 rfl) rfl
theorem q482 : (Jvm.Cond.classLink "UmbrellaHeir$County" (29 : Nat) "UmbrellaHeir$Claim") ∈ lw_all := lw_g (lw_at lw_m2 128 rfl) rfl
theorem q484 : (Jvm.Cond.fieldLink "UmbrellaHeir$County" (11 : Nat) "UmbrellaHeir$County" "people" "[LUmbrellaHeir$Person;") ∈ lw_all := lw_g (lw_at lw_m2 130 rfl) rfl
theorem q488 : (Jvm.Cond.fieldLink "UmbrellaHeir$County" (19 : Nat) "UmbrellaHeir$County" "umbrellas" "[LUmbrellaHeir$Umbrella;") ∈ lw_all := lw_g (lw_at lw_m2 134 rfl) rfl
theorem q493 : (Jvm.Cond.fieldLink "UmbrellaHeir$County" (25 : Nat) "UmbrellaHeir$County" "log" "[LUmbrellaHeir$Event;") ∈ lw_all := lw_g (lw_at lw_m2 139 rfl) rfl
theorem q496 : (Jvm.Cond.fieldLink "UmbrellaHeir$County" (31 : Nat) "UmbrellaHeir$County" "claims" "[LUmbrellaHeir$Claim;") ∈ lw_all := lw_g (lw_at lw_m2 142 rfl) rfl
theorem q506 : (Jvm.Cond.fieldLink "UmbrellaHeir$County" (35 : Nat) "UmbrellaHeir$County" "personMany" "I") ∈ lw_all := lw_g (lw_at lw_m2 152 rfl) rfl
theorem q513 : (Jvm.Cond.fieldLink "UmbrellaHeir$County" (49 : Nat) "UmbrellaHeir$County" "umbrellaMany" "I") ∈ lw_all := lw_g (lw_at lw_m2 159 rfl) rfl
theorem q523 : (Jvm.Cond.laysFinal "UmbrellaHeir$County" "UmbrellaHeir$County" "people" "[LUmbrellaHeir$Person;") ∈ lw_all := lw_g (lw_at lw_m2 169 rfl) rfl
theorem q524 : (Jvm.Cond.soleField "UmbrellaHeir$County" "people") ∈ lw_all := lw_g (lw_at lw_m2 170 rfl) rfl
theorem q525 : (Jvm.Cond.laysFinal "UmbrellaHeir$County" "UmbrellaHeir$County" "umbrellas" "[LUmbrellaHeir$Umbrella;") ∈ lw_all := lw_g (lw_at lw_m2 171 rfl) rfl
theorem q526 : (Jvm.Cond.soleField "UmbrellaHeir$County" "umbrellas") ∈ lw_all := lw_g (lw_at lw_m2 172 rfl) rfl
theorem q527 : (Jvm.Cond.laysFinal "UmbrellaHeir$County" "UmbrellaHeir$County" "log" "[LUmbrellaHeir$Event;") ∈ lw_all := lw_g (lw_at lw_m2 173 rfl) rfl
theorem q528 : (Jvm.Cond.soleField "UmbrellaHeir$County" "log") ∈ lw_all := lw_g (lw_at lw_m2 174 rfl) rfl
theorem q529 : (Jvm.Cond.laysFinal "UmbrellaHeir$County" "UmbrellaHeir$County" "claims" "[LUmbrellaHeir$Claim;") ∈ lw_all := lw_g (lw_at lw_m2 175 rfl) rfl
theorem q530 : (Jvm.Cond.soleField "UmbrellaHeir$County" "claims") ∈ lw_all := lw_g (lw_at lw_m2 176 rfl) rfl
theorem q531 : (Jvm.Cond.lays "UmbrellaHeir$County" "UmbrellaHeir$County" "lapse" "I") ∈ lw_all := lw_g (lw_at lw_m2 177 rfl) rfl
theorem q532 : (Jvm.Cond.soleField "UmbrellaHeir$County" "lapse") ∈ lw_all := lw_g (lw_at lw_m2 178 rfl) rfl
theorem q533 : (Jvm.Cond.lays "UmbrellaHeir$County" "UmbrellaHeir$County" "gust" "I") ∈ lw_all := lw_g (lw_at lw_m2 179 rfl) rfl
theorem q534 : (Jvm.Cond.soleField "UmbrellaHeir$County" "gust") ∈ lw_all := lw_g (lw_at lw_m2 180 rfl) rfl
theorem q535 : (Jvm.Cond.lays "UmbrellaHeir$County" "UmbrellaHeir$County" "rains" "I") ∈ lw_all := lw_g (lw_at lw_m2 181 rfl) rfl
theorem q536 : (Jvm.Cond.soleField "UmbrellaHeir$County" "rains") ∈ lw_all := lw_g (lw_at lw_m2 182 rfl) rfl
theorem q537 : (Jvm.Cond.lays "UmbrellaHeir$County" "UmbrellaHeir$County" "personMany" "I") ∈ lw_all := lw_g (lw_at lw_m2 183 rfl) rfl
theorem q538 : (Jvm.Cond.soleField "UmbrellaHeir$County" "personMany") ∈ lw_all := lw_g (lw_at lw_m2 184 rfl) rfl
theorem q539 : (Jvm.Cond.lays "UmbrellaHeir$County" "UmbrellaHeir$County" "umbrellaMany" "I") ∈ lw_all := lw_g (lw_at lw_m2 185 rfl) rfl
theorem q540 : (Jvm.Cond.soleField "UmbrellaHeir$County" "umbrellaMany") ∈ lw_all := lw_g (lw_at lw_m2 186 rfl) rfl
theorem q541 : (Jvm.Cond.lays "UmbrellaHeir$County" "UmbrellaHeir$County" "logMany" "I") ∈ lw_all := lw_g (lw_at lw_m2 187 rfl) rfl
theorem q542 : (Jvm.Cond.soleField "UmbrellaHeir$County" "logMany") ∈ lw_all := lw_g (lw_at lw_m2 188 rfl) rfl
theorem q543 : (Jvm.Cond.lays "UmbrellaHeir$County" "UmbrellaHeir$County" "claimMany" "I") ∈ lw_all := lw_g (lw_at lw_m2 189 rfl) rfl
theorem q544 : (Jvm.Cond.soleField "UmbrellaHeir$County" "claimMany") ∈ lw_all := lw_g (lw_at lw_m2 190 rfl) rfl
theorem q545 : (Jvm.Cond.superclass "UmbrellaHeir$County" "java/lang/Object") ∈ lw_all := lw_g (lw_at lw_m2 191 rfl) rfl
theorem q761 : (Jvm.Cond.instanceMethod ({ cls := "UmbrellaHeir$County", name := "find", desc := "(Ljava/lang/String;)LUmbrellaHeir$Named;" } : Jvm.MethodName)) ∈ lw_all := lw_g (lw_at lw_m3 167 rfl) rfl
theorem q762 : (Jvm.Cond.selects "UmbrellaHeir$County" ({ cls := "UmbrellaHeir$County", name := "find", desc := "(Ljava/lang/String;)LUmbrellaHeir$Named;" } : Jvm.MethodName) ({ cls := "UmbrellaHeir$County", name := "find", desc := "(Ljava/lang/String;)LUmbrellaHeir$Named;" } : Jvm.MethodName)) ∈ lw_all := lw_g (lw_at lw_m3 168 rfl) rfl
theorem q763 : (Jvm.Cond.code ({ cls := "UmbrellaHeir$County", name := "find", desc := "(Ljava/lang/String;)LUmbrellaHeir$Named;" } : Jvm.MethodName) prog_7_method_2_code (3 : Nat) (Option.some (Jvm.ClassFile.FieldType.object "UmbrellaHeir$Named"))) ∈ lw_all := lw_g (lw_at lw_m3 169 rfl) rfl
theorem q764 : (Jvm.Cond.methodLink "UmbrellaHeir$County" (43 : Nat) ({ cls := "java/lang/String", name := "equals", desc := "(Ljava/lang/Object;)Z" } : Jvm.MethodName)) ∈ lw_all := lw_g (lw_at lw_m3 170 rfl) rfl
theorem q783 : (Jvm.Cond.fieldLink "UmbrellaHeir$County" (39 : Nat) "UmbrellaHeir$Person" "name" "Ljava/lang/String;") ∈ lw_all := lw_g (lw_at lw_m3 189 rfl) rfl
theorem q785 : (Jvm.Cond.fieldLink "UmbrellaHeir$County" (52 : Nat) "UmbrellaHeir$Umbrella" "name" "Ljava/lang/String;") ∈ lw_all := lw_g (lw_at lw_m3 191 rfl) rfl
theorem q836 : (Jvm.Cond.fieldLink "UmbrellaHeir$County" (57 : Nat) "UmbrellaHeir$Umbrella" "ribs" "I") ∈ lw_all := lw_g (lw_at lw_m4 2 rfl) rfl
theorem q1191 : (Jvm.Cond.instanceMethod ({ cls := "UmbrellaHeir$County", name := "areAlike", desc := "(II)Z" } : Jvm.MethodName)) ∈ lw_all := lw_g (lw_at lw_m5 117 rfl) rfl
theorem q1192 : (Jvm.Cond.selects "UmbrellaHeir$County" ({ cls := "UmbrellaHeir$County", name := "areAlike", desc := "(II)Z" } : Jvm.MethodName) ({ cls := "UmbrellaHeir$County", name := "areAlike", desc := "(II)Z" } : Jvm.MethodName)) ∈ lw_all := lw_g (lw_at lw_m5 118 rfl) rfl
theorem q1193 : (Jvm.Cond.code ({ cls := "UmbrellaHeir$County", name := "areAlike", desc := "(II)Z" } : Jvm.MethodName) prog_7_method_3_code (3 : Nat) (Option.some Jvm.ClassFile.FieldType.boolean)) ∈ lw_all := lw_g (lw_at lw_m5 119 rfl) rfl
theorem q1194 : (Jvm.Cond.methodLink "UmbrellaHeir$County" (53 : Nat) ({ cls := "UmbrellaHeir$Umbrella", name := "kind", desc := "()I" } : Jvm.MethodName)) ∈ lw_all := lw_g (lw_at lw_m5 120 rfl) rfl
theorem q2307 : (Jvm.Cond.castable "UmbrellaHeir$County" "java/lang/Object") ∈ lw_tbl := lw_at lw_m10 33 rfl
theorem in_X9 : ∀ w ∈ wsX90, w ∈ lw_all := lw_in wsX90 [523, 525, 527, 529, 531, 533, 535, 537, 539, 541, 543] (by decide +kernel) (by decide +kernel)
/-! UmbrellaHeir$Named -/
set_option maxRecDepth 100000
def RX10 : String := "UmbrellaHeir$Named"
abbrev cX10_init : ByteArray := prog_13_method_1_code
def yX10_init : MethodName := ⟨RX10, "<init>", "(Ljava/lang/String;I)V"⟩
def dkwX10_init_0 : List UInt8 := [42, 183, 0, 1, 42, 43, 181, 0, 7, 42, 28, 181, 0, 13, 177]
abbrev dktX10_init_0 : List UInt8 := dkwX10_init_0 ++ []
theorem dksX10_init_0 : cX10_init.data.toList.drop 0 = dktX10_init_0 := by decide +kernel
theorem dX10_init_0 : decode cX10_init 0 = .ok (.aload_n 0, 1) := dk_42 (dk_at dksX10_init_0 0 rfl rfl)
theorem dX10_init_1 : decode cX10_init 1 = .ok (.invokespecial 1, 3) := dk_183 0 1 (dk_at dksX10_init_0 1 rfl rfl)
theorem dX10_init_4 : decode cX10_init 4 = .ok (.aload_n 0, 1) := dk_42 (dk_at dksX10_init_0 4 rfl rfl)
theorem dX10_init_5 : decode cX10_init 5 = .ok (.aload_n 1, 1) := dk_43 (dk_at dksX10_init_0 5 rfl rfl)
theorem dX10_init_6 : decode cX10_init 6 = .ok (.putfield 7, 3) := dk_181 0 7 (dk_at dksX10_init_0 6 rfl rfl)
theorem dX10_init_9 : decode cX10_init 9 = .ok (.aload_n 0, 1) := dk_42 (dk_at dksX10_init_0 9 rfl rfl)
theorem dX10_init_10 : decode cX10_init 10 = .ok (.iload_n 2, 1) := dk_28 (dk_at dksX10_init_0 10 rfl rfl)
theorem dX10_init_11 : decode cX10_init 11 = .ok (.putfield 13, 3) := dk_181 0 13 (dk_at dksX10_init_0 11 rfl rfl)
theorem dX10_init_14 : decode cX10_init 14 = .ok (.return_, 1) := dk_177 (dk_at dksX10_init_0 14 rfl rfl)
theorem q132 : (Jvm.Cond.initialized "UmbrellaHeir$Named") ∈ lw_all := lw_g (lw_at lw_m1 18 rfl) rfl
theorem q779 : (Jvm.Cond.instanceMethod ({ cls := "UmbrellaHeir$Named", name := "<init>", desc := "(Ljava/lang/String;I)V" } : Jvm.MethodName)) ∈ lw_all := lw_g (lw_at lw_m3 185 rfl) rfl
theorem q780 : (Jvm.Cond.code ({ cls := "UmbrellaHeir$Named", name := "<init>", desc := "(Ljava/lang/String;I)V" } : Jvm.MethodName) prog_13_method_1_code (3 : Nat) (Option.none : Option Jvm.ClassFile.FieldType)) ∈ lw_all := lw_g (lw_at lw_m3 186 rfl) rfl
theorem q781 : (Jvm.Cond.methodLink "UmbrellaHeir$Named" (1 : Nat) ({ cls := "java/lang/Object", name := "<init>", desc := "()V" } : Jvm.MethodName)) ∈ lw_all := lw_g (lw_at lw_m3 187 rfl) rfl
theorem q782 : (Jvm.Cond.fieldLink "UmbrellaHeir$Named" (7 : Nat) "UmbrellaHeir$Named" "name" "Ljava/lang/String;") ∈ lw_all := lw_g (lw_at lw_m3 188 rfl) rfl
theorem q787 : (Jvm.Cond.fieldLink "UmbrellaHeir$Named" (13 : Nat) "UmbrellaHeir$Named" "number" "I") ∈ lw_all := lw_g (lw_at lw_m3 193 rfl) rfl
theorem q790 : (Jvm.Cond.soleField "UmbrellaHeir$Named" "name") ∈ lw_all := lw_g (lw_at lw_m3 196 rfl) rfl
theorem q792 : (Jvm.Cond.soleField "UmbrellaHeir$Named" "number") ∈ lw_all := lw_g (lw_at lw_m3 198 rfl) rfl
/-! UmbrellaHeir$Person -/
set_option maxRecDepth 100000
def RX11 : String := "UmbrellaHeir$Person"
abbrev cX11_init : ByteArray := prog_16_method_1_code
def yX11_init : MethodName := ⟨RX11, "<init>", "(Ljava/lang/String;I)V"⟩
def dkwX11_init_0 : List UInt8 := [42, 43, 28, 183, 0, 1, 177]
abbrev dktX11_init_0 : List UInt8 := dkwX11_init_0 ++ []
theorem dksX11_init_0 : cX11_init.data.toList.drop 0 = dktX11_init_0 := by decide +kernel
theorem dX11_init_0 : decode cX11_init 0 = .ok (.aload_n 0, 1) := dk_42 (dk_at dksX11_init_0 0 rfl rfl)
theorem dX11_init_1 : decode cX11_init 1 = .ok (.aload_n 1, 1) := dk_43 (dk_at dksX11_init_0 1 rfl rfl)
theorem dX11_init_2 : decode cX11_init 2 = .ok (.iload_n 2, 1) := dk_28 (dk_at dksX11_init_0 2 rfl rfl)
theorem dX11_init_3 : decode cX11_init 3 = .ok (.invokespecial 1, 3) := dk_183 0 1 (dk_at dksX11_init_0 3 rfl rfl)
theorem dX11_init_6 : decode cX11_init 6 = .ok (.return_, 1) := dk_177 (dk_at dksX11_init_0 6 rfl rfl)
abbrev cX11_canHold : ByteArray := prog_16_method_3_code
def yX11_canHold : MethodName := ⟨RX11, "canHold", "()Z"⟩
theorem dX11_canHold_0 : decode cX11_canHold 0 = .ok (.iconst 1, 1) := by decide +kernel
theorem dX11_canHold_1 : decode cX11_canHold 1 = .ok (.ireturn, 1) := by decide +kernel
abbrev cX11_doesLeave : ByteArray := prog_16_method_4_code
def yX11_doesLeave : MethodName := ⟨RX11, "doesLeave", "()Z"⟩
theorem dX11_doesLeave_0 : decode cX11_doesLeave 0 = .ok (.iconst 0, 1) := by decide +kernel
theorem dX11_doesLeave_1 : decode cX11_doesLeave 1 = .ok (.ireturn, 1) := by decide +kernel
theorem q133 : (Jvm.Cond.initialized "UmbrellaHeir$Person") ∈ lw_all := lw_g (lw_at lw_m1 19 rfl) rfl
theorem q776 : (Jvm.Cond.instanceMethod ({ cls := "UmbrellaHeir$Person", name := "<init>", desc := "(Ljava/lang/String;I)V" } : Jvm.MethodName)) ∈ lw_all := lw_g (lw_at lw_m3 182 rfl) rfl
theorem q777 : (Jvm.Cond.code ({ cls := "UmbrellaHeir$Person", name := "<init>", desc := "(Ljava/lang/String;I)V" } : Jvm.MethodName) prog_16_method_1_code (3 : Nat) (Option.none : Option Jvm.ClassFile.FieldType)) ∈ lw_all := lw_g (lw_at lw_m3 183 rfl) rfl
theorem q778 : (Jvm.Cond.methodLink "UmbrellaHeir$Person" (1 : Nat) ({ cls := "UmbrellaHeir$Named", name := "<init>", desc := "(Ljava/lang/String;I)V" } : Jvm.MethodName)) ∈ lw_all := lw_g (lw_at lw_m3 184 rfl) rfl
theorem q784 : (Jvm.Cond.sameField "UmbrellaHeir$Person" "UmbrellaHeir$Named" "name" "Ljava/lang/String;") ∈ lw_all := lw_g (lw_at lw_m3 190 rfl) rfl
theorem q1031 : (Jvm.Cond.instanceMethod ({ cls := "UmbrellaHeir$Person", name := "canHold", desc := "()Z" } : Jvm.MethodName)) ∈ lw_all := lw_g (lw_at lw_m4 197 rfl) rfl
theorem q1032 : (Jvm.Cond.sameMethod "UmbrellaHeir$Person" "UmbrellaHeir$Person" "canHold" "()Z") ∈ lw_all := lw_g (lw_at lw_m4 198 rfl) rfl
theorem q1038 : (Jvm.Cond.code ({ cls := "UmbrellaHeir$Person", name := "canHold", desc := "()Z" } : Jvm.MethodName) prog_16_method_3_code (1 : Nat) (Option.some Jvm.ClassFile.FieldType.boolean)) ∈ lw_all := lw_g (lw_at lw_m4 204 rfl) rfl
theorem q1105 : (Jvm.Cond.instanceMethod ({ cls := "UmbrellaHeir$Person", name := "doesLeave", desc := "()Z" } : Jvm.MethodName)) ∈ lw_all := lw_g (lw_at lw_m5 31 rfl) rfl
theorem q1106 : (Jvm.Cond.sameMethod "UmbrellaHeir$Person" "UmbrellaHeir$Person" "doesLeave" "()Z") ∈ lw_all := lw_g (lw_at lw_m5 32 rfl) rfl
theorem q1112 : (Jvm.Cond.code ({ cls := "UmbrellaHeir$Person", name := "doesLeave", desc := "()Z" } : Jvm.MethodName) prog_16_method_4_code (1 : Nat) (Option.some Jvm.ClassFile.FieldType.boolean)) ∈ lw_all := lw_g (lw_at lw_m5 38 rfl) rfl
theorem q1170 : (Jvm.Cond.declares ({ cls := "UmbrellaHeir$Person", name := "sort", desc := "()I" } : Jvm.MethodName)) ∈ lw_tbl := lw_at lw_m5 96 rfl
theorem q1171 : (Jvm.Cond.sameMethod "UmbrellaHeir$Person" "UmbrellaHeir$Person" "sort" "()I") ∈ lw_all := lw_g (lw_at lw_m5 97 rfl) rfl
/-! UmbrellaHeir$Plain -/
set_option maxRecDepth 100000
def RX12 : String := "UmbrellaHeir$Plain"
def TX12 : u_T := fun k => match k with
  | 0 => ("UmbrellaHeir$Named", "name", "Ljava/lang/String;", true)
  | _ => ("UmbrellaHeir$Named", "number", "I", true)
def tyX12 : Nat → FieldType := fun k => match k with
  | 0 => .object "java/lang/String"
  | _ => .int
abbrev wsX120 : List Cond := u_ws RX12 TX12 2
theorem nmX12 : ∀ a, a < 2 → ∀ b, b < 2 → a ≠ b → (TX12 a).2.1 ≠ (TX12 b).2.1 := by decide +kernel
theorem tyX12_ok : ∀ k, k < 2 → parseFieldDescriptor (TX12 k).2.2.1 = some (tyX12 k) := by decide +kernel
abbrev cX12_init : ByteArray := prog_17_method_1_code
def yX12_init : MethodName := ⟨RX12, "<init>", "(Ljava/lang/String;I)V"⟩
def dkwX12_init_0 : List UInt8 := [42, 43, 28, 183, 0, 1, 177]
abbrev dktX12_init_0 : List UInt8 := dkwX12_init_0 ++ []
theorem dksX12_init_0 : cX12_init.data.toList.drop 0 = dktX12_init_0 := by decide +kernel
theorem dX12_init_0 : decode cX12_init 0 = .ok (.aload_n 0, 1) := dk_42 (dk_at dksX12_init_0 0 rfl rfl)
theorem dX12_init_1 : decode cX12_init 1 = .ok (.aload_n 1, 1) := dk_43 (dk_at dksX12_init_0 1 rfl rfl)
theorem dX12_init_2 : decode cX12_init 2 = .ok (.iload_n 2, 1) := dk_28 (dk_at dksX12_init_0 2 rfl rfl)
theorem dX12_init_3 : decode cX12_init 3 = .ok (.invokespecial 1, 3) := dk_183 0 1 (dk_at dksX12_init_0 3 rfl rfl)
theorem dX12_init_6 : decode cX12_init 6 = .ok (.return_, 1) := dk_177 (dk_at dksX12_init_0 6 rfl rfl)
abbrev cX12_sort : ByteArray := prog_17_method_2_code
def yX12_sort : MethodName := ⟨RX12, "sort", "()I"⟩
theorem dX12_sort_0 : decode cX12_sort 0 = .ok (.iconst 0, 1) := by decide +kernel
theorem dX12_sort_1 : decode cX12_sort 1 = .ok (.ireturn, 1) := by decide +kernel
theorem q134 : (Jvm.Cond.initialized "UmbrellaHeir$Plain") ∈ lw_all := lw_g (lw_at lw_m1 20 rfl) rfl
theorem q771 : (Jvm.Cond.instantiable "UmbrellaHeir$Plain" (2 : Nat)) ∈ lw_all := lw_g (lw_at lw_m3 177 rfl) rfl
theorem q773 : (Jvm.Cond.instanceMethod ({ cls := "UmbrellaHeir$Plain", name := "<init>", desc := "(Ljava/lang/String;I)V" } : Jvm.MethodName)) ∈ lw_all := lw_g (lw_at lw_m3 179 rfl) rfl
theorem q774 : (Jvm.Cond.code ({ cls := "UmbrellaHeir$Plain", name := "<init>", desc := "(Ljava/lang/String;I)V" } : Jvm.MethodName) prog_17_method_1_code (3 : Nat) (Option.none : Option Jvm.ClassFile.FieldType)) ∈ lw_all := lw_g (lw_at lw_m3 180 rfl) rfl
theorem q775 : (Jvm.Cond.methodLink "UmbrellaHeir$Plain" (1 : Nat) ({ cls := "UmbrellaHeir$Person", name := "<init>", desc := "(Ljava/lang/String;I)V" } : Jvm.MethodName)) ∈ lw_all := lw_g (lw_at lw_m3 181 rfl) rfl
theorem q789 : (Jvm.Cond.laysFinal "UmbrellaHeir$Plain" "UmbrellaHeir$Named" "name" "Ljava/lang/String;") ∈ lw_all := lw_g (lw_at lw_m3 195 rfl) rfl
theorem q791 : (Jvm.Cond.laysFinal "UmbrellaHeir$Plain" "UmbrellaHeir$Named" "number" "I") ∈ lw_all := lw_g (lw_at lw_m3 197 rfl) rfl
theorem q793 : (Jvm.Cond.superclass "UmbrellaHeir$Plain" "UmbrellaHeir$Person") ∈ lw_all := lw_g (lw_at lw_m3 199 rfl) rfl
theorem q1037 : (Jvm.Cond.selects "UmbrellaHeir$Plain" ({ cls := "UmbrellaHeir$Person", name := "canHold", desc := "()Z" } : Jvm.MethodName) ({ cls := "UmbrellaHeir$Person", name := "canHold", desc := "()Z" } : Jvm.MethodName)) ∈ lw_all := lw_g (lw_at lw_m4 203 rfl) rfl
theorem q1111 : (Jvm.Cond.selects "UmbrellaHeir$Plain" ({ cls := "UmbrellaHeir$Person", name := "doesLeave", desc := "()Z" } : Jvm.MethodName) ({ cls := "UmbrellaHeir$Person", name := "doesLeave", desc := "()Z" } : Jvm.MethodName)) ∈ lw_all := lw_g (lw_at lw_m5 37 rfl) rfl
theorem q1178 : (Jvm.Cond.selects "UmbrellaHeir$Plain" ({ cls := "UmbrellaHeir$Person", name := "sort", desc := "()I" } : Jvm.MethodName) ({ cls := "UmbrellaHeir$Plain", name := "sort", desc := "()I" } : Jvm.MethodName)) ∈ lw_all := lw_g (lw_at lw_m5 104 rfl) rfl
theorem q1179 : (Jvm.Cond.instanceMethod ({ cls := "UmbrellaHeir$Plain", name := "sort", desc := "()I" } : Jvm.MethodName)) ∈ lw_all := lw_g (lw_at lw_m5 105 rfl) rfl
theorem q1180 : (Jvm.Cond.code ({ cls := "UmbrellaHeir$Plain", name := "sort", desc := "()I" } : Jvm.MethodName) prog_17_method_2_code (1 : Nat) (Option.some Jvm.ClassFile.FieldType.int)) ∈ lw_all := lw_g (lw_at lw_m5 106 rfl) rfl
theorem q2294 : (Jvm.Cond.castable "UmbrellaHeir$Plain" "UmbrellaHeir$Person") ∈ lw_tbl := lw_at lw_m10 20 rfl
theorem q2310 : (Jvm.Cond.castable "UmbrellaHeir$Plain" "java/lang/Object") ∈ lw_tbl := lw_at lw_m10 36 rfl
theorem in_X12 : ∀ w ∈ wsX120, w ∈ lw_all := lw_in wsX120 [789, 791] (by decide +kernel) (by decide +kernel)
/-! UmbrellaHeir$Child -/
set_option maxRecDepth 100000
def RX13 : String := "UmbrellaHeir$Child"
def TX13 : u_T := fun k => match k with
  | 0 => ("UmbrellaHeir$Named", "name", "Ljava/lang/String;", true)
  | _ => ("UmbrellaHeir$Named", "number", "I", true)
def tyX13 : Nat → FieldType := fun k => match k with
  | 0 => .object "java/lang/String"
  | _ => .int
abbrev wsX130 : List Cond := u_ws RX13 TX13 2
theorem nmX13 : ∀ a, a < 2 → ∀ b, b < 2 → a ≠ b → (TX13 a).2.1 ≠ (TX13 b).2.1 := by decide +kernel
theorem tyX13_ok : ∀ k, k < 2 → parseFieldDescriptor (TX13 k).2.2.1 = some (tyX13 k) := by decide +kernel
abbrev cX13_init : ByteArray := prog_4_method_1_code
def yX13_init : MethodName := ⟨RX13, "<init>", "(Ljava/lang/String;I)V"⟩
def dkwX13_init_0 : List UInt8 := [42, 43, 28, 183, 0, 1, 177]
abbrev dktX13_init_0 : List UInt8 := dkwX13_init_0 ++ []
theorem dksX13_init_0 : cX13_init.data.toList.drop 0 = dktX13_init_0 := by decide +kernel
theorem dX13_init_0 : decode cX13_init 0 = .ok (.aload_n 0, 1) := dk_42 (dk_at dksX13_init_0 0 rfl rfl)
theorem dX13_init_1 : decode cX13_init 1 = .ok (.aload_n 1, 1) := dk_43 (dk_at dksX13_init_0 1 rfl rfl)
theorem dX13_init_2 : decode cX13_init 2 = .ok (.iload_n 2, 1) := dk_28 (dk_at dksX13_init_0 2 rfl rfl)
theorem dX13_init_3 : decode cX13_init 3 = .ok (.invokespecial 1, 3) := dk_183 0 1 (dk_at dksX13_init_0 3 rfl rfl)
theorem dX13_init_6 : decode cX13_init 6 = .ok (.return_, 1) := dk_177 (dk_at dksX13_init_0 6 rfl rfl)
abbrev cX13_canHold : ByteArray := prog_4_method_3_code
def yX13_canHold : MethodName := ⟨RX13, "canHold", "()Z"⟩
theorem dX13_canHold_0 : decode cX13_canHold 0 = .ok (.iconst 0, 1) := by decide +kernel
theorem dX13_canHold_1 : decode cX13_canHold 1 = .ok (.ireturn, 1) := by decide +kernel
abbrev cX13_sort : ByteArray := prog_4_method_2_code
def yX13_sort : MethodName := ⟨RX13, "sort", "()I"⟩
theorem dX13_sort_0 : decode cX13_sort 0 = .ok (.iconst 1, 1) := by decide +kernel
theorem dX13_sort_1 : decode cX13_sort 1 = .ok (.ireturn, 1) := by decide +kernel
theorem q135 : (Jvm.Cond.initialized "UmbrellaHeir$Child") ∈ lw_all := lw_g (lw_at lw_m1 21 rfl) rfl
theorem q796 : (Jvm.Cond.instantiable "UmbrellaHeir$Child" (2 : Nat)) ∈ lw_all := lw_g (lw_at lw_m3 202 rfl) rfl
theorem q798 : (Jvm.Cond.instanceMethod ({ cls := "UmbrellaHeir$Child", name := "<init>", desc := "(Ljava/lang/String;I)V" } : Jvm.MethodName)) ∈ lw_all := lw_g (lw_at lw_m3 204 rfl) rfl
theorem q799 : (Jvm.Cond.code ({ cls := "UmbrellaHeir$Child", name := "<init>", desc := "(Ljava/lang/String;I)V" } : Jvm.MethodName) prog_4_method_1_code (3 : Nat) (Option.none : Option Jvm.ClassFile.FieldType)) ∈ lw_all := lw_g (lw_at lw_m3 205 rfl) rfl
theorem q800 : (Jvm.Cond.methodLink "UmbrellaHeir$Child" (1 : Nat) ({ cls := "UmbrellaHeir$Person", name := "<init>", desc := "(Ljava/lang/String;I)V" } : Jvm.MethodName)) ∈ lw_all := lw_g (lw_at lw_m3 206 rfl) rfl
theorem q801 : (Jvm.Cond.laysFinal "UmbrellaHeir$Child" "UmbrellaHeir$Named" "name" "Ljava/lang/String;") ∈ lw_all := lw_g (lw_at lw_m3 207 rfl) rfl
theorem q802 : (Jvm.Cond.laysFinal "UmbrellaHeir$Child" "UmbrellaHeir$Named" "number" "I") ∈ lw_all := lw_g (lw_at lw_m3 208 rfl) rfl
theorem q803 : (Jvm.Cond.superclass "UmbrellaHeir$Child" "UmbrellaHeir$Person") ∈ lw_all := lw_g (lw_at lw_m3 209 rfl) rfl
theorem q1034 : (Jvm.Cond.selects "UmbrellaHeir$Child" ({ cls := "UmbrellaHeir$Person", name := "canHold", desc := "()Z" } : Jvm.MethodName) ({ cls := "UmbrellaHeir$Child", name := "canHold", desc := "()Z" } : Jvm.MethodName)) ∈ lw_all := lw_g (lw_at lw_m4 200 rfl) rfl
theorem q1035 : (Jvm.Cond.instanceMethod ({ cls := "UmbrellaHeir$Child", name := "canHold", desc := "()Z" } : Jvm.MethodName)) ∈ lw_all := lw_g (lw_at lw_m4 201 rfl) rfl
theorem q1036 : (Jvm.Cond.code ({ cls := "UmbrellaHeir$Child", name := "canHold", desc := "()Z" } : Jvm.MethodName) prog_4_method_3_code (1 : Nat) (Option.some Jvm.ClassFile.FieldType.boolean)) ∈ lw_all := lw_g (lw_at lw_m4 202 rfl) rfl
theorem q1110 : (Jvm.Cond.selects "UmbrellaHeir$Child" ({ cls := "UmbrellaHeir$Person", name := "doesLeave", desc := "()Z" } : Jvm.MethodName) ({ cls := "UmbrellaHeir$Person", name := "doesLeave", desc := "()Z" } : Jvm.MethodName)) ∈ lw_all := lw_g (lw_at lw_m5 36 rfl) rfl
theorem q1175 : (Jvm.Cond.selects "UmbrellaHeir$Child" ({ cls := "UmbrellaHeir$Person", name := "sort", desc := "()I" } : Jvm.MethodName) ({ cls := "UmbrellaHeir$Child", name := "sort", desc := "()I" } : Jvm.MethodName)) ∈ lw_all := lw_g (lw_at lw_m5 101 rfl) rfl
theorem q1176 : (Jvm.Cond.instanceMethod ({ cls := "UmbrellaHeir$Child", name := "sort", desc := "()I" } : Jvm.MethodName)) ∈ lw_all := lw_g (lw_at lw_m5 102 rfl) rfl
theorem q1177 : (Jvm.Cond.code ({ cls := "UmbrellaHeir$Child", name := "sort", desc := "()I" } : Jvm.MethodName) prog_4_method_2_code (1 : Nat) (Option.some Jvm.ClassFile.FieldType.int)) ∈ lw_all := lw_g (lw_at lw_m5 103 rfl) rfl
theorem q2293 : (Jvm.Cond.castable "UmbrellaHeir$Child" "UmbrellaHeir$Person") ∈ lw_tbl := lw_at lw_m10 19 rfl
theorem q2311 : (Jvm.Cond.castable "UmbrellaHeir$Child" "java/lang/Object") ∈ lw_tbl := lw_at lw_m10 37 rfl
theorem in_X13 : ∀ w ∈ wsX130, w ∈ lw_all := lw_in wsX130 [801, 802] (by decide +kernel) (by decide +kernel)
/-! UmbrellaHeir$Careless -/
set_option maxRecDepth 100000
def RX14 : String := "UmbrellaHeir$Careless"
def TX14 : u_T := fun k => match k with
  | 0 => ("UmbrellaHeir$Named", "name", "Ljava/lang/String;", true)
  | _ => ("UmbrellaHeir$Named", "number", "I", true)
def tyX14 : Nat → FieldType := fun k => match k with
  | 0 => .object "java/lang/String"
  | _ => .int
abbrev wsX140 : List Cond := u_ws RX14 TX14 2
theorem nmX14 : ∀ a, a < 2 → ∀ b, b < 2 → a ≠ b → (TX14 a).2.1 ≠ (TX14 b).2.1 := by decide +kernel
theorem tyX14_ok : ∀ k, k < 2 → parseFieldDescriptor (TX14 k).2.2.1 = some (tyX14 k) := by decide +kernel
abbrev cX14_init : ByteArray := prog_2_method_1_code
def yX14_init : MethodName := ⟨RX14, "<init>", "(Ljava/lang/String;I)V"⟩
def dkwX14_init_0 : List UInt8 := [42, 43, 28, 183, 0, 1, 177]
abbrev dktX14_init_0 : List UInt8 := dkwX14_init_0 ++ []
theorem dksX14_init_0 : cX14_init.data.toList.drop 0 = dktX14_init_0 := by decide +kernel
theorem dX14_init_0 : decode cX14_init 0 = .ok (.aload_n 0, 1) := dk_42 (dk_at dksX14_init_0 0 rfl rfl)
theorem dX14_init_1 : decode cX14_init 1 = .ok (.aload_n 1, 1) := dk_43 (dk_at dksX14_init_0 1 rfl rfl)
theorem dX14_init_2 : decode cX14_init 2 = .ok (.iload_n 2, 1) := dk_28 (dk_at dksX14_init_0 2 rfl rfl)
theorem dX14_init_3 : decode cX14_init 3 = .ok (.invokespecial 1, 3) := dk_183 0 1 (dk_at dksX14_init_0 3 rfl rfl)
theorem dX14_init_6 : decode cX14_init 6 = .ok (.return_, 1) := dk_177 (dk_at dksX14_init_0 6 rfl rfl)
abbrev cX14_doesLeave : ByteArray := prog_2_method_3_code
def yX14_doesLeave : MethodName := ⟨RX14, "doesLeave", "()Z"⟩
theorem dX14_doesLeave_0 : decode cX14_doesLeave 0 = .ok (.iconst 1, 1) := by decide +kernel
theorem dX14_doesLeave_1 : decode cX14_doesLeave 1 = .ok (.ireturn, 1) := by decide +kernel
abbrev cX14_sort : ByteArray := prog_2_method_2_code
def yX14_sort : MethodName := ⟨RX14, "sort", "()I"⟩
theorem dX14_sort_0 : decode cX14_sort 0 = .ok (.iconst 2, 1) := by decide +kernel
theorem dX14_sort_1 : decode cX14_sort 1 = .ok (.ireturn, 1) := by decide +kernel
theorem q136 : (Jvm.Cond.initialized "UmbrellaHeir$Careless") ∈ lw_all := lw_g (lw_at lw_m1 22 rfl) rfl
theorem q806 : (Jvm.Cond.instantiable "UmbrellaHeir$Careless" (2 : Nat)) ∈ lw_all := lw_g (lw_at lw_m3 212 rfl) rfl
theorem q808 : (Jvm.Cond.instanceMethod ({ cls := "UmbrellaHeir$Careless", name := "<init>", desc := "(Ljava/lang/String;I)V" } : Jvm.MethodName)) ∈ lw_all := lw_g (lw_at lw_m3 214 rfl) rfl
theorem q809 : (Jvm.Cond.code ({ cls := "UmbrellaHeir$Careless", name := "<init>", desc := "(Ljava/lang/String;I)V" } : Jvm.MethodName) prog_2_method_1_code (3 : Nat) (Option.none : Option Jvm.ClassFile.FieldType)) ∈ lw_all := lw_g (lw_at lw_m3 215 rfl) rfl
theorem q810 : (Jvm.Cond.methodLink "UmbrellaHeir$Careless" (1 : Nat) ({ cls := "UmbrellaHeir$Person", name := "<init>", desc := "(Ljava/lang/String;I)V" } : Jvm.MethodName)) ∈ lw_all := lw_g (lw_at lw_m3 216 rfl) rfl
theorem q811 : (Jvm.Cond.laysFinal "UmbrellaHeir$Careless" "UmbrellaHeir$Named" "name" "Ljava/lang/String;") ∈ lw_all := lw_g (lw_at lw_m3 217 rfl) rfl
theorem q812 : (Jvm.Cond.laysFinal "UmbrellaHeir$Careless" "UmbrellaHeir$Named" "number" "I") ∈ lw_all := lw_g (lw_at lw_m3 218 rfl) rfl
theorem q813 : (Jvm.Cond.superclass "UmbrellaHeir$Careless" "UmbrellaHeir$Person") ∈ lw_all := lw_g (lw_at lw_m3 219 rfl) rfl
theorem q1033 : (Jvm.Cond.selects "UmbrellaHeir$Careless" ({ cls := "UmbrellaHeir$Person", name := "canHold", desc := "()Z" } : Jvm.MethodName) ({ cls := "UmbrellaHeir$Person", name := "canHold", desc := "()Z" } : Jvm.MethodName)) ∈ lw_all := lw_g (lw_at lw_m4 199 rfl) rfl
theorem q1107 : (Jvm.Cond.selects "UmbrellaHeir$Careless" ({ cls := "UmbrellaHeir$Person", name := "doesLeave", desc := "()Z" } : Jvm.MethodName) ({ cls := "UmbrellaHeir$Careless", name := "doesLeave", desc := "()Z" } : Jvm.MethodName)) ∈ lw_all := lw_g (lw_at lw_m5 33 rfl) rfl
theorem q1108 : (Jvm.Cond.instanceMethod ({ cls := "UmbrellaHeir$Careless", name := "doesLeave", desc := "()Z" } : Jvm.MethodName)) ∈ lw_all := lw_g (lw_at lw_m5 34 rfl) rfl
theorem q1109 : (Jvm.Cond.code ({ cls := "UmbrellaHeir$Careless", name := "doesLeave", desc := "()Z" } : Jvm.MethodName) prog_2_method_3_code (1 : Nat) (Option.some Jvm.ClassFile.FieldType.boolean)) ∈ lw_all := lw_g (lw_at lw_m5 35 rfl) rfl
theorem q1172 : (Jvm.Cond.selects "UmbrellaHeir$Careless" ({ cls := "UmbrellaHeir$Person", name := "sort", desc := "()I" } : Jvm.MethodName) ({ cls := "UmbrellaHeir$Careless", name := "sort", desc := "()I" } : Jvm.MethodName)) ∈ lw_all := lw_g (lw_at lw_m5 98 rfl) rfl
theorem q1173 : (Jvm.Cond.instanceMethod ({ cls := "UmbrellaHeir$Careless", name := "sort", desc := "()I" } : Jvm.MethodName)) ∈ lw_all := lw_g (lw_at lw_m5 99 rfl) rfl
theorem q1174 : (Jvm.Cond.code ({ cls := "UmbrellaHeir$Careless", name := "sort", desc := "()I" } : Jvm.MethodName) prog_2_method_2_code (1 : Nat) (Option.some Jvm.ClassFile.FieldType.int)) ∈ lw_all := lw_g (lw_at lw_m5 100 rfl) rfl
theorem q2292 : (Jvm.Cond.castable "UmbrellaHeir$Careless" "UmbrellaHeir$Person") ∈ lw_tbl := lw_at lw_m10 18 rfl
theorem q2312 : (Jvm.Cond.castable "UmbrellaHeir$Careless" "java/lang/Object") ∈ lw_tbl := lw_at lw_m10 38 rfl
theorem in_X14 : ∀ w ∈ wsX140, w ∈ lw_all := lw_in wsX140 [811, 812] (by decide +kernel) (by decide +kernel)
/-! UmbrellaHeir$Umbrella -/
set_option maxRecDepth 100000
def RX15 : String := "UmbrellaHeir$Umbrella"
abbrev cX15_init : ByteArray := prog_24_method_1_code
def yX15_init : MethodName := ⟨RX15, "<init>", "(Ljava/lang/String;I)V"⟩
def dkwX15_init_0 : List UInt8 := [42, 43, 28, 183, 0, 3, 42, 16, 254, 181, 0, 9, 177]
abbrev dktX15_init_0 : List UInt8 := dkwX15_init_0 ++ []
theorem dksX15_init_0 : cX15_init.data.toList.drop 0 = dktX15_init_0 := by decide +kernel
theorem dX15_init_0 : decode cX15_init 0 = .ok (.aload_n 0, 1) := dk_42 (dk_at dksX15_init_0 0 rfl rfl)
theorem dX15_init_1 : decode cX15_init 1 = .ok (.aload_n 1, 1) := dk_43 (dk_at dksX15_init_0 1 rfl rfl)
theorem dX15_init_2 : decode cX15_init 2 = .ok (.iload_n 2, 1) := dk_28 (dk_at dksX15_init_0 2 rfl rfl)
theorem dX15_init_3 : decode cX15_init 3 = .ok (.invokespecial 3, 3) := dk_183 0 3 (dk_at dksX15_init_0 3 rfl rfl)
theorem dX15_init_6 : decode cX15_init 6 = .ok (.aload_n 0, 1) := dk_42 (dk_at dksX15_init_0 6 rfl rfl)
theorem dX15_init_7 : decode cX15_init 7 = .ok (.bipush (-2), 2) := dk_16 254 (dk_at dksX15_init_0 7 rfl rfl)
theorem dX15_init_9 : decode cX15_init 9 = .ok (.putfield 9, 3) := dk_181 0 9 (dk_at dksX15_init_0 9 rfl rfl)
theorem dX15_init_12 : decode cX15_init 12 = .ok (.return_, 1) := dk_177 (dk_at dksX15_init_0 12 rfl rfl)
abbrev cX15_isTitled : ByteArray := prog_24_method_5_code
def yX15_isTitled : MethodName := ⟨RX15, "isTitled", "()Z"⟩
theorem dX15_isTitled_0 : decode cX15_isTitled 0 = .ok (.iconst 1, 1) := by decide +kernel
theorem dX15_isTitled_1 : decode cX15_isTitled 1 = .ok (.ireturn, 1) := by decide +kernel
abbrev cX15_passes : ByteArray := prog_24_method_3_code
def yX15_passes : MethodName := ⟨RX15, "passes", "(Z)Z"⟩
theorem dX15_passes_0 : decode cX15_passes 0 = .ok (.iload_n 1, 1) := by decide +kernel
theorem dX15_passes_1 : decode cX15_passes 1 = .ok (.ireturn, 1) := by decide +kernel
abbrev cX15_doesLapse : ByteArray := prog_24_method_4_code
def yX15_doesLapse : MethodName := ⟨RX15, "doesLapse", "()Z"⟩
theorem dX15_doesLapse_0 : decode cX15_doesLapse 0 = .ok (.iconst 1, 1) := by decide +kernel
theorem dX15_doesLapse_1 : decode cX15_doesLapse 1 = .ok (.ireturn, 1) := by decide +kernel
abbrev cX15_room : ByteArray := prog_24_method_7_code
def yX15_room : MethodName := ⟨RX15, "room", "()I"⟩
def dkwX15_room_0 : List UInt8 := [42, 180, 0, 15, 7, 108, 172]
abbrev dktX15_room_0 : List UInt8 := dkwX15_room_0 ++ []
theorem dksX15_room_0 : cX15_room.data.toList.drop 0 = dktX15_room_0 := by decide +kernel
theorem dX15_room_0 : decode cX15_room 0 = .ok (.aload_n 0, 1) := dk_42 (dk_at dksX15_room_0 0 rfl rfl)
theorem dX15_room_1 : decode cX15_room 1 = .ok (.getfield 15, 3) := dk_180 0 15 (dk_at dksX15_room_0 1 rfl rfl)
theorem dX15_room_4 : decode cX15_room 4 = .ok (.iconst 4, 1) := dk_7 (dk_at dksX15_room_0 4 rfl rfl)
theorem dX15_room_5 : decode cX15_room 5 = .ok (.idiv, 1) := dk_108 (dk_at dksX15_room_0 5 rfl rfl)
theorem dX15_room_6 : decode cX15_room 6 = .ok (.ireturn, 1) := dk_172 (dk_at dksX15_room_0 6 rfl rfl)
abbrev cX15_gust : ByteArray := prog_24_method_6_code
def yX15_gust : MethodName := ⟨RX15, "gust", "(I)I"⟩
theorem dX15_gust_0 : decode cX15_gust 0 = .ok (.iload_n 1, 1) := by decide +kernel
theorem dX15_gust_1 : decode cX15_gust 1 = .ok (.ireturn, 1) := by decide +kernel
theorem q137 : (Jvm.Cond.initialized "UmbrellaHeir$Umbrella") ∈ lw_all := lw_g (lw_at lw_m1 23 rfl) rfl
theorem q786 : (Jvm.Cond.sameField "UmbrellaHeir$Umbrella" "UmbrellaHeir$Named" "name" "Ljava/lang/String;") ∈ lw_all := lw_g (lw_at lw_m3 192 rfl) rfl
theorem q829 : (Jvm.Cond.instanceMethod ({ cls := "UmbrellaHeir$Umbrella", name := "<init>", desc := "(Ljava/lang/String;I)V" } : Jvm.MethodName)) ∈ lw_all := lw_g (lw_at lw_m3 235 rfl) rfl
theorem q830 : (Jvm.Cond.code ({ cls := "UmbrellaHeir$Umbrella", name := "<init>", desc := "(Ljava/lang/String;I)V" } : Jvm.MethodName) prog_24_method_1_code (3 : Nat) (Option.none : Option Jvm.ClassFile.FieldType)) ∈ lw_all := lw_g (lw_at lw_m3 236 rfl) rfl
theorem q831 : (Jvm.Cond.methodLink "UmbrellaHeir$Umbrella" (3 : Nat) ({ cls := "UmbrellaHeir$Named", name := "<init>", desc := "(Ljava/lang/String;I)V" } : Jvm.MethodName)) ∈ lw_all := lw_g (lw_at lw_m3 237 rfl) rfl
theorem q837 : (Jvm.Cond.fieldLink "UmbrellaHeir$Umbrella" (15 : Nat) "UmbrellaHeir$Umbrella" "ribs" "I") ∈ lw_all := lw_g (lw_at lw_m4 3 rfl) rfl
theorem q840 : (Jvm.Cond.fieldLink "UmbrellaHeir$Umbrella" (9 : Nat) "UmbrellaHeir$Umbrella" "holder" "I") ∈ lw_all := lw_g (lw_at lw_m4 6 rfl) rfl
theorem q844 : (Jvm.Cond.soleField "UmbrellaHeir$Umbrella" "lands") ∈ lw_all := lw_g (lw_at lw_m4 10 rfl) rfl
theorem q846 : (Jvm.Cond.soleField "UmbrellaHeir$Umbrella" "ribs") ∈ lw_all := lw_g (lw_at lw_m4 12 rfl) rfl
theorem q848 : (Jvm.Cond.soleField "UmbrellaHeir$Umbrella" "holder") ∈ lw_all := lw_g (lw_at lw_m4 14 rfl) rfl
theorem q1017 : (Jvm.Cond.instanceMethod ({ cls := "UmbrellaHeir$Umbrella", name := "isTitled", desc := "()Z" } : Jvm.MethodName)) ∈ lw_all := lw_g (lw_at lw_m4 183 rfl) rfl
theorem q1018 : (Jvm.Cond.sameMethod "UmbrellaHeir$Umbrella" "UmbrellaHeir$Umbrella" "isTitled" "()Z") ∈ lw_all := lw_g (lw_at lw_m4 184 rfl) rfl
theorem q1025 : (Jvm.Cond.code ({ cls := "UmbrellaHeir$Umbrella", name := "isTitled", desc := "()Z" } : Jvm.MethodName) prog_24_method_5_code (1 : Nat) (Option.some Jvm.ClassFile.FieldType.boolean)) ∈ lw_all := lw_g (lw_at lw_m4 191 rfl) rfl
theorem q1082 : (Jvm.Cond.instanceMethod ({ cls := "UmbrellaHeir$Umbrella", name := "passes", desc := "(Z)Z" } : Jvm.MethodName)) ∈ lw_all := lw_g (lw_at lw_m5 8 rfl) rfl
theorem q1083 : (Jvm.Cond.sameMethod "UmbrellaHeir$Umbrella" "UmbrellaHeir$Umbrella" "passes" "(Z)Z") ∈ lw_all := lw_g (lw_at lw_m5 9 rfl) rfl
theorem q1089 : (Jvm.Cond.code ({ cls := "UmbrellaHeir$Umbrella", name := "passes", desc := "(Z)Z" } : Jvm.MethodName) prog_24_method_3_code (2 : Nat) (Option.some Jvm.ClassFile.FieldType.boolean)) ∈ lw_all := lw_g (lw_at lw_m5 15 rfl) rfl
theorem q1095 : (Jvm.Cond.instanceMethod ({ cls := "UmbrellaHeir$Umbrella", name := "doesLapse", desc := "()Z" } : Jvm.MethodName)) ∈ lw_all := lw_g (lw_at lw_m5 21 rfl) rfl
theorem q1096 : (Jvm.Cond.sameMethod "UmbrellaHeir$Umbrella" "UmbrellaHeir$Umbrella" "doesLapse" "()Z") ∈ lw_all := lw_g (lw_at lw_m5 22 rfl) rfl
theorem q1103 : (Jvm.Cond.code ({ cls := "UmbrellaHeir$Umbrella", name := "doesLapse", desc := "()Z" } : Jvm.MethodName) prog_24_method_4_code (1 : Nat) (Option.some Jvm.ClassFile.FieldType.boolean)) ∈ lw_all := lw_g (lw_at lw_m5 29 rfl) rfl
theorem q1147 : (Jvm.Cond.declares ({ cls := "UmbrellaHeir$Umbrella", name := "kind", desc := "()I" } : Jvm.MethodName)) ∈ lw_tbl := lw_at lw_m5 73 rfl
theorem q1148 : (Jvm.Cond.sameMethod "UmbrellaHeir$Umbrella" "UmbrellaHeir$Umbrella" "kind" "()I") ∈ lw_all := lw_g (lw_at lw_m5 74 rfl) rfl
theorem q1313 : (Jvm.Cond.instanceMethod ({ cls := "UmbrellaHeir$Umbrella", name := "room", desc := "()I" } : Jvm.MethodName)) ∈ lw_all := lw_g (lw_at lw_m5 239 rfl) rfl
theorem q1314 : (Jvm.Cond.sameMethod "UmbrellaHeir$Umbrella" "UmbrellaHeir$Umbrella" "room" "()I") ∈ lw_all := lw_g (lw_at lw_m6 0 rfl) rfl
theorem q1319 : (Jvm.Cond.code ({ cls := "UmbrellaHeir$Umbrella", name := "room", desc := "()I" } : Jvm.MethodName) prog_24_method_7_code (1 : Nat) (Option.some Jvm.ClassFile.FieldType.int)) ∈ lw_all := lw_g (lw_at lw_m6 5 rfl) rfl
theorem q1383 : (Jvm.Cond.instanceMethod ({ cls := "UmbrellaHeir$Umbrella", name := "gust", desc := "(I)I" } : Jvm.MethodName)) ∈ lw_all := lw_g (lw_at lw_m6 69 rfl) rfl
theorem q1384 : (Jvm.Cond.sameMethod "UmbrellaHeir$Umbrella" "UmbrellaHeir$Umbrella" "gust" "(I)I") ∈ lw_all := lw_g (lw_at lw_m6 70 rfl) rfl
theorem q1391 : (Jvm.Cond.code ({ cls := "UmbrellaHeir$Umbrella", name := "gust", desc := "(I)I" } : Jvm.MethodName) prog_24_method_6_code (2 : Nat) (Option.some Jvm.ClassFile.FieldType.int)) ∈ lw_all := lw_g (lw_at lw_m6 77 rfl) rfl
/-! UmbrellaHeir$Silk -/
set_option maxRecDepth 100000
def RX16 : String := "UmbrellaHeir$Silk"
def TX16 : u_T := fun k => match k with
  | 0 => ("UmbrellaHeir$Umbrella", "lands", "I", false)
  | 1 => ("UmbrellaHeir$Umbrella", "ribs", "I", false)
  | 2 => ("UmbrellaHeir$Umbrella", "holder", "I", false)
  | 3 => ("UmbrellaHeir$Named", "name", "Ljava/lang/String;", true)
  | _ => ("UmbrellaHeir$Named", "number", "I", true)
def tyX16 : Nat → FieldType := fun k => match k with
  | 0 => .int
  | 1 => .int
  | 2 => .int
  | 3 => .object "java/lang/String"
  | _ => .int
abbrev wsX160 : List Cond := u_ws RX16 TX16 5
theorem nmX16 : ∀ a, a < 5 → ∀ b, b < 5 → a ≠ b → (TX16 a).2.1 ≠ (TX16 b).2.1 := by decide +kernel
theorem tyX16_ok : ∀ k, k < 5 → parseFieldDescriptor (TX16 k).2.2.1 = some (tyX16 k) := by decide +kernel
abbrev cX16_init : ByteArray := prog_22_method_1_code
def yX16_init : MethodName := ⟨RX16, "<init>", "(Ljava/lang/String;I)V"⟩
def dkwX16_init_0 : List UInt8 := [42, 43, 28, 183, 0, 1, 177]
abbrev dktX16_init_0 : List UInt8 := dkwX16_init_0 ++ []
theorem dksX16_init_0 : cX16_init.data.toList.drop 0 = dktX16_init_0 := by decide +kernel
theorem dX16_init_0 : decode cX16_init 0 = .ok (.aload_n 0, 1) := dk_42 (dk_at dksX16_init_0 0 rfl rfl)
theorem dX16_init_1 : decode cX16_init 1 = .ok (.aload_n 1, 1) := dk_43 (dk_at dksX16_init_0 1 rfl rfl)
theorem dX16_init_2 : decode cX16_init 2 = .ok (.iload_n 2, 1) := dk_28 (dk_at dksX16_init_0 2 rfl rfl)
theorem dX16_init_3 : decode cX16_init 3 = .ok (.invokespecial 1, 3) := dk_183 0 1 (dk_at dksX16_init_0 3 rfl rfl)
theorem dX16_init_6 : decode cX16_init 6 = .ok (.return_, 1) := dk_177 (dk_at dksX16_init_0 6 rfl rfl)
abbrev cX16_doesLapse : ByteArray := prog_22_method_3_code
def yX16_doesLapse : MethodName := ⟨RX16, "doesLapse", "()Z"⟩
theorem dX16_doesLapse_0 : decode cX16_doesLapse 0 = .ok (.iconst 0, 1) := by decide +kernel
theorem dX16_doesLapse_1 : decode cX16_doesLapse 1 = .ok (.ireturn, 1) := by decide +kernel
abbrev cX16_kind : ByteArray := prog_22_method_2_code
def yX16_kind : MethodName := ⟨RX16, "kind", "()I"⟩
theorem dX16_kind_0 : decode cX16_kind 0 = .ok (.iconst 0, 1) := by decide +kernel
theorem dX16_kind_1 : decode cX16_kind 1 = .ok (.ireturn, 1) := by decide +kernel
abbrev cX16_gust : ByteArray := prog_22_method_4_code
def yX16_gust : MethodName := ⟨RX16, "gust", "(I)I"⟩
def dkwX16_gust_0 : List UInt8 := [42, 27, 183, 0, 7, 5, 108, 172]
abbrev dktX16_gust_0 : List UInt8 := dkwX16_gust_0 ++ []
theorem dksX16_gust_0 : cX16_gust.data.toList.drop 0 = dktX16_gust_0 := by decide +kernel
theorem dX16_gust_0 : decode cX16_gust 0 = .ok (.aload_n 0, 1) := dk_42 (dk_at dksX16_gust_0 0 rfl rfl)
theorem dX16_gust_1 : decode cX16_gust 1 = .ok (.iload_n 1, 1) := dk_27 (dk_at dksX16_gust_0 1 rfl rfl)
theorem dX16_gust_2 : decode cX16_gust 2 = .ok (.invokespecial 7, 3) := dk_183 0 7 (dk_at dksX16_gust_0 2 rfl rfl)
theorem dX16_gust_5 : decode cX16_gust 5 = .ok (.iconst 2, 1) := dk_5 (dk_at dksX16_gust_0 5 rfl rfl)
theorem dX16_gust_6 : decode cX16_gust 6 = .ok (.idiv, 1) := dk_108 (dk_at dksX16_gust_0 6 rfl rfl)
theorem dX16_gust_7 : decode cX16_gust 7 = .ok (.ireturn, 1) := dk_172 (dk_at dksX16_gust_0 7 rfl rfl)
theorem q138 : (Jvm.Cond.initialized "UmbrellaHeir$Silk") ∈ lw_all := lw_g (lw_at lw_m1 24 rfl) rfl
theorem q824 : (Jvm.Cond.instantiable "UmbrellaHeir$Silk" (5 : Nat)) ∈ lw_all := lw_g (lw_at lw_m3 230 rfl) rfl
theorem q826 : (Jvm.Cond.instanceMethod ({ cls := "UmbrellaHeir$Silk", name := "<init>", desc := "(Ljava/lang/String;I)V" } : Jvm.MethodName)) ∈ lw_all := lw_g (lw_at lw_m3 232 rfl) rfl
theorem q827 : (Jvm.Cond.code ({ cls := "UmbrellaHeir$Silk", name := "<init>", desc := "(Ljava/lang/String;I)V" } : Jvm.MethodName) prog_22_method_1_code (3 : Nat) (Option.none : Option Jvm.ClassFile.FieldType)) ∈ lw_all := lw_g (lw_at lw_m3 233 rfl) rfl
theorem q828 : (Jvm.Cond.methodLink "UmbrellaHeir$Silk" (1 : Nat) ({ cls := "UmbrellaHeir$Umbrella", name := "<init>", desc := "(Ljava/lang/String;I)V" } : Jvm.MethodName)) ∈ lw_all := lw_g (lw_at lw_m3 234 rfl) rfl
theorem q843 : (Jvm.Cond.lays "UmbrellaHeir$Silk" "UmbrellaHeir$Umbrella" "lands" "I") ∈ lw_all := lw_g (lw_at lw_m4 9 rfl) rfl
theorem q845 : (Jvm.Cond.lays "UmbrellaHeir$Silk" "UmbrellaHeir$Umbrella" "ribs" "I") ∈ lw_all := lw_g (lw_at lw_m4 11 rfl) rfl
theorem q847 : (Jvm.Cond.lays "UmbrellaHeir$Silk" "UmbrellaHeir$Umbrella" "holder" "I") ∈ lw_all := lw_g (lw_at lw_m4 13 rfl) rfl
theorem q849 : (Jvm.Cond.laysFinal "UmbrellaHeir$Silk" "UmbrellaHeir$Named" "name" "Ljava/lang/String;") ∈ lw_all := lw_g (lw_at lw_m4 15 rfl) rfl
theorem q850 : (Jvm.Cond.laysFinal "UmbrellaHeir$Silk" "UmbrellaHeir$Named" "number" "I") ∈ lw_all := lw_g (lw_at lw_m4 16 rfl) rfl
theorem q851 : (Jvm.Cond.superclass "UmbrellaHeir$Silk" "UmbrellaHeir$Umbrella") ∈ lw_all := lw_g (lw_at lw_m4 17 rfl) rfl
theorem q1021 : (Jvm.Cond.selects "UmbrellaHeir$Silk" ({ cls := "UmbrellaHeir$Umbrella", name := "isTitled", desc := "()Z" } : Jvm.MethodName) ({ cls := "UmbrellaHeir$Umbrella", name := "isTitled", desc := "()Z" } : Jvm.MethodName)) ∈ lw_all := lw_g (lw_at lw_m4 187 rfl) rfl
theorem q1090 : (Jvm.Cond.selects "UmbrellaHeir$Silk" ({ cls := "UmbrellaHeir$Umbrella", name := "passes", desc := "(Z)Z" } : Jvm.MethodName) ({ cls := "UmbrellaHeir$Umbrella", name := "passes", desc := "(Z)Z" } : Jvm.MethodName)) ∈ lw_all := lw_g (lw_at lw_m5 16 rfl) rfl
theorem q1099 : (Jvm.Cond.selects "UmbrellaHeir$Silk" ({ cls := "UmbrellaHeir$Umbrella", name := "doesLapse", desc := "()Z" } : Jvm.MethodName) ({ cls := "UmbrellaHeir$Silk", name := "doesLapse", desc := "()Z" } : Jvm.MethodName)) ∈ lw_all := lw_g (lw_at lw_m5 25 rfl) rfl
theorem q1100 : (Jvm.Cond.instanceMethod ({ cls := "UmbrellaHeir$Silk", name := "doesLapse", desc := "()Z" } : Jvm.MethodName)) ∈ lw_all := lw_g (lw_at lw_m5 26 rfl) rfl
theorem q1101 : (Jvm.Cond.code ({ cls := "UmbrellaHeir$Silk", name := "doesLapse", desc := "()Z" } : Jvm.MethodName) prog_22_method_3_code (1 : Nat) (Option.some Jvm.ClassFile.FieldType.boolean)) ∈ lw_all := lw_g (lw_at lw_m5 27 rfl) rfl
theorem q1155 : (Jvm.Cond.selects "UmbrellaHeir$Silk" ({ cls := "UmbrellaHeir$Umbrella", name := "kind", desc := "()I" } : Jvm.MethodName) ({ cls := "UmbrellaHeir$Silk", name := "kind", desc := "()I" } : Jvm.MethodName)) ∈ lw_all := lw_g (lw_at lw_m5 81 rfl) rfl
theorem q1156 : (Jvm.Cond.instanceMethod ({ cls := "UmbrellaHeir$Silk", name := "kind", desc := "()I" } : Jvm.MethodName)) ∈ lw_all := lw_g (lw_at lw_m5 82 rfl) rfl
theorem q1157 : (Jvm.Cond.code ({ cls := "UmbrellaHeir$Silk", name := "kind", desc := "()I" } : Jvm.MethodName) prog_22_method_2_code (1 : Nat) (Option.some Jvm.ClassFile.FieldType.int)) ∈ lw_all := lw_g (lw_at lw_m5 83 rfl) rfl
theorem q1317 : (Jvm.Cond.selects "UmbrellaHeir$Silk" ({ cls := "UmbrellaHeir$Umbrella", name := "room", desc := "()I" } : Jvm.MethodName) ({ cls := "UmbrellaHeir$Umbrella", name := "room", desc := "()I" } : Jvm.MethodName)) ∈ lw_all := lw_g (lw_at lw_m6 3 rfl) rfl
theorem q1387 : (Jvm.Cond.selects "UmbrellaHeir$Silk" ({ cls := "UmbrellaHeir$Umbrella", name := "gust", desc := "(I)I" } : Jvm.MethodName) ({ cls := "UmbrellaHeir$Silk", name := "gust", desc := "(I)I" } : Jvm.MethodName)) ∈ lw_all := lw_g (lw_at lw_m6 73 rfl) rfl
theorem q1388 : (Jvm.Cond.instanceMethod ({ cls := "UmbrellaHeir$Silk", name := "gust", desc := "(I)I" } : Jvm.MethodName)) ∈ lw_all := lw_g (lw_at lw_m6 74 rfl) rfl
theorem q1389 : (Jvm.Cond.code ({ cls := "UmbrellaHeir$Silk", name := "gust", desc := "(I)I" } : Jvm.MethodName) prog_22_method_4_code (2 : Nat) (Option.some Jvm.ClassFile.FieldType.int)) ∈ lw_all := lw_g (lw_at lw_m6 75 rfl) rfl
theorem q1390 : (Jvm.Cond.methodLink "UmbrellaHeir$Silk" (7 : Nat) ({ cls := "UmbrellaHeir$Umbrella", name := "gust", desc := "(I)I" } : Jvm.MethodName)) ∈ lw_all := lw_g (lw_at lw_m6 76 rfl) rfl
theorem q2297 : (Jvm.Cond.castable "UmbrellaHeir$Silk" "UmbrellaHeir$Umbrella") ∈ lw_tbl := lw_at lw_m10 23 rfl
theorem q2313 : (Jvm.Cond.castable "UmbrellaHeir$Silk" "java/lang/Object") ∈ lw_tbl := lw_at lw_m10 39 rfl
theorem in_X16 : ∀ w ∈ wsX160, w ∈ lw_all := lw_in wsX160 [843, 845, 847, 849, 850] (by decide +kernel) (by decide +kernel)
/-! UmbrellaHeir$Cotton -/
set_option maxRecDepth 100000
def RX17 : String := "UmbrellaHeir$Cotton"
def TX17 : u_T := fun k => match k with
  | 0 => ("UmbrellaHeir$Umbrella", "lands", "I", false)
  | 1 => ("UmbrellaHeir$Umbrella", "ribs", "I", false)
  | 2 => ("UmbrellaHeir$Umbrella", "holder", "I", false)
  | 3 => ("UmbrellaHeir$Named", "name", "Ljava/lang/String;", true)
  | _ => ("UmbrellaHeir$Named", "number", "I", true)
def tyX17 : Nat → FieldType := fun k => match k with
  | 0 => .int
  | 1 => .int
  | 2 => .int
  | 3 => .object "java/lang/String"
  | _ => .int
abbrev wsX170 : List Cond := u_ws RX17 TX17 5
theorem nmX17 : ∀ a, a < 5 → ∀ b, b < 5 → a ≠ b → (TX17 a).2.1 ≠ (TX17 b).2.1 := by decide +kernel
theorem tyX17_ok : ∀ k, k < 5 → parseFieldDescriptor (TX17 k).2.2.1 = some (tyX17 k) := by decide +kernel
abbrev cX17_init : ByteArray := prog_6_method_1_code
def yX17_init : MethodName := ⟨RX17, "<init>", "(Ljava/lang/String;I)V"⟩
def dkwX17_init_0 : List UInt8 := [42, 43, 28, 183, 0, 1, 177]
abbrev dktX17_init_0 : List UInt8 := dkwX17_init_0 ++ []
theorem dksX17_init_0 : cX17_init.data.toList.drop 0 = dktX17_init_0 := by decide +kernel
theorem dX17_init_0 : decode cX17_init 0 = .ok (.aload_n 0, 1) := dk_42 (dk_at dksX17_init_0 0 rfl rfl)
theorem dX17_init_1 : decode cX17_init 1 = .ok (.aload_n 1, 1) := dk_43 (dk_at dksX17_init_0 1 rfl rfl)
theorem dX17_init_2 : decode cX17_init 2 = .ok (.iload_n 2, 1) := dk_28 (dk_at dksX17_init_0 2 rfl rfl)
theorem dX17_init_3 : decode cX17_init 3 = .ok (.invokespecial 1, 3) := dk_183 0 1 (dk_at dksX17_init_0 3 rfl rfl)
theorem dX17_init_6 : decode cX17_init 6 = .ok (.return_, 1) := dk_177 (dk_at dksX17_init_0 6 rfl rfl)
abbrev cX17_kind : ByteArray := prog_6_method_2_code
def yX17_kind : MethodName := ⟨RX17, "kind", "()I"⟩
theorem dX17_kind_0 : decode cX17_kind 0 = .ok (.iconst 1, 1) := by decide +kernel
theorem dX17_kind_1 : decode cX17_kind 1 = .ok (.ireturn, 1) := by decide +kernel
theorem q139 : (Jvm.Cond.initialized "UmbrellaHeir$Cotton") ∈ lw_all := lw_g (lw_at lw_m1 25 rfl) rfl
theorem q854 : (Jvm.Cond.instantiable "UmbrellaHeir$Cotton" (5 : Nat)) ∈ lw_all := lw_g (lw_at lw_m4 20 rfl) rfl
theorem q856 : (Jvm.Cond.instanceMethod ({ cls := "UmbrellaHeir$Cotton", name := "<init>", desc := "(Ljava/lang/String;I)V" } : Jvm.MethodName)) ∈ lw_all := lw_g (lw_at lw_m4 22 rfl) rfl
theorem q857 : (Jvm.Cond.code ({ cls := "UmbrellaHeir$Cotton", name := "<init>", desc := "(Ljava/lang/String;I)V" } : Jvm.MethodName) prog_6_method_1_code (3 : Nat) (Option.none : Option Jvm.ClassFile.FieldType)) ∈ lw_all := lw_g (lw_at lw_m4 23 rfl) rfl
theorem q858 : (Jvm.Cond.methodLink "UmbrellaHeir$Cotton" (1 : Nat) ({ cls := "UmbrellaHeir$Umbrella", name := "<init>", desc := "(Ljava/lang/String;I)V" } : Jvm.MethodName)) ∈ lw_all := lw_g (lw_at lw_m4 24 rfl) rfl
theorem q859 : (Jvm.Cond.lays "UmbrellaHeir$Cotton" "UmbrellaHeir$Umbrella" "lands" "I") ∈ lw_all := lw_g (lw_at lw_m4 25 rfl) rfl
theorem q860 : (Jvm.Cond.lays "UmbrellaHeir$Cotton" "UmbrellaHeir$Umbrella" "ribs" "I") ∈ lw_all := lw_g (lw_at lw_m4 26 rfl) rfl
theorem q861 : (Jvm.Cond.lays "UmbrellaHeir$Cotton" "UmbrellaHeir$Umbrella" "holder" "I") ∈ lw_all := lw_g (lw_at lw_m4 27 rfl) rfl
theorem q862 : (Jvm.Cond.laysFinal "UmbrellaHeir$Cotton" "UmbrellaHeir$Named" "name" "Ljava/lang/String;") ∈ lw_all := lw_g (lw_at lw_m4 28 rfl) rfl
theorem q863 : (Jvm.Cond.laysFinal "UmbrellaHeir$Cotton" "UmbrellaHeir$Named" "number" "I") ∈ lw_all := lw_g (lw_at lw_m4 29 rfl) rfl
theorem q864 : (Jvm.Cond.superclass "UmbrellaHeir$Cotton" "UmbrellaHeir$Umbrella") ∈ lw_all := lw_g (lw_at lw_m4 30 rfl) rfl
theorem q1019 : (Jvm.Cond.selects "UmbrellaHeir$Cotton" ({ cls := "UmbrellaHeir$Umbrella", name := "isTitled", desc := "()Z" } : Jvm.MethodName) ({ cls := "UmbrellaHeir$Umbrella", name := "isTitled", desc := "()Z" } : Jvm.MethodName)) ∈ lw_all := lw_g (lw_at lw_m4 185 rfl) rfl
theorem q1084 : (Jvm.Cond.selects "UmbrellaHeir$Cotton" ({ cls := "UmbrellaHeir$Umbrella", name := "passes", desc := "(Z)Z" } : Jvm.MethodName) ({ cls := "UmbrellaHeir$Umbrella", name := "passes", desc := "(Z)Z" } : Jvm.MethodName)) ∈ lw_all := lw_g (lw_at lw_m5 10 rfl) rfl
theorem q1097 : (Jvm.Cond.selects "UmbrellaHeir$Cotton" ({ cls := "UmbrellaHeir$Umbrella", name := "doesLapse", desc := "()Z" } : Jvm.MethodName) ({ cls := "UmbrellaHeir$Umbrella", name := "doesLapse", desc := "()Z" } : Jvm.MethodName)) ∈ lw_all := lw_g (lw_at lw_m5 23 rfl) rfl
theorem q1149 : (Jvm.Cond.selects "UmbrellaHeir$Cotton" ({ cls := "UmbrellaHeir$Umbrella", name := "kind", desc := "()I" } : Jvm.MethodName) ({ cls := "UmbrellaHeir$Cotton", name := "kind", desc := "()I" } : Jvm.MethodName)) ∈ lw_all := lw_g (lw_at lw_m5 75 rfl) rfl
theorem q1150 : (Jvm.Cond.instanceMethod ({ cls := "UmbrellaHeir$Cotton", name := "kind", desc := "()I" } : Jvm.MethodName)) ∈ lw_all := lw_g (lw_at lw_m5 76 rfl) rfl
theorem q1151 : (Jvm.Cond.code ({ cls := "UmbrellaHeir$Cotton", name := "kind", desc := "()I" } : Jvm.MethodName) prog_6_method_2_code (1 : Nat) (Option.some Jvm.ClassFile.FieldType.int)) ∈ lw_all := lw_g (lw_at lw_m5 77 rfl) rfl
theorem q1315 : (Jvm.Cond.selects "UmbrellaHeir$Cotton" ({ cls := "UmbrellaHeir$Umbrella", name := "room", desc := "()I" } : Jvm.MethodName) ({ cls := "UmbrellaHeir$Umbrella", name := "room", desc := "()I" } : Jvm.MethodName)) ∈ lw_all := lw_g (lw_at lw_m6 1 rfl) rfl
theorem q1385 : (Jvm.Cond.selects "UmbrellaHeir$Cotton" ({ cls := "UmbrellaHeir$Umbrella", name := "gust", desc := "(I)I" } : Jvm.MethodName) ({ cls := "UmbrellaHeir$Umbrella", name := "gust", desc := "(I)I" } : Jvm.MethodName)) ∈ lw_all := lw_g (lw_at lw_m6 71 rfl) rfl
theorem q2295 : (Jvm.Cond.castable "UmbrellaHeir$Cotton" "UmbrellaHeir$Umbrella") ∈ lw_tbl := lw_at lw_m10 21 rfl
theorem q2314 : (Jvm.Cond.castable "UmbrellaHeir$Cotton" "java/lang/Object") ∈ lw_tbl := lw_at lw_m10 40 rfl
theorem in_X17 : ∀ w ∈ wsX170, w ∈ lw_all := lw_in wsX170 [859, 860, 861, 862, 863] (by decide +kernel) (by decide +kernel)
/-! UmbrellaHeir$Stick -/
set_option maxRecDepth 100000
def RX18 : String := "UmbrellaHeir$Stick"
def TX18 : u_T := fun k => match k with
  | 0 => ("UmbrellaHeir$Umbrella", "lands", "I", false)
  | 1 => ("UmbrellaHeir$Umbrella", "ribs", "I", false)
  | 2 => ("UmbrellaHeir$Umbrella", "holder", "I", false)
  | 3 => ("UmbrellaHeir$Named", "name", "Ljava/lang/String;", true)
  | _ => ("UmbrellaHeir$Named", "number", "I", true)
def tyX18 : Nat → FieldType := fun k => match k with
  | 0 => .int
  | 1 => .int
  | 2 => .int
  | 3 => .object "java/lang/String"
  | _ => .int
abbrev wsX180 : List Cond := u_ws RX18 TX18 5
theorem nmX18 : ∀ a, a < 5 → ∀ b, b < 5 → a ≠ b → (TX18 a).2.1 ≠ (TX18 b).2.1 := by decide +kernel
theorem tyX18_ok : ∀ k, k < 5 → parseFieldDescriptor (TX18 k).2.2.1 = some (tyX18 k) := by decide +kernel
abbrev cX18_init : ByteArray := prog_23_method_1_code
def yX18_init : MethodName := ⟨RX18, "<init>", "(Ljava/lang/String;I)V"⟩
def dkwX18_init_0 : List UInt8 := [42, 43, 28, 183, 0, 1, 177]
abbrev dktX18_init_0 : List UInt8 := dkwX18_init_0 ++ []
theorem dksX18_init_0 : cX18_init.data.toList.drop 0 = dktX18_init_0 := by decide +kernel
theorem dX18_init_0 : decode cX18_init 0 = .ok (.aload_n 0, 1) := dk_42 (dk_at dksX18_init_0 0 rfl rfl)
theorem dX18_init_1 : decode cX18_init 1 = .ok (.aload_n 1, 1) := dk_43 (dk_at dksX18_init_0 1 rfl rfl)
theorem dX18_init_2 : decode cX18_init 2 = .ok (.iload_n 2, 1) := dk_28 (dk_at dksX18_init_0 2 rfl rfl)
theorem dX18_init_3 : decode cX18_init 3 = .ok (.invokespecial 1, 3) := dk_183 0 1 (dk_at dksX18_init_0 3 rfl rfl)
theorem dX18_init_6 : decode cX18_init 6 = .ok (.return_, 1) := dk_177 (dk_at dksX18_init_0 6 rfl rfl)
abbrev cX18_isTitled : ByteArray := prog_23_method_4_code
def yX18_isTitled : MethodName := ⟨RX18, "isTitled", "()Z"⟩
theorem dX18_isTitled_0 : decode cX18_isTitled 0 = .ok (.iconst 0, 1) := by decide +kernel
theorem dX18_isTitled_1 : decode cX18_isTitled 1 = .ok (.ireturn, 1) := by decide +kernel
abbrev cX18_passes : ByteArray := prog_23_method_3_code
def yX18_passes : MethodName := ⟨RX18, "passes", "(Z)Z"⟩
theorem dX18_passes_0 : decode cX18_passes 0 = .ok (.iconst 0, 1) := by decide +kernel
theorem dX18_passes_1 : decode cX18_passes 1 = .ok (.ireturn, 1) := by decide +kernel
abbrev cX18_kind : ByteArray := prog_23_method_2_code
def yX18_kind : MethodName := ⟨RX18, "kind", "()I"⟩
theorem dX18_kind_0 : decode cX18_kind 0 = .ok (.iconst 2, 1) := by decide +kernel
theorem dX18_kind_1 : decode cX18_kind 1 = .ok (.ireturn, 1) := by decide +kernel
theorem q140 : (Jvm.Cond.initialized "UmbrellaHeir$Stick") ∈ lw_all := lw_g (lw_at lw_m1 26 rfl) rfl
theorem q867 : (Jvm.Cond.instantiable "UmbrellaHeir$Stick" (5 : Nat)) ∈ lw_all := lw_g (lw_at lw_m4 33 rfl) rfl
theorem q869 : (Jvm.Cond.instanceMethod ({ cls := "UmbrellaHeir$Stick", name := "<init>", desc := "(Ljava/lang/String;I)V" } : Jvm.MethodName)) ∈ lw_all := lw_g (lw_at lw_m4 35 rfl) rfl
theorem q870 : (Jvm.Cond.code ({ cls := "UmbrellaHeir$Stick", name := "<init>", desc := "(Ljava/lang/String;I)V" } : Jvm.MethodName) prog_23_method_1_code (3 : Nat) (Option.none : Option Jvm.ClassFile.FieldType)) ∈ lw_all := lw_g (lw_at lw_m4 36 rfl) rfl
theorem q871 : (Jvm.Cond.methodLink "UmbrellaHeir$Stick" (1 : Nat) ({ cls := "UmbrellaHeir$Umbrella", name := "<init>", desc := "(Ljava/lang/String;I)V" } : Jvm.MethodName)) ∈ lw_all := lw_g (lw_at lw_m4 37 rfl) rfl
theorem q872 : (Jvm.Cond.lays "UmbrellaHeir$Stick" "UmbrellaHeir$Umbrella" "lands" "I") ∈ lw_all := lw_g (lw_at lw_m4 38 rfl) rfl
theorem q873 : (Jvm.Cond.lays "UmbrellaHeir$Stick" "UmbrellaHeir$Umbrella" "ribs" "I") ∈ lw_all := lw_g (lw_at lw_m4 39 rfl) rfl
theorem q874 : (Jvm.Cond.lays "UmbrellaHeir$Stick" "UmbrellaHeir$Umbrella" "holder" "I") ∈ lw_all := lw_g (lw_at lw_m4 40 rfl) rfl
theorem q875 : (Jvm.Cond.laysFinal "UmbrellaHeir$Stick" "UmbrellaHeir$Named" "name" "Ljava/lang/String;") ∈ lw_all := lw_g (lw_at lw_m4 41 rfl) rfl
theorem q876 : (Jvm.Cond.laysFinal "UmbrellaHeir$Stick" "UmbrellaHeir$Named" "number" "I") ∈ lw_all := lw_g (lw_at lw_m4 42 rfl) rfl
theorem q877 : (Jvm.Cond.superclass "UmbrellaHeir$Stick" "UmbrellaHeir$Umbrella") ∈ lw_all := lw_g (lw_at lw_m4 43 rfl) rfl
theorem q1022 : (Jvm.Cond.selects "UmbrellaHeir$Stick" ({ cls := "UmbrellaHeir$Umbrella", name := "isTitled", desc := "()Z" } : Jvm.MethodName) ({ cls := "UmbrellaHeir$Stick", name := "isTitled", desc := "()Z" } : Jvm.MethodName)) ∈ lw_all := lw_g (lw_at lw_m4 188 rfl) rfl
theorem q1023 : (Jvm.Cond.instanceMethod ({ cls := "UmbrellaHeir$Stick", name := "isTitled", desc := "()Z" } : Jvm.MethodName)) ∈ lw_all := lw_g (lw_at lw_m4 189 rfl) rfl
theorem q1024 : (Jvm.Cond.code ({ cls := "UmbrellaHeir$Stick", name := "isTitled", desc := "()Z" } : Jvm.MethodName) prog_23_method_4_code (1 : Nat) (Option.some Jvm.ClassFile.FieldType.boolean)) ∈ lw_all := lw_g (lw_at lw_m4 190 rfl) rfl
theorem q1091 : (Jvm.Cond.selects "UmbrellaHeir$Stick" ({ cls := "UmbrellaHeir$Umbrella", name := "passes", desc := "(Z)Z" } : Jvm.MethodName) ({ cls := "UmbrellaHeir$Stick", name := "passes", desc := "(Z)Z" } : Jvm.MethodName)) ∈ lw_all := lw_g (lw_at lw_m5 17 rfl) rfl
theorem q1092 : (Jvm.Cond.instanceMethod ({ cls := "UmbrellaHeir$Stick", name := "passes", desc := "(Z)Z" } : Jvm.MethodName)) ∈ lw_all := lw_g (lw_at lw_m5 18 rfl) rfl
theorem q1093 : (Jvm.Cond.code ({ cls := "UmbrellaHeir$Stick", name := "passes", desc := "(Z)Z" } : Jvm.MethodName) prog_23_method_3_code (2 : Nat) (Option.some Jvm.ClassFile.FieldType.boolean)) ∈ lw_all := lw_g (lw_at lw_m5 19 rfl) rfl
theorem q1102 : (Jvm.Cond.selects "UmbrellaHeir$Stick" ({ cls := "UmbrellaHeir$Umbrella", name := "doesLapse", desc := "()Z" } : Jvm.MethodName) ({ cls := "UmbrellaHeir$Umbrella", name := "doesLapse", desc := "()Z" } : Jvm.MethodName)) ∈ lw_all := lw_g (lw_at lw_m5 28 rfl) rfl
theorem q1158 : (Jvm.Cond.selects "UmbrellaHeir$Stick" ({ cls := "UmbrellaHeir$Umbrella", name := "kind", desc := "()I" } : Jvm.MethodName) ({ cls := "UmbrellaHeir$Stick", name := "kind", desc := "()I" } : Jvm.MethodName)) ∈ lw_all := lw_g (lw_at lw_m5 84 rfl) rfl
theorem q1159 : (Jvm.Cond.instanceMethod ({ cls := "UmbrellaHeir$Stick", name := "kind", desc := "()I" } : Jvm.MethodName)) ∈ lw_all := lw_g (lw_at lw_m5 85 rfl) rfl
theorem q1160 : (Jvm.Cond.code ({ cls := "UmbrellaHeir$Stick", name := "kind", desc := "()I" } : Jvm.MethodName) prog_23_method_2_code (1 : Nat) (Option.some Jvm.ClassFile.FieldType.int)) ∈ lw_all := lw_g (lw_at lw_m5 86 rfl) rfl
theorem q1318 : (Jvm.Cond.selects "UmbrellaHeir$Stick" ({ cls := "UmbrellaHeir$Umbrella", name := "room", desc := "()I" } : Jvm.MethodName) ({ cls := "UmbrellaHeir$Umbrella", name := "room", desc := "()I" } : Jvm.MethodName)) ∈ lw_all := lw_g (lw_at lw_m6 4 rfl) rfl
theorem q1392 : (Jvm.Cond.selects "UmbrellaHeir$Stick" ({ cls := "UmbrellaHeir$Umbrella", name := "gust", desc := "(I)I" } : Jvm.MethodName) ({ cls := "UmbrellaHeir$Umbrella", name := "gust", desc := "(I)I" } : Jvm.MethodName)) ∈ lw_all := lw_g (lw_at lw_m6 78 rfl) rfl
theorem q2298 : (Jvm.Cond.castable "UmbrellaHeir$Stick" "UmbrellaHeir$Umbrella") ∈ lw_tbl := lw_at lw_m10 24 rfl
theorem q2315 : (Jvm.Cond.castable "UmbrellaHeir$Stick" "java/lang/Object") ∈ lw_tbl := lw_at lw_m10 41 rfl
theorem in_X18 : ∀ w ∈ wsX180, w ∈ lw_all := lw_in wsX180 [872, 873, 874, 875, 876] (by decide +kernel) (by decide +kernel)
/-! UmbrellaHeir$Parasol -/
set_option maxRecDepth 100000
def RX19 : String := "UmbrellaHeir$Parasol"
def TX19 : u_T := fun k => match k with
  | 0 => ("UmbrellaHeir$Umbrella", "lands", "I", false)
  | 1 => ("UmbrellaHeir$Umbrella", "ribs", "I", false)
  | 2 => ("UmbrellaHeir$Umbrella", "holder", "I", false)
  | 3 => ("UmbrellaHeir$Named", "name", "Ljava/lang/String;", true)
  | _ => ("UmbrellaHeir$Named", "number", "I", true)
def tyX19 : Nat → FieldType := fun k => match k with
  | 0 => .int
  | 1 => .int
  | 2 => .int
  | 3 => .object "java/lang/String"
  | _ => .int
abbrev wsX190 : List Cond := u_ws RX19 TX19 5
theorem nmX19 : ∀ a, a < 5 → ∀ b, b < 5 → a ≠ b → (TX19 a).2.1 ≠ (TX19 b).2.1 := by decide +kernel
theorem tyX19_ok : ∀ k, k < 5 → parseFieldDescriptor (TX19 k).2.2.1 = some (tyX19 k) := by decide +kernel
abbrev cX19_init : ByteArray := prog_14_method_1_code
def yX19_init : MethodName := ⟨RX19, "<init>", "(Ljava/lang/String;I)V"⟩
def dkwX19_init_0 : List UInt8 := [42, 43, 28, 183, 0, 1, 177]
abbrev dktX19_init_0 : List UInt8 := dkwX19_init_0 ++ []
theorem dksX19_init_0 : cX19_init.data.toList.drop 0 = dktX19_init_0 := by decide +kernel
theorem dX19_init_0 : decode cX19_init 0 = .ok (.aload_n 0, 1) := dk_42 (dk_at dksX19_init_0 0 rfl rfl)
theorem dX19_init_1 : decode cX19_init 1 = .ok (.aload_n 1, 1) := dk_43 (dk_at dksX19_init_0 1 rfl rfl)
theorem dX19_init_2 : decode cX19_init 2 = .ok (.iload_n 2, 1) := dk_28 (dk_at dksX19_init_0 2 rfl rfl)
theorem dX19_init_3 : decode cX19_init 3 = .ok (.invokespecial 1, 3) := dk_183 0 1 (dk_at dksX19_init_0 3 rfl rfl)
theorem dX19_init_6 : decode cX19_init 6 = .ok (.return_, 1) := dk_177 (dk_at dksX19_init_0 6 rfl rfl)
abbrev cX19_passes : ByteArray := prog_14_method_3_code
def yX19_passes : MethodName := ⟨RX19, "passes", "(Z)Z"⟩
def dkwX19_passes_0 : List UInt8 := [42, 27, 183, 0, 7, 154, 0, 7, 4, 167, 0, 4, 3, 172]
abbrev dktX19_passes_0 : List UInt8 := dkwX19_passes_0 ++ []
theorem dksX19_passes_0 : cX19_passes.data.toList.drop 0 = dktX19_passes_0 := by decide +kernel
theorem dX19_passes_0 : decode cX19_passes 0 = .ok (.aload_n 0, 1) := dk_42 (dk_at dksX19_passes_0 0 rfl rfl)
theorem dX19_passes_1 : decode cX19_passes 1 = .ok (.iload_n 1, 1) := dk_27 (dk_at dksX19_passes_0 1 rfl rfl)
theorem dX19_passes_2 : decode cX19_passes 2 = .ok (.invokespecial 7, 3) := dk_183 0 7 (dk_at dksX19_passes_0 2 rfl rfl)
theorem dX19_passes_5 : decode cX19_passes 5 = .ok (.ifCond .ne 7, 3) := dk_154 0 7 (dk_at dksX19_passes_0 5 rfl rfl)
theorem dX19_passes_8 : decode cX19_passes 8 = .ok (.iconst 1, 1) := dk_4 (dk_at dksX19_passes_0 8 rfl rfl)
theorem dX19_passes_9 : decode cX19_passes 9 = .ok (.goto 4, 3) := dk_167 0 4 (dk_at dksX19_passes_0 9 rfl rfl)
theorem dX19_passes_12 : decode cX19_passes 12 = .ok (.iconst 0, 1) := dk_3 (dk_at dksX19_passes_0 12 rfl rfl)
theorem dX19_passes_13 : decode cX19_passes 13 = .ok (.ireturn, 1) := dk_172 (dk_at dksX19_passes_0 13 rfl rfl)
abbrev cX19_kind : ByteArray := prog_14_method_2_code
def yX19_kind : MethodName := ⟨RX19, "kind", "()I"⟩
theorem dX19_kind_0 : decode cX19_kind 0 = .ok (.iconst 3, 1) := by decide +kernel
theorem dX19_kind_1 : decode cX19_kind 1 = .ok (.ireturn, 1) := by decide +kernel
theorem q141 : (Jvm.Cond.initialized "UmbrellaHeir$Parasol") ∈ lw_all := lw_g (lw_at lw_m1 27 rfl) rfl
theorem q880 : (Jvm.Cond.instantiable "UmbrellaHeir$Parasol" (5 : Nat)) ∈ lw_all := lw_g (lw_at lw_m4 46 rfl) rfl
theorem q882 : (Jvm.Cond.instanceMethod ({ cls := "UmbrellaHeir$Parasol", name := "<init>", desc := "(Ljava/lang/String;I)V" } : Jvm.MethodName)) ∈ lw_all := lw_g (lw_at lw_m4 48 rfl) rfl
theorem q883 : (Jvm.Cond.code ({ cls := "UmbrellaHeir$Parasol", name := "<init>", desc := "(Ljava/lang/String;I)V" } : Jvm.MethodName) prog_14_method_1_code (3 : Nat) (Option.none : Option Jvm.ClassFile.FieldType)) ∈ lw_all := lw_g (lw_at lw_m4 49 rfl) rfl
theorem q884 : (Jvm.Cond.methodLink "UmbrellaHeir$Parasol" (1 : Nat) ({ cls := "UmbrellaHeir$Umbrella", name := "<init>", desc := "(Ljava/lang/String;I)V" } : Jvm.MethodName)) ∈ lw_all := lw_g (lw_at lw_m4 50 rfl) rfl
theorem q885 : (Jvm.Cond.lays "UmbrellaHeir$Parasol" "UmbrellaHeir$Umbrella" "lands" "I") ∈ lw_all := lw_g (lw_at lw_m4 51 rfl) rfl
theorem q886 : (Jvm.Cond.lays "UmbrellaHeir$Parasol" "UmbrellaHeir$Umbrella" "ribs" "I") ∈ lw_all := lw_g (lw_at lw_m4 52 rfl) rfl
theorem q887 : (Jvm.Cond.lays "UmbrellaHeir$Parasol" "UmbrellaHeir$Umbrella" "holder" "I") ∈ lw_all := lw_g (lw_at lw_m4 53 rfl) rfl
theorem q888 : (Jvm.Cond.laysFinal "UmbrellaHeir$Parasol" "UmbrellaHeir$Named" "name" "Ljava/lang/String;") ∈ lw_all := lw_g (lw_at lw_m4 54 rfl) rfl
theorem q889 : (Jvm.Cond.laysFinal "UmbrellaHeir$Parasol" "UmbrellaHeir$Named" "number" "I") ∈ lw_all := lw_g (lw_at lw_m4 55 rfl) rfl
theorem q890 : (Jvm.Cond.superclass "UmbrellaHeir$Parasol" "UmbrellaHeir$Umbrella") ∈ lw_all := lw_g (lw_at lw_m4 56 rfl) rfl
theorem q1020 : (Jvm.Cond.selects "UmbrellaHeir$Parasol" ({ cls := "UmbrellaHeir$Umbrella", name := "isTitled", desc := "()Z" } : Jvm.MethodName) ({ cls := "UmbrellaHeir$Umbrella", name := "isTitled", desc := "()Z" } : Jvm.MethodName)) ∈ lw_all := lw_g (lw_at lw_m4 186 rfl) rfl
theorem q1085 : (Jvm.Cond.selects "UmbrellaHeir$Parasol" ({ cls := "UmbrellaHeir$Umbrella", name := "passes", desc := "(Z)Z" } : Jvm.MethodName) ({ cls := "UmbrellaHeir$Parasol", name := "passes", desc := "(Z)Z" } : Jvm.MethodName)) ∈ lw_all := lw_g (lw_at lw_m5 11 rfl) rfl
theorem q1086 : (Jvm.Cond.instanceMethod ({ cls := "UmbrellaHeir$Parasol", name := "passes", desc := "(Z)Z" } : Jvm.MethodName)) ∈ lw_all := lw_g (lw_at lw_m5 12 rfl) rfl
theorem q1087 : (Jvm.Cond.code ({ cls := "UmbrellaHeir$Parasol", name := "passes", desc := "(Z)Z" } : Jvm.MethodName) prog_14_method_3_code (2 : Nat) (Option.some Jvm.ClassFile.FieldType.boolean)) ∈ lw_all := lw_g (lw_at lw_m5 13 rfl) rfl
theorem q1088 : (Jvm.Cond.methodLink "UmbrellaHeir$Parasol" (7 : Nat) ({ cls := "UmbrellaHeir$Umbrella", name := "passes", desc := "(Z)Z" } : Jvm.MethodName)) ∈ lw_all := lw_g (lw_at lw_m5 14 rfl) rfl
theorem q1098 : (Jvm.Cond.selects "UmbrellaHeir$Parasol" ({ cls := "UmbrellaHeir$Umbrella", name := "doesLapse", desc := "()Z" } : Jvm.MethodName) ({ cls := "UmbrellaHeir$Umbrella", name := "doesLapse", desc := "()Z" } : Jvm.MethodName)) ∈ lw_all := lw_g (lw_at lw_m5 24 rfl) rfl
theorem q1152 : (Jvm.Cond.selects "UmbrellaHeir$Parasol" ({ cls := "UmbrellaHeir$Umbrella", name := "kind", desc := "()I" } : Jvm.MethodName) ({ cls := "UmbrellaHeir$Parasol", name := "kind", desc := "()I" } : Jvm.MethodName)) ∈ lw_all := lw_g (lw_at lw_m5 78 rfl) rfl
theorem q1153 : (Jvm.Cond.instanceMethod ({ cls := "UmbrellaHeir$Parasol", name := "kind", desc := "()I" } : Jvm.MethodName)) ∈ lw_all := lw_g (lw_at lw_m5 79 rfl) rfl
theorem q1154 : (Jvm.Cond.code ({ cls := "UmbrellaHeir$Parasol", name := "kind", desc := "()I" } : Jvm.MethodName) prog_14_method_2_code (1 : Nat) (Option.some Jvm.ClassFile.FieldType.int)) ∈ lw_all := lw_g (lw_at lw_m5 80 rfl) rfl
theorem q1316 : (Jvm.Cond.selects "UmbrellaHeir$Parasol" ({ cls := "UmbrellaHeir$Umbrella", name := "room", desc := "()I" } : Jvm.MethodName) ({ cls := "UmbrellaHeir$Umbrella", name := "room", desc := "()I" } : Jvm.MethodName)) ∈ lw_all := lw_g (lw_at lw_m6 2 rfl) rfl
theorem q1386 : (Jvm.Cond.selects "UmbrellaHeir$Parasol" ({ cls := "UmbrellaHeir$Umbrella", name := "gust", desc := "(I)I" } : Jvm.MethodName) ({ cls := "UmbrellaHeir$Umbrella", name := "gust", desc := "(I)I" } : Jvm.MethodName)) ∈ lw_all := lw_g (lw_at lw_m6 72 rfl) rfl
theorem q2296 : (Jvm.Cond.castable "UmbrellaHeir$Parasol" "UmbrellaHeir$Umbrella") ∈ lw_tbl := lw_at lw_m10 22 rfl
theorem q2316 : (Jvm.Cond.castable "UmbrellaHeir$Parasol" "java/lang/Object") ∈ lw_tbl := lw_at lw_m10 42 rfl
theorem in_X19 : ∀ w ∈ wsX190, w ∈ lw_all := lw_in wsX190 [885, 886, 887, 888, 889] (by decide +kernel) (by decide +kernel)
/-! UmbrellaHeir$Event -/
set_option maxRecDepth 100000
def RX20 : String := "UmbrellaHeir$Event"
abbrev cX20_init : ByteArray := prog_9_method_1_code
def yX20_init : MethodName := ⟨RX20, "<init>", "(I)V"⟩
def dkwX20_init_0 : List UInt8 := [42, 183, 0, 1, 42, 27, 181, 0, 7, 177]
abbrev dktX20_init_0 : List UInt8 := dkwX20_init_0 ++ []
theorem dksX20_init_0 : cX20_init.data.toList.drop 0 = dktX20_init_0 := by decide +kernel
theorem dX20_init_0 : decode cX20_init 0 = .ok (.aload_n 0, 1) := dk_42 (dk_at dksX20_init_0 0 rfl rfl)
theorem dX20_init_1 : decode cX20_init 1 = .ok (.invokespecial 1, 3) := dk_183 0 1 (dk_at dksX20_init_0 1 rfl rfl)
theorem dX20_init_4 : decode cX20_init 4 = .ok (.aload_n 0, 1) := dk_42 (dk_at dksX20_init_0 4 rfl rfl)
theorem dX20_init_5 : decode cX20_init 5 = .ok (.iload_n 1, 1) := dk_27 (dk_at dksX20_init_0 5 rfl rfl)
theorem dX20_init_6 : decode cX20_init 6 = .ok (.putfield 7, 3) := dk_181 0 7 (dk_at dksX20_init_0 6 rfl rfl)
theorem dX20_init_9 : decode cX20_init 9 = .ok (.return_, 1) := dk_177 (dk_at dksX20_init_0 9 rfl rfl)
abbrev cX20_isRain : ByteArray := prog_9_method_3_code
def yX20_isRain : MethodName := ⟨RX20, "isRain", "()Z"⟩
theorem dX20_isRain_0 : decode cX20_isRain 0 = .ok (.iconst 0, 1) := by decide +kernel
theorem dX20_isRain_1 : decode cX20_isRain 1 = .ok (.ireturn, 1) := by decide +kernel
theorem q142 : (Jvm.Cond.initialized "UmbrellaHeir$Event") ∈ lw_all := lw_g (lw_at lw_m1 28 rfl) rfl
theorem q922 : (Jvm.Cond.instanceMethod ({ cls := "UmbrellaHeir$Event", name := "<init>", desc := "(I)V" } : Jvm.MethodName)) ∈ lw_all := lw_g (lw_at lw_m4 88 rfl) rfl
theorem q923 : (Jvm.Cond.code ({ cls := "UmbrellaHeir$Event", name := "<init>", desc := "(I)V" } : Jvm.MethodName) prog_9_method_1_code (2 : Nat) (Option.none : Option Jvm.ClassFile.FieldType)) ∈ lw_all := lw_g (lw_at lw_m4 89 rfl) rfl
theorem q924 : (Jvm.Cond.methodLink "UmbrellaHeir$Event" (1 : Nat) ({ cls := "java/lang/Object", name := "<init>", desc := "()V" } : Jvm.MethodName)) ∈ lw_all := lw_g (lw_at lw_m4 90 rfl) rfl
theorem q926 : (Jvm.Cond.fieldLink "UmbrellaHeir$Event" (7 : Nat) "UmbrellaHeir$Event" "umbrella" "I") ∈ lw_all := lw_g (lw_at lw_m4 92 rfl) rfl
theorem q938 : (Jvm.Cond.soleField "UmbrellaHeir$Event" "umbrella") ∈ lw_all := lw_g (lw_at lw_m4 104 rfl) rfl
theorem q940 : (Jvm.Cond.soleField "UmbrellaHeir$Event" "day") ∈ lw_all := lw_g (lw_at lw_m4 106 rfl) rfl
theorem q1049 : (Jvm.Cond.declares ({ cls := "UmbrellaHeir$Event", name := "happens", desc := "(LUmbrellaHeir$Hall;)V" } : Jvm.MethodName)) ∈ lw_tbl := lw_at lw_m4 215 rfl
theorem q1050 : (Jvm.Cond.sameMethod "UmbrellaHeir$Event" "UmbrellaHeir$Event" "happens" "(LUmbrellaHeir$Hall;)V") ∈ lw_all := lw_g (lw_at lw_m4 216 rfl) rfl
theorem q1065 : (Jvm.Cond.instanceMethod ({ cls := "UmbrellaHeir$Event", name := "isRain", desc := "()Z" } : Jvm.MethodName)) ∈ lw_all := lw_g (lw_at lw_m4 231 rfl) rfl
theorem q1066 : (Jvm.Cond.sameMethod "UmbrellaHeir$Event" "UmbrellaHeir$Event" "isRain" "()Z") ∈ lw_all := lw_g (lw_at lw_m4 232 rfl) rfl
theorem q1073 : (Jvm.Cond.code ({ cls := "UmbrellaHeir$Event", name := "isRain", desc := "()Z" } : Jvm.MethodName) prog_9_method_3_code (1 : Nat) (Option.some Jvm.ClassFile.FieldType.boolean)) ∈ lw_all := lw_g (lw_at lw_m4 239 rfl) rfl
/-! UmbrellaHeir$Lent -/
set_option maxRecDepth 100000
def RX21 : String := "UmbrellaHeir$Lent"
def TX21 : u_T := fun k => match k with
  | 0 => ("UmbrellaHeir$Event", "umbrella", "I", true)
  | 1 => ("UmbrellaHeir$Event", "day", "I", false)
  | _ => ("UmbrellaHeir$Lent", "person", "I", true)
def tyX21 : Nat → FieldType := fun k => match k with
  | 0 => .int
  | 1 => .int
  | _ => .int
abbrev wsX210 : List Cond := u_ws RX21 TX21 3
theorem nmX21 : ∀ a, a < 3 → ∀ b, b < 3 → a ≠ b → (TX21 a).2.1 ≠ (TX21 b).2.1 := by decide +kernel
theorem tyX21_ok : ∀ k, k < 3 → parseFieldDescriptor (TX21 k).2.2.1 = some (tyX21 k) := by decide +kernel
abbrev cX21_init : ByteArray := prog_12_method_1_code
def yX21_init : MethodName := ⟨RX21, "<init>", "(II)V"⟩
def dkwX21_init_0 : List UInt8 := [42, 27, 183, 0, 1, 42, 28, 181, 0, 7, 177]
abbrev dktX21_init_0 : List UInt8 := dkwX21_init_0 ++ []
theorem dksX21_init_0 : cX21_init.data.toList.drop 0 = dktX21_init_0 := by decide +kernel
theorem dX21_init_0 : decode cX21_init 0 = .ok (.aload_n 0, 1) := dk_42 (dk_at dksX21_init_0 0 rfl rfl)
theorem dX21_init_1 : decode cX21_init 1 = .ok (.iload_n 1, 1) := dk_27 (dk_at dksX21_init_0 1 rfl rfl)
theorem dX21_init_2 : decode cX21_init 2 = .ok (.invokespecial 1, 3) := dk_183 0 1 (dk_at dksX21_init_0 2 rfl rfl)
theorem dX21_init_5 : decode cX21_init 5 = .ok (.aload_n 0, 1) := dk_42 (dk_at dksX21_init_0 5 rfl rfl)
theorem dX21_init_6 : decode cX21_init 6 = .ok (.iload_n 2, 1) := dk_28 (dk_at dksX21_init_0 6 rfl rfl)
theorem dX21_init_7 : decode cX21_init 7 = .ok (.putfield 7, 3) := dk_181 0 7 (dk_at dksX21_init_0 7 rfl rfl)
theorem dX21_init_10 : decode cX21_init 10 = .ok (.return_, 1) := dk_177 (dk_at dksX21_init_0 10 rfl rfl)
abbrev cX21_happens : ByteArray := prog_12_method_2_code
def yX21_happens : MethodName := ⟨RX21, "happens", "(LUmbrellaHeir$Hall;)V"⟩
def dkwX21_happens_0 : List UInt8 := [43, 180, 0, 13, 42, 180, 0, 19, 42, 180, 0, 7, 79, 177]
abbrev dktX21_happens_0 : List UInt8 := dkwX21_happens_0 ++ []
theorem dksX21_happens_0 : cX21_happens.data.toList.drop 0 = dktX21_happens_0 := by decide +kernel
theorem dX21_happens_0 : decode cX21_happens 0 = .ok (.aload_n 1, 1) := dk_43 (dk_at dksX21_happens_0 0 rfl rfl)
theorem dX21_happens_1 : decode cX21_happens 1 = .ok (.getfield 13, 3) := dk_180 0 13 (dk_at dksX21_happens_0 1 rfl rfl)
theorem dX21_happens_4 : decode cX21_happens 4 = .ok (.aload_n 0, 1) := dk_42 (dk_at dksX21_happens_0 4 rfl rfl)
theorem dX21_happens_5 : decode cX21_happens 5 = .ok (.getfield 19, 3) := dk_180 0 19 (dk_at dksX21_happens_0 5 rfl rfl)
theorem dX21_happens_8 : decode cX21_happens 8 = .ok (.aload_n 0, 1) := dk_42 (dk_at dksX21_happens_0 8 rfl rfl)
theorem dX21_happens_9 : decode cX21_happens 9 = .ok (.getfield 7, 3) := dk_180 0 7 (dk_at dksX21_happens_0 9 rfl rfl)
theorem dX21_happens_12 : decode cX21_happens 12 = .ok (.iastore, 1) := dk_79 (dk_at dksX21_happens_0 12 rfl rfl)
theorem dX21_happens_13 : decode cX21_happens 13 = .ok (.return_, 1) := dk_177 (dk_at dksX21_happens_0 13 rfl rfl)
theorem q143 : (Jvm.Cond.initialized "UmbrellaHeir$Lent") ∈ lw_all := lw_g (lw_at lw_m1 29 rfl) rfl
theorem q280 : (Jvm.Cond.fieldLink "UmbrellaHeir$Lent" (13 : Nat) "UmbrellaHeir$Hall" "holders" "[I") ∈ lw_all := lw_g (lw_at lw_m1 166 rfl) rfl
theorem q917 : (Jvm.Cond.instantiable "UmbrellaHeir$Lent" (3 : Nat)) ∈ lw_all := lw_g (lw_at lw_m4 83 rfl) rfl
theorem q919 : (Jvm.Cond.instanceMethod ({ cls := "UmbrellaHeir$Lent", name := "<init>", desc := "(II)V" } : Jvm.MethodName)) ∈ lw_all := lw_g (lw_at lw_m4 85 rfl) rfl
theorem q920 : (Jvm.Cond.code ({ cls := "UmbrellaHeir$Lent", name := "<init>", desc := "(II)V" } : Jvm.MethodName) prog_12_method_1_code (3 : Nat) (Option.none : Option Jvm.ClassFile.FieldType)) ∈ lw_all := lw_g (lw_at lw_m4 86 rfl) rfl
theorem q921 : (Jvm.Cond.methodLink "UmbrellaHeir$Lent" (1 : Nat) ({ cls := "UmbrellaHeir$Event", name := "<init>", desc := "(I)V" } : Jvm.MethodName)) ∈ lw_all := lw_g (lw_at lw_m4 87 rfl) rfl
theorem q925 : (Jvm.Cond.fieldLink "UmbrellaHeir$Lent" (7 : Nat) "UmbrellaHeir$Lent" "person" "I") ∈ lw_all := lw_g (lw_at lw_m4 91 rfl) rfl
theorem q931 : (Jvm.Cond.fieldLink "UmbrellaHeir$Lent" (19 : Nat) "UmbrellaHeir$Lent" "umbrella" "I") ∈ lw_all := lw_g (lw_at lw_m4 97 rfl) rfl
theorem q932 : (Jvm.Cond.sameField "UmbrellaHeir$Lent" "UmbrellaHeir$Event" "umbrella" "I") ∈ lw_all := lw_g (lw_at lw_m4 98 rfl) rfl
theorem q935 : (Jvm.Cond.laysFinal "UmbrellaHeir$Lent" "UmbrellaHeir$Lent" "person" "I") ∈ lw_all := lw_g (lw_at lw_m4 101 rfl) rfl
theorem q936 : (Jvm.Cond.soleField "UmbrellaHeir$Lent" "person") ∈ lw_all := lw_g (lw_at lw_m4 102 rfl) rfl
theorem q937 : (Jvm.Cond.laysFinal "UmbrellaHeir$Lent" "UmbrellaHeir$Event" "umbrella" "I") ∈ lw_all := lw_g (lw_at lw_m4 103 rfl) rfl
theorem q939 : (Jvm.Cond.lays "UmbrellaHeir$Lent" "UmbrellaHeir$Event" "day" "I") ∈ lw_all := lw_g (lw_at lw_m4 105 rfl) rfl
theorem q941 : (Jvm.Cond.superclass "UmbrellaHeir$Lent" "UmbrellaHeir$Event") ∈ lw_all := lw_g (lw_at lw_m4 107 rfl) rfl
theorem q1058 : (Jvm.Cond.selects "UmbrellaHeir$Lent" ({ cls := "UmbrellaHeir$Event", name := "happens", desc := "(LUmbrellaHeir$Hall;)V" } : Jvm.MethodName) ({ cls := "UmbrellaHeir$Lent", name := "happens", desc := "(LUmbrellaHeir$Hall;)V" } : Jvm.MethodName)) ∈ lw_all := lw_g (lw_at lw_m4 224 rfl) rfl
theorem q1059 : (Jvm.Cond.instanceMethod ({ cls := "UmbrellaHeir$Lent", name := "happens", desc := "(LUmbrellaHeir$Hall;)V" } : Jvm.MethodName)) ∈ lw_all := lw_g (lw_at lw_m4 225 rfl) rfl
theorem q1060 : (Jvm.Cond.code ({ cls := "UmbrellaHeir$Lent", name := "happens", desc := "(LUmbrellaHeir$Hall;)V" } : Jvm.MethodName) prog_12_method_2_code (2 : Nat) (Option.none : Option Jvm.ClassFile.FieldType)) ∈ lw_all := lw_g (lw_at lw_m4 226 rfl) rfl
theorem q1069 : (Jvm.Cond.selects "UmbrellaHeir$Lent" ({ cls := "UmbrellaHeir$Event", name := "isRain", desc := "()Z" } : Jvm.MethodName) ({ cls := "UmbrellaHeir$Event", name := "isRain", desc := "()Z" } : Jvm.MethodName)) ∈ lw_all := lw_g (lw_at lw_m4 235 rfl) rfl
theorem q2317 : (Jvm.Cond.castable "UmbrellaHeir$Lent" "java/lang/Object") ∈ lw_tbl := lw_at lw_m10 43 rfl
theorem q2325 : (Jvm.Cond.castable "UmbrellaHeir$Lent" "UmbrellaHeir$Event") ∈ lw_tbl := lw_at lw_m10 51 rfl
theorem in_X21 : ∀ w ∈ wsX210, w ∈ lw_all := lw_in wsX210 [937, 939, 935] (by decide +kernel) (by decide +kernel)
/-! UmbrellaHeir$Left -/
set_option maxRecDepth 100000
def RX22 : String := "UmbrellaHeir$Left"
def TX22 : u_T := fun k => match k with
  | 0 => ("UmbrellaHeir$Event", "umbrella", "I", true)
  | _ => ("UmbrellaHeir$Event", "day", "I", false)
def tyX22 : Nat → FieldType := fun k => match k with
  | 0 => .int
  | _ => .int
abbrev wsX220 : List Cond := u_ws RX22 TX22 2
theorem nmX22 : ∀ a, a < 2 → ∀ b, b < 2 → a ≠ b → (TX22 a).2.1 ≠ (TX22 b).2.1 := by decide +kernel
theorem tyX22_ok : ∀ k, k < 2 → parseFieldDescriptor (TX22 k).2.2.1 = some (tyX22 k) := by decide +kernel
abbrev cX22_init : ByteArray := prog_11_method_1_code
def yX22_init : MethodName := ⟨RX22, "<init>", "(I)V"⟩
def dkwX22_init_0 : List UInt8 := [42, 27, 183, 0, 3, 177]
abbrev dktX22_init_0 : List UInt8 := dkwX22_init_0 ++ []
theorem dksX22_init_0 : cX22_init.data.toList.drop 0 = dktX22_init_0 := by decide +kernel
theorem dX22_init_0 : decode cX22_init 0 = .ok (.aload_n 0, 1) := dk_42 (dk_at dksX22_init_0 0 rfl rfl)
theorem dX22_init_1 : decode cX22_init 1 = .ok (.iload_n 1, 1) := dk_27 (dk_at dksX22_init_0 1 rfl rfl)
theorem dX22_init_2 : decode cX22_init 2 = .ok (.invokespecial 3, 3) := dk_183 0 3 (dk_at dksX22_init_0 2 rfl rfl)
theorem dX22_init_5 : decode cX22_init 5 = .ok (.return_, 1) := dk_177 (dk_at dksX22_init_0 5 rfl rfl)
abbrev cX22_happens : ByteArray := prog_11_method_2_code
def yX22_happens : MethodName := ⟨RX22, "happens", "(LUmbrellaHeir$Hall;)V"⟩
def dkwX22_happens_0 : List UInt8 := [43, 180, 0, 9, 42, 180, 0, 15, 16, 254, 79, 177]
abbrev dktX22_happens_0 : List UInt8 := dkwX22_happens_0 ++ []
theorem dksX22_happens_0 : cX22_happens.data.toList.drop 0 = dktX22_happens_0 := by decide +kernel
theorem dX22_happens_0 : decode cX22_happens 0 = .ok (.aload_n 1, 1) := dk_43 (dk_at dksX22_happens_0 0 rfl rfl)
theorem dX22_happens_1 : decode cX22_happens 1 = .ok (.getfield 9, 3) := dk_180 0 9 (dk_at dksX22_happens_0 1 rfl rfl)
theorem dX22_happens_4 : decode cX22_happens 4 = .ok (.aload_n 0, 1) := dk_42 (dk_at dksX22_happens_0 4 rfl rfl)
theorem dX22_happens_5 : decode cX22_happens 5 = .ok (.getfield 15, 3) := dk_180 0 15 (dk_at dksX22_happens_0 5 rfl rfl)
theorem dX22_happens_8 : decode cX22_happens 8 = .ok (.bipush (-2), 2) := dk_16 254 (dk_at dksX22_happens_0 8 rfl rfl)
theorem dX22_happens_10 : decode cX22_happens 10 = .ok (.iastore, 1) := dk_79 (dk_at dksX22_happens_0 10 rfl rfl)
theorem dX22_happens_11 : decode cX22_happens 11 = .ok (.return_, 1) := dk_177 (dk_at dksX22_happens_0 11 rfl rfl)
theorem q144 : (Jvm.Cond.initialized "UmbrellaHeir$Left") ∈ lw_all := lw_g (lw_at lw_m1 30 rfl) rfl
theorem q279 : (Jvm.Cond.fieldLink "UmbrellaHeir$Left" (9 : Nat) "UmbrellaHeir$Hall" "holders" "[I") ∈ lw_all := lw_g (lw_at lw_m1 165 rfl) rfl
theorem q929 : (Jvm.Cond.fieldLink "UmbrellaHeir$Left" (15 : Nat) "UmbrellaHeir$Left" "umbrella" "I") ∈ lw_all := lw_g (lw_at lw_m4 95 rfl) rfl
theorem q930 : (Jvm.Cond.sameField "UmbrellaHeir$Left" "UmbrellaHeir$Event" "umbrella" "I") ∈ lw_all := lw_g (lw_at lw_m4 96 rfl) rfl
theorem q952 : (Jvm.Cond.instantiable "UmbrellaHeir$Left" (2 : Nat)) ∈ lw_all := lw_g (lw_at lw_m4 118 rfl) rfl
theorem q954 : (Jvm.Cond.instanceMethod ({ cls := "UmbrellaHeir$Left", name := "<init>", desc := "(I)V" } : Jvm.MethodName)) ∈ lw_all := lw_g (lw_at lw_m4 120 rfl) rfl
theorem q955 : (Jvm.Cond.code ({ cls := "UmbrellaHeir$Left", name := "<init>", desc := "(I)V" } : Jvm.MethodName) prog_11_method_1_code (2 : Nat) (Option.none : Option Jvm.ClassFile.FieldType)) ∈ lw_all := lw_g (lw_at lw_m4 121 rfl) rfl
theorem q956 : (Jvm.Cond.methodLink "UmbrellaHeir$Left" (3 : Nat) ({ cls := "UmbrellaHeir$Event", name := "<init>", desc := "(I)V" } : Jvm.MethodName)) ∈ lw_all := lw_g (lw_at lw_m4 122 rfl) rfl
theorem q957 : (Jvm.Cond.laysFinal "UmbrellaHeir$Left" "UmbrellaHeir$Event" "umbrella" "I") ∈ lw_all := lw_g (lw_at lw_m4 123 rfl) rfl
theorem q958 : (Jvm.Cond.lays "UmbrellaHeir$Left" "UmbrellaHeir$Event" "day" "I") ∈ lw_all := lw_g (lw_at lw_m4 124 rfl) rfl
theorem q959 : (Jvm.Cond.superclass "UmbrellaHeir$Left" "UmbrellaHeir$Event") ∈ lw_all := lw_g (lw_at lw_m4 125 rfl) rfl
theorem q1055 : (Jvm.Cond.selects "UmbrellaHeir$Left" ({ cls := "UmbrellaHeir$Event", name := "happens", desc := "(LUmbrellaHeir$Hall;)V" } : Jvm.MethodName) ({ cls := "UmbrellaHeir$Left", name := "happens", desc := "(LUmbrellaHeir$Hall;)V" } : Jvm.MethodName)) ∈ lw_all := lw_g (lw_at lw_m4 221 rfl) rfl
theorem q1056 : (Jvm.Cond.instanceMethod ({ cls := "UmbrellaHeir$Left", name := "happens", desc := "(LUmbrellaHeir$Hall;)V" } : Jvm.MethodName)) ∈ lw_all := lw_g (lw_at lw_m4 222 rfl) rfl
theorem q1057 : (Jvm.Cond.code ({ cls := "UmbrellaHeir$Left", name := "happens", desc := "(LUmbrellaHeir$Hall;)V" } : Jvm.MethodName) prog_11_method_2_code (2 : Nat) (Option.none : Option Jvm.ClassFile.FieldType)) ∈ lw_all := lw_g (lw_at lw_m4 223 rfl) rfl
theorem q1068 : (Jvm.Cond.selects "UmbrellaHeir$Left" ({ cls := "UmbrellaHeir$Event", name := "isRain", desc := "()Z" } : Jvm.MethodName) ({ cls := "UmbrellaHeir$Event", name := "isRain", desc := "()Z" } : Jvm.MethodName)) ∈ lw_all := lw_g (lw_at lw_m4 234 rfl) rfl
theorem q2318 : (Jvm.Cond.castable "UmbrellaHeir$Left" "java/lang/Object") ∈ lw_tbl := lw_at lw_m10 44 rfl
theorem q2326 : (Jvm.Cond.castable "UmbrellaHeir$Left" "UmbrellaHeir$Event") ∈ lw_tbl := lw_at lw_m10 52 rfl
theorem in_X22 : ∀ w ∈ wsX220, w ∈ lw_all := lw_in wsX220 [957, 958] (by decide +kernel) (by decide +kernel)
/-! UmbrellaHeir$Changed -/
set_option maxRecDepth 100000
def RX23 : String := "UmbrellaHeir$Changed"
def TX23 : u_T := fun k => match k with
  | 0 => ("UmbrellaHeir$Event", "umbrella", "I", true)
  | 1 => ("UmbrellaHeir$Event", "day", "I", false)
  | _ => ("UmbrellaHeir$Changed", "other", "I", true)
def tyX23 : Nat → FieldType := fun k => match k with
  | 0 => .int
  | 1 => .int
  | _ => .int
abbrev wsX230 : List Cond := u_ws RX23 TX23 3
theorem nmX23 : ∀ a, a < 3 → ∀ b, b < 3 → a ≠ b → (TX23 a).2.1 ≠ (TX23 b).2.1 := by decide +kernel
theorem tyX23_ok : ∀ k, k < 3 → parseFieldDescriptor (TX23 k).2.2.1 = some (tyX23 k) := by decide +kernel
abbrev cX23_init : ByteArray := prog_3_method_1_code
def yX23_init : MethodName := ⟨RX23, "<init>", "(II)V"⟩
def dkwX23_init_0 : List UInt8 := [42, 27, 183, 0, 1, 42, 28, 181, 0, 7, 177]
abbrev dktX23_init_0 : List UInt8 := dkwX23_init_0 ++ []
theorem dksX23_init_0 : cX23_init.data.toList.drop 0 = dktX23_init_0 := by decide +kernel
theorem dX23_init_0 : decode cX23_init 0 = .ok (.aload_n 0, 1) := dk_42 (dk_at dksX23_init_0 0 rfl rfl)
theorem dX23_init_1 : decode cX23_init 1 = .ok (.iload_n 1, 1) := dk_27 (dk_at dksX23_init_0 1 rfl rfl)
theorem dX23_init_2 : decode cX23_init 2 = .ok (.invokespecial 1, 3) := dk_183 0 1 (dk_at dksX23_init_0 2 rfl rfl)
theorem dX23_init_5 : decode cX23_init 5 = .ok (.aload_n 0, 1) := dk_42 (dk_at dksX23_init_0 5 rfl rfl)
theorem dX23_init_6 : decode cX23_init 6 = .ok (.iload_n 2, 1) := dk_28 (dk_at dksX23_init_0 6 rfl rfl)
theorem dX23_init_7 : decode cX23_init 7 = .ok (.putfield 7, 3) := dk_181 0 7 (dk_at dksX23_init_0 7 rfl rfl)
theorem dX23_init_10 : decode cX23_init 10 = .ok (.return_, 1) := dk_177 (dk_at dksX23_init_0 10 rfl rfl)
abbrev cX23_happens : ByteArray := prog_3_method_2_code
def yX23_happens : MethodName := ⟨RX23, "happens", "(LUmbrellaHeir$Hall;)V"⟩
def dkwX23_happens_0 : List UInt8 := [43, 42, 180, 0, 13, 42, 180, 0, 7, 182, 0, 16, 177]
abbrev dktX23_happens_0 : List UInt8 := dkwX23_happens_0 ++ []
theorem dksX23_happens_0 : cX23_happens.data.toList.drop 0 = dktX23_happens_0 := by decide +kernel
theorem dX23_happens_0 : decode cX23_happens 0 = .ok (.aload_n 1, 1) := dk_43 (dk_at dksX23_happens_0 0 rfl rfl)
theorem dX23_happens_1 : decode cX23_happens 1 = .ok (.aload_n 0, 1) := dk_42 (dk_at dksX23_happens_0 1 rfl rfl)
theorem dX23_happens_2 : decode cX23_happens 2 = .ok (.getfield 13, 3) := dk_180 0 13 (dk_at dksX23_happens_0 2 rfl rfl)
theorem dX23_happens_5 : decode cX23_happens 5 = .ok (.aload_n 0, 1) := dk_42 (dk_at dksX23_happens_0 5 rfl rfl)
theorem dX23_happens_6 : decode cX23_happens 6 = .ok (.getfield 7, 3) := dk_180 0 7 (dk_at dksX23_happens_0 6 rfl rfl)
theorem dX23_happens_9 : decode cX23_happens 9 = .ok (.invokevirtual 16, 3) := dk_182 0 16 (dk_at dksX23_happens_0 9 rfl rfl)
theorem dX23_happens_12 : decode cX23_happens 12 = .ok (.return_, 1) := dk_177 (dk_at dksX23_happens_0 12 rfl rfl)
theorem q145 : (Jvm.Cond.initialized "UmbrellaHeir$Changed") ∈ lw_all := lw_g (lw_at lw_m1 31 rfl) rfl
theorem q927 : (Jvm.Cond.fieldLink "UmbrellaHeir$Changed" (13 : Nat) "UmbrellaHeir$Changed" "umbrella" "I") ∈ lw_all := lw_g (lw_at lw_m4 93 rfl) rfl
theorem q928 : (Jvm.Cond.sameField "UmbrellaHeir$Changed" "UmbrellaHeir$Event" "umbrella" "I") ∈ lw_all := lw_g (lw_at lw_m4 94 rfl) rfl
theorem q965 : (Jvm.Cond.instantiable "UmbrellaHeir$Changed" (3 : Nat)) ∈ lw_all := lw_g (lw_at lw_m4 131 rfl) rfl
theorem q967 : (Jvm.Cond.instanceMethod ({ cls := "UmbrellaHeir$Changed", name := "<init>", desc := "(II)V" } : Jvm.MethodName)) ∈ lw_all := lw_g (lw_at lw_m4 133 rfl) rfl
theorem q968 : (Jvm.Cond.code ({ cls := "UmbrellaHeir$Changed", name := "<init>", desc := "(II)V" } : Jvm.MethodName) prog_3_method_1_code (3 : Nat) (Option.none : Option Jvm.ClassFile.FieldType)) ∈ lw_all := lw_g (lw_at lw_m4 134 rfl) rfl
theorem q969 : (Jvm.Cond.methodLink "UmbrellaHeir$Changed" (1 : Nat) ({ cls := "UmbrellaHeir$Event", name := "<init>", desc := "(I)V" } : Jvm.MethodName)) ∈ lw_all := lw_g (lw_at lw_m4 135 rfl) rfl
theorem q970 : (Jvm.Cond.fieldLink "UmbrellaHeir$Changed" (7 : Nat) "UmbrellaHeir$Changed" "other" "I") ∈ lw_all := lw_g (lw_at lw_m4 136 rfl) rfl
theorem q971 : (Jvm.Cond.laysFinal "UmbrellaHeir$Changed" "UmbrellaHeir$Changed" "other" "I") ∈ lw_all := lw_g (lw_at lw_m4 137 rfl) rfl
theorem q972 : (Jvm.Cond.soleField "UmbrellaHeir$Changed" "other") ∈ lw_all := lw_g (lw_at lw_m4 138 rfl) rfl
theorem q973 : (Jvm.Cond.laysFinal "UmbrellaHeir$Changed" "UmbrellaHeir$Event" "umbrella" "I") ∈ lw_all := lw_g (lw_at lw_m4 139 rfl) rfl
theorem q974 : (Jvm.Cond.lays "UmbrellaHeir$Changed" "UmbrellaHeir$Event" "day" "I") ∈ lw_all := lw_g (lw_at lw_m4 140 rfl) rfl
theorem q975 : (Jvm.Cond.superclass "UmbrellaHeir$Changed" "UmbrellaHeir$Event") ∈ lw_all := lw_g (lw_at lw_m4 141 rfl) rfl
theorem q1051 : (Jvm.Cond.selects "UmbrellaHeir$Changed" ({ cls := "UmbrellaHeir$Event", name := "happens", desc := "(LUmbrellaHeir$Hall;)V" } : Jvm.MethodName) ({ cls := "UmbrellaHeir$Changed", name := "happens", desc := "(LUmbrellaHeir$Hall;)V" } : Jvm.MethodName)) ∈ lw_all := lw_g (lw_at lw_m4 217 rfl) rfl
theorem q1052 : (Jvm.Cond.instanceMethod ({ cls := "UmbrellaHeir$Changed", name := "happens", desc := "(LUmbrellaHeir$Hall;)V" } : Jvm.MethodName)) ∈ lw_all := lw_g (lw_at lw_m4 218 rfl) rfl
theorem q1053 : (Jvm.Cond.code ({ cls := "UmbrellaHeir$Changed", name := "happens", desc := "(LUmbrellaHeir$Hall;)V" } : Jvm.MethodName) prog_3_method_2_code (2 : Nat) (Option.none : Option Jvm.ClassFile.FieldType)) ∈ lw_all := lw_g (lw_at lw_m4 219 rfl) rfl
theorem q1054 : (Jvm.Cond.methodLink "UmbrellaHeir$Changed" (16 : Nat) ({ cls := "UmbrellaHeir$Hall", name := "change", desc := "(II)V" } : Jvm.MethodName)) ∈ lw_all := lw_g (lw_at lw_m4 220 rfl) rfl
theorem q1067 : (Jvm.Cond.selects "UmbrellaHeir$Changed" ({ cls := "UmbrellaHeir$Event", name := "isRain", desc := "()Z" } : Jvm.MethodName) ({ cls := "UmbrellaHeir$Event", name := "isRain", desc := "()Z" } : Jvm.MethodName)) ∈ lw_all := lw_g (lw_at lw_m4 233 rfl) rfl
theorem q2319 : (Jvm.Cond.castable "UmbrellaHeir$Changed" "java/lang/Object") ∈ lw_tbl := lw_at lw_m10 45 rfl
theorem q2327 : (Jvm.Cond.castable "UmbrellaHeir$Changed" "UmbrellaHeir$Event") ∈ lw_tbl := lw_at lw_m10 53 rfl
theorem in_X23 : ∀ w ∈ wsX230, w ∈ lw_all := lw_in wsX230 [973, 974, 971] (by decide +kernel) (by decide +kernel)
/-! UmbrellaHeir$Rain -/
set_option maxRecDepth 100000
def RX24 : String := "UmbrellaHeir$Rain"
def TX24 : u_T := fun k => match k with
  | 0 => ("UmbrellaHeir$Event", "umbrella", "I", true)
  | _ => ("UmbrellaHeir$Event", "day", "I", false)
def tyX24 : Nat → FieldType := fun k => match k with
  | 0 => .int
  | _ => .int
abbrev wsX240 : List Cond := u_ws RX24 TX24 2
theorem nmX24 : ∀ a, a < 2 → ∀ b, b < 2 → a ≠ b → (TX24 a).2.1 ≠ (TX24 b).2.1 := by decide +kernel
theorem tyX24_ok : ∀ k, k < 2 → parseFieldDescriptor (TX24 k).2.2.1 = some (tyX24 k) := by decide +kernel
abbrev cX24_init : ByteArray := prog_18_method_1_code
def yX24_init : MethodName := ⟨RX24, "<init>", "()V"⟩
def dkwX24_init_0 : List UInt8 := [42, 16, 254, 183, 0, 3, 177]
abbrev dktX24_init_0 : List UInt8 := dkwX24_init_0 ++ []
theorem dksX24_init_0 : cX24_init.data.toList.drop 0 = dktX24_init_0 := by decide +kernel
theorem dX24_init_0 : decode cX24_init 0 = .ok (.aload_n 0, 1) := dk_42 (dk_at dksX24_init_0 0 rfl rfl)
theorem dX24_init_1 : decode cX24_init 1 = .ok (.bipush (-2), 2) := dk_16 254 (dk_at dksX24_init_0 1 rfl rfl)
theorem dX24_init_3 : decode cX24_init 3 = .ok (.invokespecial 3, 3) := dk_183 0 3 (dk_at dksX24_init_0 3 rfl rfl)
theorem dX24_init_6 : decode cX24_init 6 = .ok (.return_, 1) := dk_177 (dk_at dksX24_init_0 6 rfl rfl)
abbrev cX24_happens : ByteArray := prog_18_method_2_code
def yX24_happens : MethodName := ⟨RX24, "happens", "(LUmbrellaHeir$Hall;)V"⟩
theorem dX24_happens_0 : decode cX24_happens 0 = .ok (.return_, 1) := by decide +kernel
abbrev cX24_isRain : ByteArray := prog_18_method_3_code
def yX24_isRain : MethodName := ⟨RX24, "isRain", "()Z"⟩
theorem dX24_isRain_0 : decode cX24_isRain 0 = .ok (.iconst 1, 1) := by decide +kernel
theorem dX24_isRain_1 : decode cX24_isRain 1 = .ok (.ireturn, 1) := by decide +kernel
theorem q146 : (Jvm.Cond.initialized "UmbrellaHeir$Rain") ∈ lw_all := lw_g (lw_at lw_m1 32 rfl) rfl
theorem q981 : (Jvm.Cond.instantiable "UmbrellaHeir$Rain" (2 : Nat)) ∈ lw_all := lw_g (lw_at lw_m4 147 rfl) rfl
theorem q983 : (Jvm.Cond.instanceMethod ({ cls := "UmbrellaHeir$Rain", name := "<init>", desc := "()V" } : Jvm.MethodName)) ∈ lw_all := lw_g (lw_at lw_m4 149 rfl) rfl
theorem q984 : (Jvm.Cond.code ({ cls := "UmbrellaHeir$Rain", name := "<init>", desc := "()V" } : Jvm.MethodName) prog_18_method_1_code (1 : Nat) (Option.none : Option Jvm.ClassFile.FieldType)) ∈ lw_all := lw_g (lw_at lw_m4 150 rfl) rfl
theorem q985 : (Jvm.Cond.methodLink "UmbrellaHeir$Rain" (3 : Nat) ({ cls := "UmbrellaHeir$Event", name := "<init>", desc := "(I)V" } : Jvm.MethodName)) ∈ lw_all := lw_g (lw_at lw_m4 151 rfl) rfl
theorem q986 : (Jvm.Cond.laysFinal "UmbrellaHeir$Rain" "UmbrellaHeir$Event" "umbrella" "I") ∈ lw_all := lw_g (lw_at lw_m4 152 rfl) rfl
theorem q987 : (Jvm.Cond.lays "UmbrellaHeir$Rain" "UmbrellaHeir$Event" "day" "I") ∈ lw_all := lw_g (lw_at lw_m4 153 rfl) rfl
theorem q988 : (Jvm.Cond.superclass "UmbrellaHeir$Rain" "UmbrellaHeir$Event") ∈ lw_all := lw_g (lw_at lw_m4 154 rfl) rfl
theorem q1061 : (Jvm.Cond.selects "UmbrellaHeir$Rain" ({ cls := "UmbrellaHeir$Event", name := "happens", desc := "(LUmbrellaHeir$Hall;)V" } : Jvm.MethodName) ({ cls := "UmbrellaHeir$Rain", name := "happens", desc := "(LUmbrellaHeir$Hall;)V" } : Jvm.MethodName)) ∈ lw_all := lw_g (lw_at lw_m4 227 rfl) rfl
theorem q1062 : (Jvm.Cond.instanceMethod ({ cls := "UmbrellaHeir$Rain", name := "happens", desc := "(LUmbrellaHeir$Hall;)V" } : Jvm.MethodName)) ∈ lw_all := lw_g (lw_at lw_m4 228 rfl) rfl
theorem q1063 : (Jvm.Cond.code ({ cls := "UmbrellaHeir$Rain", name := "happens", desc := "(LUmbrellaHeir$Hall;)V" } : Jvm.MethodName) prog_18_method_2_code (2 : Nat) (Option.none : Option Jvm.ClassFile.FieldType)) ∈ lw_all := lw_g (lw_at lw_m4 229 rfl) rfl
theorem q1070 : (Jvm.Cond.selects "UmbrellaHeir$Rain" ({ cls := "UmbrellaHeir$Event", name := "isRain", desc := "()Z" } : Jvm.MethodName) ({ cls := "UmbrellaHeir$Rain", name := "isRain", desc := "()Z" } : Jvm.MethodName)) ∈ lw_all := lw_g (lw_at lw_m4 236 rfl) rfl
theorem q1071 : (Jvm.Cond.instanceMethod ({ cls := "UmbrellaHeir$Rain", name := "isRain", desc := "()Z" } : Jvm.MethodName)) ∈ lw_all := lw_g (lw_at lw_m4 237 rfl) rfl
theorem q1072 : (Jvm.Cond.code ({ cls := "UmbrellaHeir$Rain", name := "isRain", desc := "()Z" } : Jvm.MethodName) prog_18_method_3_code (1 : Nat) (Option.some Jvm.ClassFile.FieldType.boolean)) ∈ lw_all := lw_g (lw_at lw_m4 238 rfl) rfl
theorem q2320 : (Jvm.Cond.castable "UmbrellaHeir$Rain" "java/lang/Object") ∈ lw_tbl := lw_at lw_m10 46 rfl
theorem q2328 : (Jvm.Cond.castable "UmbrellaHeir$Rain" "UmbrellaHeir$Event") ∈ lw_tbl := lw_at lw_m10 54 rfl
theorem in_X24 : ∀ w ∈ wsX240, w ∈ lw_all := lw_in wsX240 [986, 987] (by decide +kernel) (by decide +kernel)
/-! UmbrellaHeir$Claim -/
set_option maxRecDepth 100000
def RX25 : String := "UmbrellaHeir$Claim"
def TX25 : u_T := fun k => match k with
  | 0 => ("UmbrellaHeir$Claim", "person", "I", false)
  | 1 => ("UmbrellaHeir$Claim", "umbrella", "I", false)
  | _ => ("UmbrellaHeir$Claim", "day", "I", false)
def tyX25 : Nat → FieldType := fun k => match k with
  | 0 => .int
  | 1 => .int
  | _ => .int
abbrev wsX250 : List Cond := u_ws RX25 TX25 3
theorem nmX25 : ∀ a, a < 3 → ∀ b, b < 3 → a ≠ b → (TX25 a).2.1 ≠ (TX25 b).2.1 := by decide +kernel
theorem tyX25_ok : ∀ k, k < 3 → parseFieldDescriptor (TX25 k).2.2.1 = some (tyX25 k) := by decide +kernel
abbrev cX25_init : ByteArray := prog_5_method_1_code
def yX25_init : MethodName := ⟨RX25, "<init>", "()V"⟩
theorem dX25_init_0 : decode cX25_init 0 = .ok (.aload_n 0, 1) := by decide +kernel
theorem dX25_init_1 : decode cX25_init 1 = .ok (.invokespecial 1, 3) := by decide +kernel
theorem dX25_init_4 : decode cX25_init 4 = .ok (.return_, 1) := by decide +kernel
theorem q147 : (Jvm.Cond.initialized "UmbrellaHeir$Claim") ∈ lw_all := lw_g (lw_at lw_m1 33 rfl) rfl
theorem q994 : (Jvm.Cond.instantiable "UmbrellaHeir$Claim" (3 : Nat)) ∈ lw_all := lw_g (lw_at lw_m4 160 rfl) rfl
theorem q996 : (Jvm.Cond.instanceMethod ({ cls := "UmbrellaHeir$Claim", name := "<init>", desc := "()V" } : Jvm.MethodName)) ∈ lw_all := lw_g (lw_at lw_m4 162 rfl) rfl
theorem q997 : (Jvm.Cond.code ({ cls := "UmbrellaHeir$Claim", name := "<init>", desc := "()V" } : Jvm.MethodName) prog_5_method_1_code (1 : Nat) (Option.none : Option Jvm.ClassFile.FieldType)) ∈ lw_all := lw_g (lw_at lw_m4 163 rfl) rfl
theorem q998 : (Jvm.Cond.methodLink "UmbrellaHeir$Claim" (1 : Nat) ({ cls := "java/lang/Object", name := "<init>", desc := "()V" } : Jvm.MethodName)) ∈ lw_all := lw_g (lw_at lw_m4 164 rfl) rfl
theorem q1005 : (Jvm.Cond.lays "UmbrellaHeir$Claim" "UmbrellaHeir$Claim" "person" "I") ∈ lw_all := lw_g (lw_at lw_m4 171 rfl) rfl
theorem q1006 : (Jvm.Cond.soleField "UmbrellaHeir$Claim" "person") ∈ lw_all := lw_g (lw_at lw_m4 172 rfl) rfl
theorem q1007 : (Jvm.Cond.lays "UmbrellaHeir$Claim" "UmbrellaHeir$Claim" "umbrella" "I") ∈ lw_all := lw_g (lw_at lw_m4 173 rfl) rfl
theorem q1008 : (Jvm.Cond.soleField "UmbrellaHeir$Claim" "umbrella") ∈ lw_all := lw_g (lw_at lw_m4 174 rfl) rfl
theorem q1009 : (Jvm.Cond.lays "UmbrellaHeir$Claim" "UmbrellaHeir$Claim" "day" "I") ∈ lw_all := lw_g (lw_at lw_m4 175 rfl) rfl
theorem q1010 : (Jvm.Cond.soleField "UmbrellaHeir$Claim" "day") ∈ lw_all := lw_g (lw_at lw_m4 176 rfl) rfl
theorem q1011 : (Jvm.Cond.superclass "UmbrellaHeir$Claim" "java/lang/Object") ∈ lw_all := lw_g (lw_at lw_m4 177 rfl) rfl
theorem q2321 : (Jvm.Cond.castable "UmbrellaHeir$Claim" "java/lang/Object") ∈ lw_tbl := lw_at lw_m10 47 rfl
theorem in_X25 : ∀ w ∈ wsX250, w ∈ lw_all := lw_in wsX250 [1005, 1007, 1009] (by decide +kernel) (by decide +kernel)
