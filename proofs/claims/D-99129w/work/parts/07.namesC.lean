/-! UmbrellaHeirModel$County -/
set_option maxRecDepth 100000
def RX26 : String := "UmbrellaHeirModel$County"
def TX26 : u_T := fun k => match k with
  | 0 => ("UmbrellaHeirModel$County", "lapse", "I", false)
  | 1 => ("UmbrellaHeirModel$County", "gust", "I", false)
  | 2 => ("UmbrellaHeirModel$County", "rains", "I", false)
  | 3 => ("UmbrellaHeirModel$County", "people", "I", false)
  | 4 => ("UmbrellaHeirModel$County", "umbrellas", "I", false)
  | 5 => ("UmbrellaHeirModel$County", "logs", "I", false)
  | 6 => ("UmbrellaHeirModel$County", "claims", "I", false)
  | 7 => ("UmbrellaHeirModel$County", "names", "I", false)
  | 8 => ("UmbrellaHeirModel$County", "sort", "[I", true)
  | 9 => ("UmbrellaHeirModel$County", "kind", "[I", true)
  | 10 => ("UmbrellaHeirModel$County", "lands", "[I", true)
  | 11 => ("UmbrellaHeirModel$County", "ribs", "[I", true)
  | 12 => ("UmbrellaHeirModel$County", "with", "[I", true)
  | 13 => ("UmbrellaHeirModel$County", "what", "[I", true)
  | 14 => ("UmbrellaHeirModel$County", "one", "[I", true)
  | 15 => ("UmbrellaHeirModel$County", "other", "[I", true)
  | 16 => ("UmbrellaHeirModel$County", "day", "[I", true)
  | 17 => ("UmbrellaHeirModel$County", "claimer", "[I", true)
  | 18 => ("UmbrellaHeirModel$County", "claimed", "[I", true)
  | 19 => ("UmbrellaHeirModel$County", "claimDay", "[I", true)
  | 20 => ("UmbrellaHeirModel$County", "name", "[J", true)
  | 21 => ("UmbrellaHeirModel$County", "nameSort", "[I", true)
  | _ => ("UmbrellaHeirModel$County", "numberOf", "[I", true)
def tyX26 : Nat → FieldType := fun k => match k with
  | 0 => .int
  | 1 => .int
  | 2 => .int
  | 3 => .int
  | 4 => .int
  | 5 => .int
  | 6 => .int
  | 7 => .int
  | 8 => .array .int
  | 9 => .array .int
  | 10 => .array .int
  | 11 => .array .int
  | 12 => .array .int
  | 13 => .array .int
  | 14 => .array .int
  | 15 => .array .int
  | 16 => .array .int
  | 17 => .array .int
  | 18 => .array .int
  | 19 => .array .int
  | 20 => .array .long
  | 21 => .array .int
  | _ => .array .int
abbrev wsX260 : List Cond := u_ws RX26 TX26 23
set_option maxRecDepth 100000 in
theorem nmX26 : ∀ a, a < 23 → ∀ b, b < 23 → a ≠ b → (TX26 a).2.1 ≠ (TX26 b).2.1 := by decide +kernel
set_option maxRecDepth 100000 in
theorem tyX26_ok : ∀ k, k < 23 → parseFieldDescriptor (TX26 k).2.2.1 = some (tyX26 k) := by decide +kernel
abbrev cX26_init : ByteArray := prog_27_method_1_code
def yX26_init : MethodName := ⟨RX26, "<init>", "()V"⟩
def dkwX26_init_5 : List UInt8 := [181, 0, 55, 177]
abbrev dktX26_init_5 : List UInt8 := dkwX26_init_5 ++ []
def dkwX26_init_4 : List UInt8 := [181, 0, 45, 42, 16, 11, 188, 11, 181, 0, 48, 42, 16, 11, 188, 10, 181, 0, 52, 42, 16, 11, 188, 10]
abbrev dktX26_init_4 : List UInt8 := dkwX26_init_4 ++ dktX26_init_5
def dkwX26_init_3 : List UInt8 := [181, 0, 36, 42, 16, 6, 188, 10, 181, 0, 39, 42, 16, 6, 188, 10, 181, 0, 42, 42, 16, 6, 188, 10]
abbrev dktX26_init_3 : List UInt8 := dkwX26_init_3 ++ dktX26_init_4
def dkwX26_init_2 : List UInt8 := [181, 0, 27, 42, 16, 16, 188, 10, 181, 0, 30, 42, 16, 16, 188, 10, 181, 0, 33, 42, 16, 16, 188, 10]
abbrev dktX26_init_2 : List UInt8 := dkwX26_init_2 ++ dktX26_init_3
def dkwX26_init_1 : List UInt8 := [181, 0, 18, 42, 8, 188, 10, 181, 0, 21, 42, 8, 188, 10, 181, 0, 24, 42, 16, 16, 188, 10]
abbrev dktX26_init_1 : List UInt8 := dkwX26_init_1 ++ dktX26_init_2
def dkwX26_init_0 : List UInt8 := [42, 183, 0, 3, 42, 16, 6, 188, 10, 181, 0, 9, 42, 8, 188, 10, 181, 0, 15, 42, 8, 188, 10]
abbrev dktX26_init_0 : List UInt8 := dkwX26_init_0 ++ dktX26_init_1
theorem dksX26_init_0 : cX26_init.data.toList.drop 0 = dktX26_init_0 := by decide +kernel
theorem dksX26_init_1 : cX26_init.data.toList.drop 23 = dktX26_init_1 := dk_seg dksX26_init_0 23 rfl rfl
theorem dksX26_init_2 : cX26_init.data.toList.drop 45 = dktX26_init_2 := dk_seg dksX26_init_1 22 rfl rfl
theorem dksX26_init_3 : cX26_init.data.toList.drop 69 = dktX26_init_3 := dk_seg dksX26_init_2 24 rfl rfl
theorem dksX26_init_4 : cX26_init.data.toList.drop 93 = dktX26_init_4 := dk_seg dksX26_init_3 24 rfl rfl
theorem dksX26_init_5 : cX26_init.data.toList.drop 117 = dktX26_init_5 := dk_seg dksX26_init_4 24 rfl rfl
theorem dX26_init_0 : decode cX26_init 0 = .ok (.aload_n 0, 1) := dk_42 (dk_at dksX26_init_0 0 rfl rfl)
theorem dX26_init_1 : decode cX26_init 1 = .ok (.invokespecial 3, 3) := dk_183 0 3 (dk_at dksX26_init_0 1 rfl rfl)
theorem dX26_init_4 : decode cX26_init 4 = .ok (.aload_n 0, 1) := dk_42 (dk_at dksX26_init_0 4 rfl rfl)
theorem dX26_init_5 : decode cX26_init 5 = .ok (.bipush 6, 2) := dk_16 6 (dk_at dksX26_init_0 5 rfl rfl)
theorem dX26_init_7 : decode cX26_init 7 = .ok (.newarray .int, 2) := dk_188_10 (dk_at dksX26_init_0 7 rfl rfl)
theorem dX26_init_9 : decode cX26_init 9 = .ok (.putfield 9, 3) := dk_181 0 9 (dk_at dksX26_init_0 9 rfl rfl)
theorem dX26_init_12 : decode cX26_init 12 = .ok (.aload_n 0, 1) := dk_42 (dk_at dksX26_init_0 12 rfl rfl)
theorem dX26_init_13 : decode cX26_init 13 = .ok (.iconst 5, 1) := dk_8 (dk_at dksX26_init_0 13 rfl rfl)
theorem dX26_init_14 : decode cX26_init 14 = .ok (.newarray .int, 2) := dk_188_10 (dk_at dksX26_init_0 14 rfl rfl)
theorem dX26_init_16 : decode cX26_init 16 = .ok (.putfield 15, 3) := dk_181 0 15 (dk_at dksX26_init_0 16 rfl rfl)
theorem dX26_init_19 : decode cX26_init 19 = .ok (.aload_n 0, 1) := dk_42 (dk_at dksX26_init_0 19 rfl rfl)
theorem dX26_init_20 : decode cX26_init 20 = .ok (.iconst 5, 1) := dk_8 (dk_at dksX26_init_0 20 rfl rfl)
theorem dX26_init_21 : decode cX26_init 21 = .ok (.newarray .int, 2) := dk_188_10 (dk_at dksX26_init_0 21 rfl rfl)
theorem dX26_init_23 : decode cX26_init 23 = .ok (.putfield 18, 3) := dk_181 0 18 (dk_at dksX26_init_1 0 rfl rfl)
theorem dX26_init_26 : decode cX26_init 26 = .ok (.aload_n 0, 1) := dk_42 (dk_at dksX26_init_1 3 rfl rfl)
theorem dX26_init_27 : decode cX26_init 27 = .ok (.iconst 5, 1) := dk_8 (dk_at dksX26_init_1 4 rfl rfl)
theorem dX26_init_28 : decode cX26_init 28 = .ok (.newarray .int, 2) := dk_188_10 (dk_at dksX26_init_1 5 rfl rfl)
theorem dX26_init_30 : decode cX26_init 30 = .ok (.putfield 21, 3) := dk_181 0 21 (dk_at dksX26_init_1 7 rfl rfl)
theorem dX26_init_33 : decode cX26_init 33 = .ok (.aload_n 0, 1) := dk_42 (dk_at dksX26_init_1 10 rfl rfl)
theorem dX26_init_34 : decode cX26_init 34 = .ok (.iconst 5, 1) := dk_8 (dk_at dksX26_init_1 11 rfl rfl)
theorem dX26_init_35 : decode cX26_init 35 = .ok (.newarray .int, 2) := dk_188_10 (dk_at dksX26_init_1 12 rfl rfl)
theorem dX26_init_37 : decode cX26_init 37 = .ok (.putfield 24, 3) := dk_181 0 24 (dk_at dksX26_init_1 14 rfl rfl)
theorem dX26_init_40 : decode cX26_init 40 = .ok (.aload_n 0, 1) := dk_42 (dk_at dksX26_init_1 17 rfl rfl)
theorem dX26_init_41 : decode cX26_init 41 = .ok (.bipush 16, 2) := dk_16 16 (dk_at dksX26_init_1 18 rfl rfl)
theorem dX26_init_43 : decode cX26_init 43 = .ok (.newarray .int, 2) := dk_188_10 (dk_at dksX26_init_1 20 rfl rfl)
theorem dX26_init_45 : decode cX26_init 45 = .ok (.putfield 27, 3) := dk_181 0 27 (dk_at dksX26_init_2 0 rfl rfl)
theorem dX26_init_48 : decode cX26_init 48 = .ok (.aload_n 0, 1) := dk_42 (dk_at dksX26_init_2 3 rfl rfl)
theorem dX26_init_49 : decode cX26_init 49 = .ok (.bipush 16, 2) := dk_16 16 (dk_at dksX26_init_2 4 rfl rfl)
theorem dX26_init_51 : decode cX26_init 51 = .ok (.newarray .int, 2) := dk_188_10 (dk_at dksX26_init_2 6 rfl rfl)
theorem dX26_init_53 : decode cX26_init 53 = .ok (.putfield 30, 3) := dk_181 0 30 (dk_at dksX26_init_2 8 rfl rfl)
theorem dX26_init_56 : decode cX26_init 56 = .ok (.aload_n 0, 1) := dk_42 (dk_at dksX26_init_2 11 rfl rfl)
theorem dX26_init_57 : decode cX26_init 57 = .ok (.bipush 16, 2) := dk_16 16 (dk_at dksX26_init_2 12 rfl rfl)
theorem dX26_init_59 : decode cX26_init 59 = .ok (.newarray .int, 2) := dk_188_10 (dk_at dksX26_init_2 14 rfl rfl)
theorem dX26_init_61 : decode cX26_init 61 = .ok (.putfield 33, 3) := dk_181 0 33 (dk_at dksX26_init_2 16 rfl rfl)
theorem dX26_init_64 : decode cX26_init 64 = .ok (.aload_n 0, 1) := dk_42 (dk_at dksX26_init_2 19 rfl rfl)
theorem dX26_init_65 : decode cX26_init 65 = .ok (.bipush 16, 2) := dk_16 16 (dk_at dksX26_init_2 20 rfl rfl)
theorem dX26_init_67 : decode cX26_init 67 = .ok (.newarray .int, 2) := dk_188_10 (dk_at dksX26_init_2 22 rfl rfl)
theorem dX26_init_69 : decode cX26_init 69 = .ok (.putfield 36, 3) := dk_181 0 36 (dk_at dksX26_init_3 0 rfl rfl)
theorem dX26_init_72 : decode cX26_init 72 = .ok (.aload_n 0, 1) := dk_42 (dk_at dksX26_init_3 3 rfl rfl)
theorem dX26_init_73 : decode cX26_init 73 = .ok (.bipush 6, 2) := dk_16 6 (dk_at dksX26_init_3 4 rfl rfl)
theorem dX26_init_75 : decode cX26_init 75 = .ok (.newarray .int, 2) := dk_188_10 (dk_at dksX26_init_3 6 rfl rfl)
theorem dX26_init_77 : decode cX26_init 77 = .ok (.putfield 39, 3) := dk_181 0 39 (dk_at dksX26_init_3 8 rfl rfl)
theorem dX26_init_80 : decode cX26_init 80 = .ok (.aload_n 0, 1) := dk_42 (dk_at dksX26_init_3 11 rfl rfl)
theorem dX26_init_81 : decode cX26_init 81 = .ok (.bipush 6, 2) := dk_16 6 (dk_at dksX26_init_3 12 rfl rfl)
theorem dX26_init_83 : decode cX26_init 83 = .ok (.newarray .int, 2) := dk_188_10 (dk_at dksX26_init_3 14 rfl rfl)
theorem dX26_init_85 : decode cX26_init 85 = .ok (.putfield 42, 3) := dk_181 0 42 (dk_at dksX26_init_3 16 rfl rfl)
theorem dX26_init_88 : decode cX26_init 88 = .ok (.aload_n 0, 1) := dk_42 (dk_at dksX26_init_3 19 rfl rfl)
theorem dX26_init_89 : decode cX26_init 89 = .ok (.bipush 6, 2) := dk_16 6 (dk_at dksX26_init_3 20 rfl rfl)
theorem dX26_init_91 : decode cX26_init 91 = .ok (.newarray .int, 2) := dk_188_10 (dk_at dksX26_init_3 22 rfl rfl)
theorem dX26_init_93 : decode cX26_init 93 = .ok (.putfield 45, 3) := dk_181 0 45 (dk_at dksX26_init_4 0 rfl rfl)
theorem dX26_init_96 : decode cX26_init 96 = .ok (.aload_n 0, 1) := dk_42 (dk_at dksX26_init_4 3 rfl rfl)
theorem dX26_init_97 : decode cX26_init 97 = .ok (.bipush 11, 2) := dk_16 11 (dk_at dksX26_init_4 4 rfl rfl)
theorem dX26_init_99 : decode cX26_init 99 = .ok (.newarray .long, 2) := dk_188_11 (dk_at dksX26_init_4 6 rfl rfl)
theorem dX26_init_101 : decode cX26_init 101 = .ok (.putfield 48, 3) := dk_181 0 48 (dk_at dksX26_init_4 8 rfl rfl)
theorem dX26_init_104 : decode cX26_init 104 = .ok (.aload_n 0, 1) := dk_42 (dk_at dksX26_init_4 11 rfl rfl)
theorem dX26_init_105 : decode cX26_init 105 = .ok (.bipush 11, 2) := dk_16 11 (dk_at dksX26_init_4 12 rfl rfl)
theorem dX26_init_107 : decode cX26_init 107 = .ok (.newarray .int, 2) := dk_188_10 (dk_at dksX26_init_4 14 rfl rfl)
theorem dX26_init_109 : decode cX26_init 109 = .ok (.putfield 52, 3) := dk_181 0 52 (dk_at dksX26_init_4 16 rfl rfl)
theorem dX26_init_112 : decode cX26_init 112 = .ok (.aload_n 0, 1) := dk_42 (dk_at dksX26_init_4 19 rfl rfl)
theorem dX26_init_113 : decode cX26_init 113 = .ok (.bipush 11, 2) := dk_16 11 (dk_at dksX26_init_4 20 rfl rfl)
theorem dX26_init_115 : decode cX26_init 115 = .ok (.newarray .int, 2) := dk_188_10 (dk_at dksX26_init_4 22 rfl rfl)
theorem dX26_init_117 : decode cX26_init 117 = .ok (.putfield 55, 3) := dk_181 0 55 (dk_at dksX26_init_5 0 rfl rfl)
theorem dX26_init_120 : decode cX26_init 120 = .ok (.return_, 1) := dk_177 (dk_at dksX26_init_5 3 rfl rfl)
abbrev cX26_find : ByteArray := prog_27_method_2_code
def yX26_find : MethodName := ⟨RX26, "find", "(J)I"⟩
def dkwX26_find_1 : List UInt8 := [132, 3, 1, 167, 255, 232, 2, 172]
abbrev dktX26_find_1 : List UInt8 := dkwX26_find_1 ++ []
def dkwX26_find_0 : List UInt8 := [3, 62, 29, 42, 180, 0, 58, 162, 0, 22, 42, 180, 0, 48, 29, 47, 31, 148, 154, 0, 5, 29, 172]
abbrev dktX26_find_0 : List UInt8 := dkwX26_find_0 ++ dktX26_find_1
theorem dksX26_find_0 : cX26_find.data.toList.drop 0 = dktX26_find_0 := by decide +kernel
theorem dksX26_find_1 : cX26_find.data.toList.drop 23 = dktX26_find_1 := dk_seg dksX26_find_0 23 rfl rfl
theorem dX26_find_0 : decode cX26_find 0 = .ok (.iconst 0, 1) := dk_3 (dk_at dksX26_find_0 0 rfl rfl)
theorem dX26_find_1 : decode cX26_find 1 = .ok (.istore_n 3, 1) := dk_62 (dk_at dksX26_find_0 1 rfl rfl)
theorem dX26_find_2 : decode cX26_find 2 = .ok (.iload_n 3, 1) := dk_29 (dk_at dksX26_find_0 2 rfl rfl)
theorem dX26_find_3 : decode cX26_find 3 = .ok (.aload_n 0, 1) := dk_42 (dk_at dksX26_find_0 3 rfl rfl)
theorem dX26_find_4 : decode cX26_find 4 = .ok (.getfield 58, 3) := dk_180 0 58 (dk_at dksX26_find_0 4 rfl rfl)
theorem dX26_find_7 : decode cX26_find 7 = .ok (.if_icmp .ge 22, 3) := dk_162 0 22 (dk_at dksX26_find_0 7 rfl rfl)
theorem dX26_find_10 : decode cX26_find 10 = .ok (.aload_n 0, 1) := dk_42 (dk_at dksX26_find_0 10 rfl rfl)
theorem dX26_find_11 : decode cX26_find 11 = .ok (.getfield 48, 3) := dk_180 0 48 (dk_at dksX26_find_0 11 rfl rfl)
theorem dX26_find_14 : decode cX26_find 14 = .ok (.iload_n 3, 1) := dk_29 (dk_at dksX26_find_0 14 rfl rfl)
theorem dX26_find_15 : decode cX26_find 15 = .ok (.laload, 1) := dk_47 (dk_at dksX26_find_0 15 rfl rfl)
theorem dX26_find_16 : decode cX26_find 16 = .ok (.lload_n 1, 1) := dk_31 (dk_at dksX26_find_0 16 rfl rfl)
theorem dX26_find_17 : decode cX26_find 17 = .ok (.lcmp, 1) := dk_148 (dk_at dksX26_find_0 17 rfl rfl)
theorem dX26_find_18 : decode cX26_find 18 = .ok (.ifCond .ne 5, 3) := dk_154 0 5 (dk_at dksX26_find_0 18 rfl rfl)
theorem dX26_find_21 : decode cX26_find 21 = .ok (.iload_n 3, 1) := dk_29 (dk_at dksX26_find_0 21 rfl rfl)
theorem dX26_find_22 : decode cX26_find 22 = .ok (.ireturn, 1) := dk_172 (dk_at dksX26_find_0 22 rfl rfl)
theorem dX26_find_23 : decode cX26_find 23 = .ok (.iinc 3 1, 3) := dk_132 3 1 (dk_at dksX26_find_1 0 rfl rfl)
theorem dX26_find_26 : decode cX26_find 26 = .ok (.goto (-24), 3) := dk_167 255 232 (dk_at dksX26_find_1 3 rfl rfl)
theorem dX26_find_29 : decode cX26_find 29 = .ok (.iconst (-1), 1) := dk_2 (dk_at dksX26_find_1 6 rfl rfl)
theorem dX26_find_30 : decode cX26_find 30 = .ok (.ireturn, 1) := dk_172 (dk_at dksX26_find_1 7 rfl rfl)
abbrev cX26_areAlike : ByteArray := prog_27_method_3_code
def yX26_areAlike : MethodName := ⟨RX26, "areAlike", "(II)Z"⟩
def dkwX26_areAlike_1 : List UInt8 := [27, 46, 42, 180, 0, 21, 28, 46, 160, 0, 7, 4, 167, 0, 4, 3, 172]
abbrev dktX26_areAlike_1 : List UInt8 := dkwX26_areAlike_1 ++ []
def dkwX26_areAlike_0 : List UInt8 := [27, 28, 159, 0, 37, 42, 180, 0, 15, 27, 46, 42, 180, 0, 15, 28, 46, 160, 0, 22, 42, 180, 0, 21]
abbrev dktX26_areAlike_0 : List UInt8 := dkwX26_areAlike_0 ++ dktX26_areAlike_1
theorem dksX26_areAlike_0 : cX26_areAlike.data.toList.drop 0 = dktX26_areAlike_0 := by decide +kernel
theorem dksX26_areAlike_1 : cX26_areAlike.data.toList.drop 24 = dktX26_areAlike_1 := dk_seg dksX26_areAlike_0 24 rfl rfl
theorem dX26_areAlike_0 : decode cX26_areAlike 0 = .ok (.iload_n 1, 1) := dk_27 (dk_at dksX26_areAlike_0 0 rfl rfl)
theorem dX26_areAlike_1 : decode cX26_areAlike 1 = .ok (.iload_n 2, 1) := dk_28 (dk_at dksX26_areAlike_0 1 rfl rfl)
theorem dX26_areAlike_2 : decode cX26_areAlike 2 = .ok (.if_icmp .eq 37, 3) := dk_159 0 37 (dk_at dksX26_areAlike_0 2 rfl rfl)
theorem dX26_areAlike_5 : decode cX26_areAlike 5 = .ok (.aload_n 0, 1) := dk_42 (dk_at dksX26_areAlike_0 5 rfl rfl)
theorem dX26_areAlike_6 : decode cX26_areAlike 6 = .ok (.getfield 15, 3) := dk_180 0 15 (dk_at dksX26_areAlike_0 6 rfl rfl)
theorem dX26_areAlike_9 : decode cX26_areAlike 9 = .ok (.iload_n 1, 1) := dk_27 (dk_at dksX26_areAlike_0 9 rfl rfl)
theorem dX26_areAlike_10 : decode cX26_areAlike 10 = .ok (.iaload, 1) := dk_46 (dk_at dksX26_areAlike_0 10 rfl rfl)
theorem dX26_areAlike_11 : decode cX26_areAlike 11 = .ok (.aload_n 0, 1) := dk_42 (dk_at dksX26_areAlike_0 11 rfl rfl)
theorem dX26_areAlike_12 : decode cX26_areAlike 12 = .ok (.getfield 15, 3) := dk_180 0 15 (dk_at dksX26_areAlike_0 12 rfl rfl)
theorem dX26_areAlike_15 : decode cX26_areAlike 15 = .ok (.iload_n 2, 1) := dk_28 (dk_at dksX26_areAlike_0 15 rfl rfl)
theorem dX26_areAlike_16 : decode cX26_areAlike 16 = .ok (.iaload, 1) := dk_46 (dk_at dksX26_areAlike_0 16 rfl rfl)
theorem dX26_areAlike_17 : decode cX26_areAlike 17 = .ok (.if_icmp .ne 22, 3) := dk_160 0 22 (dk_at dksX26_areAlike_0 17 rfl rfl)
theorem dX26_areAlike_20 : decode cX26_areAlike 20 = .ok (.aload_n 0, 1) := dk_42 (dk_at dksX26_areAlike_0 20 rfl rfl)
theorem dX26_areAlike_21 : decode cX26_areAlike 21 = .ok (.getfield 21, 3) := dk_180 0 21 (dk_at dksX26_areAlike_0 21 rfl rfl)
theorem dX26_areAlike_24 : decode cX26_areAlike 24 = .ok (.iload_n 1, 1) := dk_27 (dk_at dksX26_areAlike_1 0 rfl rfl)
theorem dX26_areAlike_25 : decode cX26_areAlike 25 = .ok (.iaload, 1) := dk_46 (dk_at dksX26_areAlike_1 1 rfl rfl)
theorem dX26_areAlike_26 : decode cX26_areAlike 26 = .ok (.aload_n 0, 1) := dk_42 (dk_at dksX26_areAlike_1 2 rfl rfl)
theorem dX26_areAlike_27 : decode cX26_areAlike 27 = .ok (.getfield 21, 3) := dk_180 0 21 (dk_at dksX26_areAlike_1 3 rfl rfl)
theorem dX26_areAlike_30 : decode cX26_areAlike 30 = .ok (.iload_n 2, 1) := dk_28 (dk_at dksX26_areAlike_1 6 rfl rfl)
theorem dX26_areAlike_31 : decode cX26_areAlike 31 = .ok (.iaload, 1) := dk_46 (dk_at dksX26_areAlike_1 7 rfl rfl)
theorem dX26_areAlike_32 : decode cX26_areAlike 32 = .ok (.if_icmp .ne 7, 3) := dk_160 0 7 (dk_at dksX26_areAlike_1 8 rfl rfl)
theorem dX26_areAlike_35 : decode cX26_areAlike 35 = .ok (.iconst 1, 1) := dk_4 (dk_at dksX26_areAlike_1 11 rfl rfl)
theorem dX26_areAlike_36 : decode cX26_areAlike 36 = .ok (.goto 4, 3) := dk_167 0 4 (dk_at dksX26_areAlike_1 12 rfl rfl)
theorem dX26_areAlike_39 : decode cX26_areAlike 39 = .ok (.iconst 0, 1) := dk_3 (dk_at dksX26_areAlike_1 15 rfl rfl)
theorem dX26_areAlike_40 : decode cX26_areAlike 40 = .ok (.ireturn, 1) := dk_172 (dk_at dksX26_areAlike_1 16 rfl rfl)
theorem q150 : (Jvm.Cond.initialized "UmbrellaHeirModel$County") ∈ lw_all := lw_g (lw_at lw_m1 36 rfl) rfl
theorem q1662 : (Jvm.Cond.instantiable "UmbrellaHeirModel$County" (23 : Nat)) ∈ lw_all := lw_g (lw_at lw_m7 108 rfl) rfl
theorem q1664 : (Jvm.Cond.instanceMethod ({ cls := "UmbrellaHeirModel$County", name := "<init>", desc := "()V" } : Jvm.MethodName)) ∈ lw_all := lw_g (lw_at lw_m7 110 rfl) rfl
theorem q1665 : (Jvm.Cond.code ({ cls := "UmbrellaHeirModel$County", name := "<init>", desc := "()V" } : Jvm.MethodName) prog_27_method_1_code (1 : Nat) (Option.none : Option Jvm.ClassFile.FieldType)) ∈ lw_all := lw_g (lw_at lw_m7 111 rfl) rfl
theorem q1666 : (Jvm.Cond.methodLink "UmbrellaHeirModel$County" (3 : Nat) ({ cls := "java/lang/Object", name := "<init>", desc := "()V" } : Jvm.MethodName)) ∈ lw_all := lw_g (lw_at lw_m7 112 rfl) rfl
theorem q1674 : (Jvm.Cond.fieldLink "UmbrellaHeirModel$County" (58 : Nat) "UmbrellaHeirModel$County" "names" "I") ∈ lw_all := lw_g (lw_at lw_m7 120 rfl) rfl
theorem q1676 : (Jvm.Cond.fieldLink "UmbrellaHeirModel$County" (9 : Nat) "UmbrellaHeirModel$County" "sort" "[I") ∈ lw_all := lw_g (lw_at lw_m7 122 rfl) rfl
theorem q1678 : (Jvm.Cond.fieldLink "UmbrellaHeirModel$County" (15 : Nat) "UmbrellaHeirModel$County" "kind" "[I") ∈ lw_all := lw_g (lw_at lw_m7 124 rfl) rfl
theorem q1680 : (Jvm.Cond.fieldLink "UmbrellaHeirModel$County" (18 : Nat) "UmbrellaHeirModel$County" "lands" "[I") ∈ lw_all := lw_g (lw_at lw_m7 126 rfl) rfl
theorem q1682 : (Jvm.Cond.fieldLink "UmbrellaHeirModel$County" (21 : Nat) "UmbrellaHeirModel$County" "ribs" "[I") ∈ lw_all := lw_g (lw_at lw_m7 128 rfl) rfl
theorem q1684 : (Jvm.Cond.fieldLink "UmbrellaHeirModel$County" (24 : Nat) "UmbrellaHeirModel$County" "with" "[I") ∈ lw_all := lw_g (lw_at lw_m7 130 rfl) rfl
theorem q1686 : (Jvm.Cond.fieldLink "UmbrellaHeirModel$County" (27 : Nat) "UmbrellaHeirModel$County" "what" "[I") ∈ lw_all := lw_g (lw_at lw_m7 132 rfl) rfl
theorem q1688 : (Jvm.Cond.fieldLink "UmbrellaHeirModel$County" (30 : Nat) "UmbrellaHeirModel$County" "one" "[I") ∈ lw_all := lw_g (lw_at lw_m7 134 rfl) rfl
theorem q1690 : (Jvm.Cond.fieldLink "UmbrellaHeirModel$County" (33 : Nat) "UmbrellaHeirModel$County" "other" "[I") ∈ lw_all := lw_g (lw_at lw_m7 136 rfl) rfl
theorem q1692 : (Jvm.Cond.fieldLink "UmbrellaHeirModel$County" (36 : Nat) "UmbrellaHeirModel$County" "day" "[I") ∈ lw_all := lw_g (lw_at lw_m7 138 rfl) rfl
theorem q1694 : (Jvm.Cond.fieldLink "UmbrellaHeirModel$County" (39 : Nat) "UmbrellaHeirModel$County" "claimer" "[I") ∈ lw_all := lw_g (lw_at lw_m7 140 rfl) rfl
theorem q1696 : (Jvm.Cond.fieldLink "UmbrellaHeirModel$County" (42 : Nat) "UmbrellaHeirModel$County" "claimed" "[I") ∈ lw_all := lw_g (lw_at lw_m7 142 rfl) rfl
theorem q1698 : (Jvm.Cond.fieldLink "UmbrellaHeirModel$County" (45 : Nat) "UmbrellaHeirModel$County" "claimDay" "[I") ∈ lw_all := lw_g (lw_at lw_m7 144 rfl) rfl
theorem q1700 : (Jvm.Cond.fieldLink "UmbrellaHeirModel$County" (48 : Nat) "UmbrellaHeirModel$County" "name" "[J") ∈ lw_all := lw_g (lw_at lw_m7 146 rfl) rfl
theorem q1702 : (Jvm.Cond.fieldLink "UmbrellaHeirModel$County" (52 : Nat) "UmbrellaHeirModel$County" "nameSort" "[I") ∈ lw_all := lw_g (lw_at lw_m7 148 rfl) rfl
theorem q1704 : (Jvm.Cond.fieldLink "UmbrellaHeirModel$County" (55 : Nat) "UmbrellaHeirModel$County" "numberOf" "[I") ∈ lw_all := lw_g (lw_at lw_m7 150 rfl) rfl
theorem q1706 : (Jvm.Cond.lays "UmbrellaHeirModel$County" "UmbrellaHeirModel$County" "lapse" "I") ∈ lw_all := lw_g (lw_at lw_m7 152 rfl) rfl
theorem q1707 : (Jvm.Cond.soleField "UmbrellaHeirModel$County" "lapse") ∈ lw_all := lw_g (lw_at lw_m7 153 rfl) rfl
theorem q1708 : (Jvm.Cond.lays "UmbrellaHeirModel$County" "UmbrellaHeirModel$County" "gust" "I") ∈ lw_all := lw_g (lw_at lw_m7 154 rfl) rfl
theorem q1709 : (Jvm.Cond.soleField "UmbrellaHeirModel$County" "gust") ∈ lw_all := lw_g (lw_at lw_m7 155 rfl) rfl
theorem q1710 : (Jvm.Cond.lays "UmbrellaHeirModel$County" "UmbrellaHeirModel$County" "rains" "I") ∈ lw_all := lw_g (lw_at lw_m7 156 rfl) rfl
theorem q1711 : (Jvm.Cond.soleField "UmbrellaHeirModel$County" "rains") ∈ lw_all := lw_g (lw_at lw_m7 157 rfl) rfl
theorem q1712 : (Jvm.Cond.lays "UmbrellaHeirModel$County" "UmbrellaHeirModel$County" "people" "I") ∈ lw_all := lw_g (lw_at lw_m7 158 rfl) rfl
theorem q1713 : (Jvm.Cond.soleField "UmbrellaHeirModel$County" "people") ∈ lw_all := lw_g (lw_at lw_m7 159 rfl) rfl
theorem q1714 : (Jvm.Cond.lays "UmbrellaHeirModel$County" "UmbrellaHeirModel$County" "umbrellas" "I") ∈ lw_all := lw_g (lw_at lw_m7 160 rfl) rfl
theorem q1715 : (Jvm.Cond.soleField "UmbrellaHeirModel$County" "umbrellas") ∈ lw_all := lw_g (lw_at lw_m7 161 rfl) rfl
theorem q1716 : (Jvm.Cond.lays "UmbrellaHeirModel$County" "UmbrellaHeirModel$County" "logs" "I") ∈ lw_all := lw_g (lw_at lw_m7 162 rfl) rfl
theorem q1717 : (Jvm.Cond.soleField "UmbrellaHeirModel$County" "logs") ∈ lw_all := lw_g (lw_at lw_m7 163 rfl) rfl
theorem q1718 : (Jvm.Cond.lays "UmbrellaHeirModel$County" "UmbrellaHeirModel$County" "claims" "I") ∈ lw_all := lw_g (lw_at lw_m7 164 rfl) rfl
theorem q1719 : (Jvm.Cond.soleField "UmbrellaHeirModel$County" "claims") ∈ lw_all := lw_g (lw_at lw_m7 165 rfl) rfl
theorem q1720 : (Jvm.Cond.lays "UmbrellaHeirModel$County" "UmbrellaHeirModel$County" "names" "I") ∈ lw_all := lw_g (lw_at lw_m7 166 rfl) rfl
theorem q1721 : (Jvm.Cond.soleField "UmbrellaHeirModel$County" "names") ∈ lw_all := lw_g (lw_at lw_m7 167 rfl) rfl
theorem q1722 : (Jvm.Cond.laysFinal "UmbrellaHeirModel$County" "UmbrellaHeirModel$County" "sort" "[I") ∈ lw_all := lw_g (lw_at lw_m7 168 rfl) rfl
theorem q1723 : (Jvm.Cond.soleField "UmbrellaHeirModel$County" "sort") ∈ lw_all := lw_g (lw_at lw_m7 169 rfl) rfl
theorem q1724 : (Jvm.Cond.laysFinal "UmbrellaHeirModel$County" "UmbrellaHeirModel$County" "kind" "[I") ∈ lw_all := lw_g (lw_at lw_m7 170 rfl) rfl
theorem q1725 : (Jvm.Cond.soleField "UmbrellaHeirModel$County" "kind") ∈ lw_all := lw_g (lw_at lw_m7 171 rfl) rfl
theorem q1726 : (Jvm.Cond.laysFinal "UmbrellaHeirModel$County" "UmbrellaHeirModel$County" "lands" "[I") ∈ lw_all := lw_g (lw_at lw_m7 172 rfl) rfl
theorem q1727 : (Jvm.Cond.soleField "UmbrellaHeirModel$County" "lands") ∈ lw_all := lw_g (lw_at lw_m7 173 rfl) rfl
theorem q1728 : (Jvm.Cond.laysFinal "UmbrellaHeirModel$County" "UmbrellaHeirModel$County" "ribs" "[I") ∈ lw_all := lw_g (lw_at lw_m7 174 rfl) rfl
theorem q1729 : (Jvm.Cond.soleField "UmbrellaHeirModel$County" "ribs") ∈ lw_all := lw_g (lw_at lw_m7 175 rfl) rfl
theorem q1730 : (Jvm.Cond.laysFinal "UmbrellaHeirModel$County" "UmbrellaHeirModel$County" "with" "[I") ∈ lw_all := lw_g (lw_at lw_m7 176 rfl) rfl
theorem q1731 : (Jvm.Cond.soleField "UmbrellaHeirModel$County" "with") ∈ lw_all := lw_g (lw_at lw_m7 177 rfl) rfl
theorem q1732 : (Jvm.Cond.laysFinal "UmbrellaHeirModel$County" "UmbrellaHeirModel$County" "what" "[I") ∈ lw_all := lw_g (lw_at lw_m7 178 rfl) rfl
theorem q1733 : (Jvm.Cond.soleField "UmbrellaHeirModel$County" "what") ∈ lw_all := lw_g (lw_at lw_m7 179 rfl) rfl
theorem q1734 : (Jvm.Cond.laysFinal "UmbrellaHeirModel$County" "UmbrellaHeirModel$County" "one" "[I") ∈ lw_all := lw_g (lw_at lw_m7 180 rfl) rfl
theorem q1735 : (Jvm.Cond.soleField "UmbrellaHeirModel$County" "one") ∈ lw_all := lw_g (lw_at lw_m7 181 rfl) rfl
theorem q1736 : (Jvm.Cond.laysFinal "UmbrellaHeirModel$County" "UmbrellaHeirModel$County" "other" "[I") ∈ lw_all := lw_g (lw_at lw_m7 182 rfl) rfl
theorem q1737 : (Jvm.Cond.soleField "UmbrellaHeirModel$County" "other") ∈ lw_all := lw_g (lw_at lw_m7 183 rfl) rfl
theorem q1738 : (Jvm.Cond.laysFinal "UmbrellaHeirModel$County" "UmbrellaHeirModel$County" "day" "[I") ∈ lw_all := lw_g (lw_at lw_m7 184 rfl) rfl
theorem q1739 : (Jvm.Cond.soleField "UmbrellaHeirModel$County" "day") ∈ lw_all := lw_g (lw_at lw_m7 185 rfl) rfl
theorem q1740 : (Jvm.Cond.laysFinal "UmbrellaHeirModel$County" "UmbrellaHeirModel$County" "claimer" "[I") ∈ lw_all := lw_g (lw_at lw_m7 186 rfl) rfl
theorem q1741 : (Jvm.Cond.soleField "UmbrellaHeirModel$County" "claimer") ∈ lw_all := lw_g (lw_at lw_m7 187 rfl) rfl
theorem q1742 : (Jvm.Cond.laysFinal "UmbrellaHeirModel$County" "UmbrellaHeirModel$County" "claimed" "[I") ∈ lw_all := lw_g (lw_at lw_m7 188 rfl) rfl
theorem q1743 : (Jvm.Cond.soleField "UmbrellaHeirModel$County" "claimed") ∈ lw_all := lw_g (lw_at lw_m7 189 rfl) rfl
theorem q1744 : (Jvm.Cond.laysFinal "UmbrellaHeirModel$County" "UmbrellaHeirModel$County" "claimDay" "[I") ∈ lw_all := lw_g (lw_at lw_m7 190 rfl) rfl
theorem q1745 : (Jvm.Cond.soleField "UmbrellaHeirModel$County" "claimDay") ∈ lw_all := lw_g (lw_at lw_m7 191 rfl) rfl
theorem q1746 : (Jvm.Cond.laysFinal "UmbrellaHeirModel$County" "UmbrellaHeirModel$County" "name" "[J") ∈ lw_all := lw_g (lw_at lw_m7 192 rfl) rfl
theorem q1747 : (Jvm.Cond.soleField "UmbrellaHeirModel$County" "name") ∈ lw_all := lw_g (lw_at lw_m7 193 rfl) rfl
theorem q1748 : (Jvm.Cond.laysFinal "UmbrellaHeirModel$County" "UmbrellaHeirModel$County" "nameSort" "[I") ∈ lw_all := lw_g (lw_at lw_m7 194 rfl) rfl
theorem q1749 : (Jvm.Cond.soleField "UmbrellaHeirModel$County" "nameSort") ∈ lw_all := lw_g (lw_at lw_m7 195 rfl) rfl
theorem q1750 : (Jvm.Cond.laysFinal "UmbrellaHeirModel$County" "UmbrellaHeirModel$County" "numberOf" "[I") ∈ lw_all := lw_g (lw_at lw_m7 196 rfl) rfl
theorem q1751 : (Jvm.Cond.soleField "UmbrellaHeirModel$County" "numberOf") ∈ lw_all := lw_g (lw_at lw_m7 197 rfl) rfl
theorem q1752 : (Jvm.Cond.superclass "UmbrellaHeirModel$County" "java/lang/Object") ∈ lw_all := lw_g (lw_at lw_m7 198 rfl) rfl
theorem q1863 : (Jvm.Cond.instanceMethod ({ cls := "UmbrellaHeirModel$County", name := "find", desc := "(J)I" } : Jvm.MethodName)) ∈ lw_all := lw_g (lw_at lw_m8 69 rfl) rfl
theorem q1864 : (Jvm.Cond.selects "UmbrellaHeirModel$County" ({ cls := "UmbrellaHeirModel$County", name := "find", desc := "(J)I" } : Jvm.MethodName) ({ cls := "UmbrellaHeirModel$County", name := "find", desc := "(J)I" } : Jvm.MethodName)) ∈ lw_all := lw_g (lw_at lw_m8 70 rfl) rfl
theorem q1865 : (Jvm.Cond.code ({ cls := "UmbrellaHeirModel$County", name := "find", desc := "(J)I" } : Jvm.MethodName) prog_27_method_2_code (4 : Nat) (Option.some Jvm.ClassFile.FieldType.int)) ∈ lw_all := lw_g (lw_at lw_m8 71 rfl) rfl
theorem q1970 : (Jvm.Cond.instanceMethod ({ cls := "UmbrellaHeirModel$County", name := "areAlike", desc := "(II)Z" } : Jvm.MethodName)) ∈ lw_all := lw_g (lw_at lw_m8 176 rfl) rfl
theorem q1971 : (Jvm.Cond.selects "UmbrellaHeirModel$County" ({ cls := "UmbrellaHeirModel$County", name := "areAlike", desc := "(II)Z" } : Jvm.MethodName) ({ cls := "UmbrellaHeirModel$County", name := "areAlike", desc := "(II)Z" } : Jvm.MethodName)) ∈ lw_all := lw_g (lw_at lw_m8 177 rfl) rfl
theorem q1972 : (Jvm.Cond.code ({ cls := "UmbrellaHeirModel$County", name := "areAlike", desc := "(II)Z" } : Jvm.MethodName) prog_27_method_3_code (3 : Nat) (Option.some Jvm.ClassFile.FieldType.boolean)) ∈ lw_all := lw_g (lw_at lw_m8 178 rfl) rfl
theorem q2322 : (Jvm.Cond.castable "UmbrellaHeirModel$County" "java/lang/Object") ∈ lw_tbl := lw_at lw_m10 48 rfl
theorem in_X26 : ∀ w ∈ wsX260, w ∈ lw_all := lw_in wsX260 [1706, 1708, 1710, 1712, 1714, 1716, 1718, 1720, 1722, 1724, 1726, 1728, 1730, 1732, 1734, 1736, 1738, 1740, 1742, 1744, 1746, 1748, 1750] (by decide +kernel) (by decide +kernel)
/-! UmbrellaHeirModel -/
set_option maxRecDepth 100000
def RX8 : String := "UmbrellaHeirModel"
def TX8 : u_T := fun k => match k with
  | 0 => ("UmbrellaHeirModel", "thrown", "I", false)
  | 1 => ("UmbrellaHeirModel", "trouble", "I", false)
  | 2 => ("UmbrellaHeirModel", "where", "I", false)
  | 3 => ("UmbrellaHeirModel", "county", "LUmbrellaHeirModel$County;", false)
  | 4 => ("UmbrellaHeirModel", "read", "LUmbrellaHeirModel$County;", false)
  | 5 => ("UmbrellaHeirModel", "tape", "[B", true)
  | 6 => ("UmbrellaHeirModel", "taped", "I", false)
  | 7 => ("UmbrellaHeirModel", "size", "I", false)
  | 8 => ("UmbrellaHeirModel", "spot", "I", false)
  | 9 => ("UmbrellaHeirModel", "sort", "I", false)
  | 10 => ("UmbrellaHeirModel", "place", "I", false)
  | 11 => ("UmbrellaHeirModel", "number", "I", false)
  | 12 => ("UmbrellaHeirModel", "fault", "I", false)
  | 13 => ("UmbrellaHeirModel", "wrongAt", "I", false)
  | 14 => ("UmbrellaHeirModel", "word", "J", false)
  | 15 => ("UmbrellaHeirModel", "v", "[I", true)
  | 16 => ("UmbrellaHeirModel", "x", "[I", true)
  | 17 => ("UmbrellaHeirModel", "past", "[I", true)
  | 18 => ("UmbrellaHeirModel", "kept", "[I", true)
  | 19 => ("UmbrellaHeirModel", "acts", "I", false)
  | 20 => ("UmbrellaHeirModel", "marks", "I", false)
  | 21 => ("UmbrellaHeirModel", "foundWay", "I", false)
  | 22 => ("UmbrellaHeirModel", "row", "[I", true)
  | 23 => ("UmbrellaHeirModel", "bestRow", "[I", true)
  | 24 => ("UmbrellaHeirModel", "bestRight", "I", false)
  | 25 => ("UmbrellaHeirModel", "bestMany", "I", false)
  | 26 => ("UmbrellaHeirModel", "under", "[I", true)
  | 27 => ("UmbrellaHeirModel", "bestUnder", "[I", true)
  | 28 => ("UmbrellaHeirModel", "free", "[I", true)
  | 29 => ("UmbrellaHeirModel", "danger", "I", false)
  | 30 => ("UmbrellaHeirModel", "mostOf", "I", false)
  | _ => ("UmbrellaHeirModel", "seedNow", "I", false)
def tyX8 : Nat → FieldType := fun k => match k with
  | 0 => .int
  | 1 => .int
  | 2 => .int
  | 3 => .object "UmbrellaHeirModel$County"
  | 4 => .object "UmbrellaHeirModel$County"
  | 5 => .array .byte
  | 6 => .int
  | 7 => .int
  | 8 => .int
  | 9 => .int
  | 10 => .int
  | 11 => .int
  | 12 => .int
  | 13 => .int
  | 14 => .long
  | 15 => .array .int
  | 16 => .array .int
  | 17 => .array .int
  | 18 => .array .int
  | 19 => .int
  | 20 => .int
  | 21 => .int
  | 22 => .array .int
  | 23 => .array .int
  | 24 => .int
  | 25 => .int
  | 26 => .array .int
  | 27 => .array .int
  | 28 => .array .int
  | 29 => .int
  | 30 => .int
  | _ => .int
abbrev wsX80 : List Cond := u_ws RX8 TX8 32
set_option maxRecDepth 100000 in
theorem nmX8 : ∀ a, a < 32 → ∀ b, b < 32 → a ≠ b → (TX8 a).2.1 ≠ (TX8 b).2.1 := by decide +kernel
set_option maxRecDepth 100000 in
theorem tyX8_ok : ∀ k, k < 32 → parseFieldDescriptor (TX8 k).2.2.1 = some (tyX8 k) := by decide +kernel
abbrev cX8_init : ByteArray := prog_26_method_1_code
def yX8_init : MethodName := ⟨RX8, "<init>", "()V"⟩
def dkwX8_init_3 : List UInt8 := [181, 0, 36, 42, 16, 6, 188, 10, 181, 0, 39, 42, 8, 188, 10, 181, 0, 42, 177]
abbrev dktX8_init_3 : List UInt8 := dkwX8_init_3 ++ []
def dkwX8_init_2 : List UInt8 := [188, 10, 181, 0, 27, 42, 6, 188, 10, 181, 0, 30, 42, 6, 188, 10, 181, 0, 33, 42, 16, 6, 188, 10]
abbrev dktX8_init_2 : List UInt8 := dkwX8_init_2 ++ dktX8_init_3
def dkwX8_init_1 : List UInt8 := [181, 0, 17, 42, 16, 11, 188, 10, 181, 0, 21, 42, 17, 0, 176, 188, 10, 181, 0, 24, 42, 16, 33]
abbrev dktX8_init_1 : List UInt8 := dkwX8_init_1 ++ dktX8_init_2
def dkwX8_init_0 : List UInt8 := [42, 183, 0, 3, 42, 2, 181, 0, 9, 42, 17, 3, 232, 188, 8, 181, 0, 13, 42, 16, 11, 188, 10]
abbrev dktX8_init_0 : List UInt8 := dkwX8_init_0 ++ dktX8_init_1
theorem dksX8_init_0 : cX8_init.data.toList.drop 0 = dktX8_init_0 := by decide +kernel
theorem dksX8_init_1 : cX8_init.data.toList.drop 23 = dktX8_init_1 := dk_seg dksX8_init_0 23 rfl rfl
theorem dksX8_init_2 : cX8_init.data.toList.drop 46 = dktX8_init_2 := dk_seg dksX8_init_1 23 rfl rfl
theorem dksX8_init_3 : cX8_init.data.toList.drop 70 = dktX8_init_3 := dk_seg dksX8_init_2 24 rfl rfl
theorem dX8_init_0 : decode cX8_init 0 = .ok (.aload_n 0, 1) := dk_42 (dk_at dksX8_init_0 0 rfl rfl)
theorem dX8_init_1 : decode cX8_init 1 = .ok (.invokespecial 3, 3) := dk_183 0 3 (dk_at dksX8_init_0 1 rfl rfl)
theorem dX8_init_4 : decode cX8_init 4 = .ok (.aload_n 0, 1) := dk_42 (dk_at dksX8_init_0 4 rfl rfl)
theorem dX8_init_5 : decode cX8_init 5 = .ok (.iconst (-1), 1) := dk_2 (dk_at dksX8_init_0 5 rfl rfl)
theorem dX8_init_6 : decode cX8_init 6 = .ok (.putfield 9, 3) := dk_181 0 9 (dk_at dksX8_init_0 6 rfl rfl)
theorem dX8_init_9 : decode cX8_init 9 = .ok (.aload_n 0, 1) := dk_42 (dk_at dksX8_init_0 9 rfl rfl)
theorem dX8_init_10 : decode cX8_init 10 = .ok (.sipush 1000, 3) := dk_17 3 232 (dk_at dksX8_init_0 10 rfl rfl)
theorem dX8_init_13 : decode cX8_init 13 = .ok (.newarray .byte, 2) := dk_188_8 (dk_at dksX8_init_0 13 rfl rfl)
theorem dX8_init_15 : decode cX8_init 15 = .ok (.putfield 13, 3) := dk_181 0 13 (dk_at dksX8_init_0 15 rfl rfl)
theorem dX8_init_18 : decode cX8_init 18 = .ok (.aload_n 0, 1) := dk_42 (dk_at dksX8_init_0 18 rfl rfl)
theorem dX8_init_19 : decode cX8_init 19 = .ok (.bipush 11, 2) := dk_16 11 (dk_at dksX8_init_0 19 rfl rfl)
theorem dX8_init_21 : decode cX8_init 21 = .ok (.newarray .int, 2) := dk_188_10 (dk_at dksX8_init_0 21 rfl rfl)
theorem dX8_init_23 : decode cX8_init 23 = .ok (.putfield 17, 3) := dk_181 0 17 (dk_at dksX8_init_1 0 rfl rfl)
theorem dX8_init_26 : decode cX8_init 26 = .ok (.aload_n 0, 1) := dk_42 (dk_at dksX8_init_1 3 rfl rfl)
theorem dX8_init_27 : decode cX8_init 27 = .ok (.bipush 11, 2) := dk_16 11 (dk_at dksX8_init_1 4 rfl rfl)
theorem dX8_init_29 : decode cX8_init 29 = .ok (.newarray .int, 2) := dk_188_10 (dk_at dksX8_init_1 6 rfl rfl)
theorem dX8_init_31 : decode cX8_init 31 = .ok (.putfield 21, 3) := dk_181 0 21 (dk_at dksX8_init_1 8 rfl rfl)
theorem dX8_init_34 : decode cX8_init 34 = .ok (.aload_n 0, 1) := dk_42 (dk_at dksX8_init_1 11 rfl rfl)
theorem dX8_init_35 : decode cX8_init 35 = .ok (.sipush 176, 3) := dk_17 0 176 (dk_at dksX8_init_1 12 rfl rfl)
theorem dX8_init_38 : decode cX8_init 38 = .ok (.newarray .int, 2) := dk_188_10 (dk_at dksX8_init_1 15 rfl rfl)
theorem dX8_init_40 : decode cX8_init 40 = .ok (.putfield 24, 3) := dk_181 0 24 (dk_at dksX8_init_1 17 rfl rfl)
theorem dX8_init_43 : decode cX8_init 43 = .ok (.aload_n 0, 1) := dk_42 (dk_at dksX8_init_1 20 rfl rfl)
theorem dX8_init_44 : decode cX8_init 44 = .ok (.bipush 33, 2) := dk_16 33 (dk_at dksX8_init_1 21 rfl rfl)
theorem dX8_init_46 : decode cX8_init 46 = .ok (.newarray .int, 2) := dk_188_10 (dk_at dksX8_init_2 0 rfl rfl)
theorem dX8_init_48 : decode cX8_init 48 = .ok (.putfield 27, 3) := dk_181 0 27 (dk_at dksX8_init_2 2 rfl rfl)
theorem dX8_init_51 : decode cX8_init 51 = .ok (.aload_n 0, 1) := dk_42 (dk_at dksX8_init_2 5 rfl rfl)
theorem dX8_init_52 : decode cX8_init 52 = .ok (.iconst 3, 1) := dk_6 (dk_at dksX8_init_2 6 rfl rfl)
theorem dX8_init_53 : decode cX8_init 53 = .ok (.newarray .int, 2) := dk_188_10 (dk_at dksX8_init_2 7 rfl rfl)
theorem dX8_init_55 : decode cX8_init 55 = .ok (.putfield 30, 3) := dk_181 0 30 (dk_at dksX8_init_2 9 rfl rfl)
theorem dX8_init_58 : decode cX8_init 58 = .ok (.aload_n 0, 1) := dk_42 (dk_at dksX8_init_2 12 rfl rfl)
theorem dX8_init_59 : decode cX8_init 59 = .ok (.iconst 3, 1) := dk_6 (dk_at dksX8_init_2 13 rfl rfl)
theorem dX8_init_60 : decode cX8_init 60 = .ok (.newarray .int, 2) := dk_188_10 (dk_at dksX8_init_2 14 rfl rfl)
theorem dX8_init_62 : decode cX8_init 62 = .ok (.putfield 33, 3) := dk_181 0 33 (dk_at dksX8_init_2 16 rfl rfl)
theorem dX8_init_65 : decode cX8_init 65 = .ok (.aload_n 0, 1) := dk_42 (dk_at dksX8_init_2 19 rfl rfl)
theorem dX8_init_66 : decode cX8_init 66 = .ok (.bipush 6, 2) := dk_16 6 (dk_at dksX8_init_2 20 rfl rfl)
theorem dX8_init_68 : decode cX8_init 68 = .ok (.newarray .int, 2) := dk_188_10 (dk_at dksX8_init_2 22 rfl rfl)
theorem dX8_init_70 : decode cX8_init 70 = .ok (.putfield 36, 3) := dk_181 0 36 (dk_at dksX8_init_3 0 rfl rfl)
theorem dX8_init_73 : decode cX8_init 73 = .ok (.aload_n 0, 1) := dk_42 (dk_at dksX8_init_3 3 rfl rfl)
theorem dX8_init_74 : decode cX8_init 74 = .ok (.bipush 6, 2) := dk_16 6 (dk_at dksX8_init_3 4 rfl rfl)
theorem dX8_init_76 : decode cX8_init 76 = .ok (.newarray .int, 2) := dk_188_10 (dk_at dksX8_init_3 6 rfl rfl)
theorem dX8_init_78 : decode cX8_init 78 = .ok (.putfield 39, 3) := dk_181 0 39 (dk_at dksX8_init_3 8 rfl rfl)
theorem dX8_init_81 : decode cX8_init 81 = .ok (.aload_n 0, 1) := dk_42 (dk_at dksX8_init_3 11 rfl rfl)
theorem dX8_init_82 : decode cX8_init 82 = .ok (.iconst 5, 1) := dk_8 (dk_at dksX8_init_3 12 rfl rfl)
theorem dX8_init_83 : decode cX8_init 83 = .ok (.newarray .int, 2) := dk_188_10 (dk_at dksX8_init_3 13 rfl rfl)
theorem dX8_init_85 : decode cX8_init 85 = .ok (.putfield 42, 3) := dk_181 0 42 (dk_at dksX8_init_3 15 rfl rfl)
theorem dX8_init_88 : decode cX8_init 88 = .ok (.return_, 1) := dk_177 (dk_at dksX8_init_3 18 rfl rfl)
abbrev cX8_thrown : ByteArray := prog_26_method_2_code
def yX8_thrown : MethodName := ⟨RX8, "thrown", "()I"⟩
theorem dX8_thrown_0 : decode cX8_thrown 0 = .ok (.aload_n 0, 1) := by decide +kernel
theorem dX8_thrown_1 : decode cX8_thrown 1 = .ok (.getfield 45, 3) := by decide +kernel
theorem dX8_thrown_4 : decode cX8_thrown 4 = .ok (.ireturn, 1) := by decide +kernel
abbrev cX8_feed : ByteArray := prog_26_method_41_code
def yX8_feed : MethodName := ⟨RX8, "feed", "(IIIII)I"⟩
def dkwX8_feed_5 : List UInt8 := [180, 1, 53, 172]
abbrev dktX8_feed_5 : List UInt8 := dkwX8_feed_5 ++ []
def dkwX8_feed_4 : List UInt8 := [112, 104, 100, 122, 145, 84, 42, 89, 180, 1, 53, 4, 96, 181, 1, 53, 132, 6, 1, 167, 255, 165, 42]
abbrev dktX8_feed_4 : List UInt8 := dkwX8_feed_4 ++ dktX8_feed_5
def dkwX8_feed_3 : List UInt8 := [167, 0, 5, 21, 5, 54, 7, 42, 180, 0, 13, 42, 180, 1, 53, 21, 7, 16, 24, 16, 8, 21, 6, 7]
abbrev dktX8_feed_3 : List UInt8 := dkwX8_feed_3 ++ dktX8_feed_4
def dkwX8_feed_2 : List UInt8 := [28, 167, 0, 28, 21, 6, 16, 12, 162, 0, 7, 29, 167, 0, 17, 21, 6, 16, 16, 162, 0, 8, 21, 4]
abbrev dktX8_feed_2 : List UInt8 := dkwX8_feed_2 ++ dktX8_feed_3
def dkwX8_feed_1 : List UInt8 := [21, 6, 16, 20, 162, 0, 90, 21, 6, 7, 162, 0, 7, 27, 167, 0, 39, 21, 6, 16, 8, 162, 0, 7]
abbrev dktX8_feed_1 : List UInt8 := dkwX8_feed_1 ++ dktX8_feed_2
def dkwX8_feed_0 : List UInt8 := [42, 3, 181, 0, 45, 42, 180, 1, 53, 16, 20, 96, 17, 3, 232, 164, 0, 5, 2, 172, 3, 54, 6]
abbrev dktX8_feed_0 : List UInt8 := dkwX8_feed_0 ++ dktX8_feed_1
theorem dksX8_feed_0 : cX8_feed.data.toList.drop 0 = dktX8_feed_0 := by decide +kernel
theorem dksX8_feed_1 : cX8_feed.data.toList.drop 23 = dktX8_feed_1 := dk_seg dksX8_feed_0 23 rfl rfl
theorem dksX8_feed_2 : cX8_feed.data.toList.drop 47 = dktX8_feed_2 := dk_seg dksX8_feed_1 24 rfl rfl
theorem dksX8_feed_3 : cX8_feed.data.toList.drop 71 = dktX8_feed_3 := dk_seg dksX8_feed_2 24 rfl rfl
theorem dksX8_feed_4 : cX8_feed.data.toList.drop 95 = dktX8_feed_4 := dk_seg dksX8_feed_3 24 rfl rfl
theorem dksX8_feed_5 : cX8_feed.data.toList.drop 118 = dktX8_feed_5 := dk_seg dksX8_feed_4 23 rfl rfl
theorem dX8_feed_0 : decode cX8_feed 0 = .ok (.aload_n 0, 1) := dk_42 (dk_at dksX8_feed_0 0 rfl rfl)
theorem dX8_feed_1 : decode cX8_feed 1 = .ok (.iconst 0, 1) := dk_3 (dk_at dksX8_feed_0 1 rfl rfl)
theorem dX8_feed_2 : decode cX8_feed 2 = .ok (.putfield 45, 3) := dk_181 0 45 (dk_at dksX8_feed_0 2 rfl rfl)
theorem dX8_feed_5 : decode cX8_feed 5 = .ok (.aload_n 0, 1) := dk_42 (dk_at dksX8_feed_0 5 rfl rfl)
theorem dX8_feed_6 : decode cX8_feed 6 = .ok (.getfield 309, 3) := dk_180 1 53 (dk_at dksX8_feed_0 6 rfl rfl)
theorem dX8_feed_9 : decode cX8_feed 9 = .ok (.bipush 20, 2) := dk_16 20 (dk_at dksX8_feed_0 9 rfl rfl)
theorem dX8_feed_11 : decode cX8_feed 11 = .ok (.iadd, 1) := dk_96 (dk_at dksX8_feed_0 11 rfl rfl)
theorem dX8_feed_12 : decode cX8_feed 12 = .ok (.sipush 1000, 3) := dk_17 3 232 (dk_at dksX8_feed_0 12 rfl rfl)
theorem dX8_feed_15 : decode cX8_feed 15 = .ok (.if_icmp .le 5, 3) := dk_164 0 5 (dk_at dksX8_feed_0 15 rfl rfl)
theorem dX8_feed_18 : decode cX8_feed 18 = .ok (.iconst (-1), 1) := dk_2 (dk_at dksX8_feed_0 18 rfl rfl)
theorem dX8_feed_19 : decode cX8_feed 19 = .ok (.ireturn, 1) := dk_172 (dk_at dksX8_feed_0 19 rfl rfl)
theorem dX8_feed_20 : decode cX8_feed 20 = .ok (.iconst 0, 1) := dk_3 (dk_at dksX8_feed_0 20 rfl rfl)
theorem dX8_feed_21 : decode cX8_feed 21 = .ok (.istore 6, 2) := dk_54 6 (dk_at dksX8_feed_0 21 rfl rfl)
theorem dX8_feed_23 : decode cX8_feed 23 = .ok (.iload 6, 2) := dk_21 6 (dk_at dksX8_feed_1 0 rfl rfl)
theorem dX8_feed_25 : decode cX8_feed 25 = .ok (.bipush 20, 2) := dk_16 20 (dk_at dksX8_feed_1 2 rfl rfl)
theorem dX8_feed_27 : decode cX8_feed 27 = .ok (.if_icmp .ge 90, 3) := dk_162 0 90 (dk_at dksX8_feed_1 4 rfl rfl)
theorem dX8_feed_30 : decode cX8_feed 30 = .ok (.iload 6, 2) := dk_21 6 (dk_at dksX8_feed_1 7 rfl rfl)
theorem dX8_feed_32 : decode cX8_feed 32 = .ok (.iconst 4, 1) := dk_7 (dk_at dksX8_feed_1 9 rfl rfl)
theorem dX8_feed_33 : decode cX8_feed 33 = .ok (.if_icmp .ge 7, 3) := dk_162 0 7 (dk_at dksX8_feed_1 10 rfl rfl)
theorem dX8_feed_36 : decode cX8_feed 36 = .ok (.iload_n 1, 1) := dk_27 (dk_at dksX8_feed_1 13 rfl rfl)
theorem dX8_feed_37 : decode cX8_feed 37 = .ok (.goto 39, 3) := dk_167 0 39 (dk_at dksX8_feed_1 14 rfl rfl)
theorem dX8_feed_40 : decode cX8_feed 40 = .ok (.iload 6, 2) := dk_21 6 (dk_at dksX8_feed_1 17 rfl rfl)
theorem dX8_feed_42 : decode cX8_feed 42 = .ok (.bipush 8, 2) := dk_16 8 (dk_at dksX8_feed_1 19 rfl rfl)
theorem dX8_feed_44 : decode cX8_feed 44 = .ok (.if_icmp .ge 7, 3) := dk_162 0 7 (dk_at dksX8_feed_1 21 rfl rfl)
theorem dX8_feed_47 : decode cX8_feed 47 = .ok (.iload_n 2, 1) := dk_28 (dk_at dksX8_feed_2 0 rfl rfl)
theorem dX8_feed_48 : decode cX8_feed 48 = .ok (.goto 28, 3) := dk_167 0 28 (dk_at dksX8_feed_2 1 rfl rfl)
theorem dX8_feed_51 : decode cX8_feed 51 = .ok (.iload 6, 2) := dk_21 6 (dk_at dksX8_feed_2 4 rfl rfl)
theorem dX8_feed_53 : decode cX8_feed 53 = .ok (.bipush 12, 2) := dk_16 12 (dk_at dksX8_feed_2 6 rfl rfl)
theorem dX8_feed_55 : decode cX8_feed 55 = .ok (.if_icmp .ge 7, 3) := dk_162 0 7 (dk_at dksX8_feed_2 8 rfl rfl)
theorem dX8_feed_58 : decode cX8_feed 58 = .ok (.iload_n 3, 1) := dk_29 (dk_at dksX8_feed_2 11 rfl rfl)
theorem dX8_feed_59 : decode cX8_feed 59 = .ok (.goto 17, 3) := dk_167 0 17 (dk_at dksX8_feed_2 12 rfl rfl)
theorem dX8_feed_62 : decode cX8_feed 62 = .ok (.iload 6, 2) := dk_21 6 (dk_at dksX8_feed_2 15 rfl rfl)
theorem dX8_feed_64 : decode cX8_feed 64 = .ok (.bipush 16, 2) := dk_16 16 (dk_at dksX8_feed_2 17 rfl rfl)
theorem dX8_feed_66 : decode cX8_feed 66 = .ok (.if_icmp .ge 8, 3) := dk_162 0 8 (dk_at dksX8_feed_2 19 rfl rfl)
theorem dX8_feed_69 : decode cX8_feed 69 = .ok (.iload 4, 2) := dk_21 4 (dk_at dksX8_feed_2 22 rfl rfl)
theorem dX8_feed_71 : decode cX8_feed 71 = .ok (.goto 5, 3) := dk_167 0 5 (dk_at dksX8_feed_3 0 rfl rfl)
theorem dX8_feed_74 : decode cX8_feed 74 = .ok (.iload 5, 2) := dk_21 5 (dk_at dksX8_feed_3 3 rfl rfl)
theorem dX8_feed_76 : decode cX8_feed 76 = .ok (.istore 7, 2) := dk_54 7 (dk_at dksX8_feed_3 5 rfl rfl)
theorem dX8_feed_78 : decode cX8_feed 78 = .ok (.aload_n 0, 1) := dk_42 (dk_at dksX8_feed_3 7 rfl rfl)
theorem dX8_feed_79 : decode cX8_feed 79 = .ok (.getfield 13, 3) := dk_180 0 13 (dk_at dksX8_feed_3 8 rfl rfl)
theorem dX8_feed_82 : decode cX8_feed 82 = .ok (.aload_n 0, 1) := dk_42 (dk_at dksX8_feed_3 11 rfl rfl)
theorem dX8_feed_83 : decode cX8_feed 83 = .ok (.getfield 309, 3) := dk_180 1 53 (dk_at dksX8_feed_3 12 rfl rfl)
theorem dX8_feed_86 : decode cX8_feed 86 = .ok (.iload 7, 2) := dk_21 7 (dk_at dksX8_feed_3 15 rfl rfl)
theorem dX8_feed_88 : decode cX8_feed 88 = .ok (.bipush 24, 2) := dk_16 24 (dk_at dksX8_feed_3 17 rfl rfl)
theorem dX8_feed_90 : decode cX8_feed 90 = .ok (.bipush 8, 2) := dk_16 8 (dk_at dksX8_feed_3 19 rfl rfl)
theorem dX8_feed_92 : decode cX8_feed 92 = .ok (.iload 6, 2) := dk_21 6 (dk_at dksX8_feed_3 21 rfl rfl)
theorem dX8_feed_94 : decode cX8_feed 94 = .ok (.iconst 4, 1) := dk_7 (dk_at dksX8_feed_3 23 rfl rfl)
theorem dX8_feed_95 : decode cX8_feed 95 = .ok (.irem, 1) := dk_112 (dk_at dksX8_feed_4 0 rfl rfl)
theorem dX8_feed_96 : decode cX8_feed 96 = .ok (.imul, 1) := dk_104 (dk_at dksX8_feed_4 1 rfl rfl)
theorem dX8_feed_97 : decode cX8_feed 97 = .ok (.isub, 1) := dk_100 (dk_at dksX8_feed_4 2 rfl rfl)
theorem dX8_feed_98 : decode cX8_feed 98 = .ok (.ishr, 1) := dk_122 (dk_at dksX8_feed_4 3 rfl rfl)
theorem dX8_feed_99 : decode cX8_feed 99 = .ok (.i2b, 1) := dk_145 (dk_at dksX8_feed_4 4 rfl rfl)
theorem dX8_feed_100 : decode cX8_feed 100 = .ok (.bastore, 1) := dk_84 (dk_at dksX8_feed_4 5 rfl rfl)
theorem dX8_feed_101 : decode cX8_feed 101 = .ok (.aload_n 0, 1) := dk_42 (dk_at dksX8_feed_4 6 rfl rfl)
theorem dX8_feed_102 : decode cX8_feed 102 = .ok (.dup, 1) := dk_89 (dk_at dksX8_feed_4 7 rfl rfl)
theorem dX8_feed_103 : decode cX8_feed 103 = .ok (.getfield 309, 3) := dk_180 1 53 (dk_at dksX8_feed_4 8 rfl rfl)
theorem dX8_feed_106 : decode cX8_feed 106 = .ok (.iconst 1, 1) := dk_4 (dk_at dksX8_feed_4 11 rfl rfl)
theorem dX8_feed_107 : decode cX8_feed 107 = .ok (.iadd, 1) := dk_96 (dk_at dksX8_feed_4 12 rfl rfl)
theorem dX8_feed_108 : decode cX8_feed 108 = .ok (.putfield 309, 3) := dk_181 1 53 (dk_at dksX8_feed_4 13 rfl rfl)
theorem dX8_feed_111 : decode cX8_feed 111 = .ok (.iinc 6 1, 3) := dk_132 6 1 (dk_at dksX8_feed_4 16 rfl rfl)
theorem dX8_feed_114 : decode cX8_feed 114 = .ok (.goto (-91), 3) := dk_167 255 165 (dk_at dksX8_feed_4 19 rfl rfl)
theorem dX8_feed_117 : decode cX8_feed 117 = .ok (.aload_n 0, 1) := dk_42 (dk_at dksX8_feed_4 22 rfl rfl)
theorem dX8_feed_118 : decode cX8_feed 118 = .ok (.getfield 309, 3) := dk_180 1 53 (dk_at dksX8_feed_5 0 rfl rfl)
theorem dX8_feed_121 : decode cX8_feed 121 = .ok (.ireturn, 1) := dk_172 (dk_at dksX8_feed_5 3 rfl rfl)
abbrev cX8_county : ByteArray := prog_26_method_42_code
def yX8_county : MethodName := ⟨RX8, "county", "(I)I"⟩
def dkwX8_county_5 : List UInt8 := [180, 1, 60, 180, 0, 194, 182, 0, 55, 172]
abbrev dktX8_county_5 : List UInt8 := dkwX8_county_5 ++ []
def dkwX8_county_4 : List UInt8 := [181, 1, 60, 42, 42, 180, 0, 17, 182, 1, 62, 42, 3, 181, 1, 66, 42, 3, 181, 1, 69, 42, 42]
abbrev dktX8_county_4 : List UInt8 := dkwX8_county_4 ++ dktX8_county_5
def dkwX8_county_3 : List UInt8 := [158, 0, 18, 42, 7, 181, 0, 48, 42, 42, 180, 0, 106, 181, 0, 9, 2, 172, 42, 42, 180, 0, 152]
abbrev dktX8_county_3 : List UInt8 := dkwX8_county_3 ++ dktX8_county_4
def dkwX8_county_2 : List UInt8 := [183, 1, 56, 181, 0, 152, 42, 3, 181, 0, 77, 42, 182, 0, 113, 42, 182, 1, 57, 42, 180, 0, 103]
abbrev dktX8_county_2 : List UInt8 := dkwX8_county_2 ++ dktX8_county_3
def dkwX8_county_1 : List UInt8 := [27, 181, 0, 62, 42, 3, 181, 1, 53, 42, 3, 181, 0, 80, 42, 3, 181, 0, 103, 42, 187, 0, 157, 89]
abbrev dktX8_county_1 : List UInt8 := dkwX8_county_1 ++ dktX8_county_2
def dkwX8_county_0 : List UInt8 := [42, 3, 181, 0, 45, 27, 155, 0, 11, 27, 42, 180, 1, 53, 164, 0, 9, 42, 5, 182, 0, 51, 172, 42]
abbrev dktX8_county_0 : List UInt8 := dkwX8_county_0 ++ dktX8_county_1
theorem dksX8_county_0 : cX8_county.data.toList.drop 0 = dktX8_county_0 := by decide +kernel
theorem dksX8_county_1 : cX8_county.data.toList.drop 24 = dktX8_county_1 := dk_seg dksX8_county_0 24 rfl rfl
theorem dksX8_county_2 : cX8_county.data.toList.drop 48 = dktX8_county_2 := dk_seg dksX8_county_1 24 rfl rfl
theorem dksX8_county_3 : cX8_county.data.toList.drop 71 = dktX8_county_3 := dk_seg dksX8_county_2 23 rfl rfl
theorem dksX8_county_4 : cX8_county.data.toList.drop 94 = dktX8_county_4 := dk_seg dksX8_county_3 23 rfl rfl
theorem dksX8_county_5 : cX8_county.data.toList.drop 117 = dktX8_county_5 := dk_seg dksX8_county_4 23 rfl rfl
theorem dX8_county_0 : decode cX8_county 0 = .ok (.aload_n 0, 1) := dk_42 (dk_at dksX8_county_0 0 rfl rfl)
theorem dX8_county_1 : decode cX8_county 1 = .ok (.iconst 0, 1) := dk_3 (dk_at dksX8_county_0 1 rfl rfl)
theorem dX8_county_2 : decode cX8_county 2 = .ok (.putfield 45, 3) := dk_181 0 45 (dk_at dksX8_county_0 2 rfl rfl)
theorem dX8_county_5 : decode cX8_county 5 = .ok (.iload_n 1, 1) := dk_27 (dk_at dksX8_county_0 5 rfl rfl)
theorem dX8_county_6 : decode cX8_county 6 = .ok (.ifCond .lt 11, 3) := dk_155 0 11 (dk_at dksX8_county_0 6 rfl rfl)
theorem dX8_county_9 : decode cX8_county 9 = .ok (.iload_n 1, 1) := dk_27 (dk_at dksX8_county_0 9 rfl rfl)
theorem dX8_county_10 : decode cX8_county 10 = .ok (.aload_n 0, 1) := dk_42 (dk_at dksX8_county_0 10 rfl rfl)
theorem dX8_county_11 : decode cX8_county 11 = .ok (.getfield 309, 3) := dk_180 1 53 (dk_at dksX8_county_0 11 rfl rfl)
theorem dX8_county_14 : decode cX8_county 14 = .ok (.if_icmp .le 9, 3) := dk_164 0 9 (dk_at dksX8_county_0 14 rfl rfl)
theorem dX8_county_17 : decode cX8_county 17 = .ok (.aload_n 0, 1) := dk_42 (dk_at dksX8_county_0 17 rfl rfl)
theorem dX8_county_18 : decode cX8_county 18 = .ok (.iconst 2, 1) := dk_5 (dk_at dksX8_county_0 18 rfl rfl)
theorem dX8_county_19 : decode cX8_county 19 = .ok (.invokevirtual 51, 3) := dk_182 0 51 (dk_at dksX8_county_0 19 rfl rfl)
theorem dX8_county_22 : decode cX8_county 22 = .ok (.ireturn, 1) := dk_172 (dk_at dksX8_county_0 22 rfl rfl)
theorem dX8_county_23 : decode cX8_county 23 = .ok (.aload_n 0, 1) := dk_42 (dk_at dksX8_county_0 23 rfl rfl)
theorem dX8_county_24 : decode cX8_county 24 = .ok (.iload_n 1, 1) := dk_27 (dk_at dksX8_county_1 0 rfl rfl)
theorem dX8_county_25 : decode cX8_county 25 = .ok (.putfield 62, 3) := dk_181 0 62 (dk_at dksX8_county_1 1 rfl rfl)
theorem dX8_county_28 : decode cX8_county 28 = .ok (.aload_n 0, 1) := dk_42 (dk_at dksX8_county_1 4 rfl rfl)
theorem dX8_county_29 : decode cX8_county 29 = .ok (.iconst 0, 1) := dk_3 (dk_at dksX8_county_1 5 rfl rfl)
theorem dX8_county_30 : decode cX8_county 30 = .ok (.putfield 309, 3) := dk_181 1 53 (dk_at dksX8_county_1 6 rfl rfl)
theorem dX8_county_33 : decode cX8_county 33 = .ok (.aload_n 0, 1) := dk_42 (dk_at dksX8_county_1 9 rfl rfl)
theorem dX8_county_34 : decode cX8_county 34 = .ok (.iconst 0, 1) := dk_3 (dk_at dksX8_county_1 10 rfl rfl)
theorem dX8_county_35 : decode cX8_county 35 = .ok (.putfield 80, 3) := dk_181 0 80 (dk_at dksX8_county_1 11 rfl rfl)
theorem dX8_county_38 : decode cX8_county 38 = .ok (.aload_n 0, 1) := dk_42 (dk_at dksX8_county_1 14 rfl rfl)
theorem dX8_county_39 : decode cX8_county 39 = .ok (.iconst 0, 1) := dk_3 (dk_at dksX8_county_1 15 rfl rfl)
theorem dX8_county_40 : decode cX8_county 40 = .ok (.putfield 103, 3) := dk_181 0 103 (dk_at dksX8_county_1 16 rfl rfl)
theorem dX8_county_43 : decode cX8_county 43 = .ok (.aload_n 0, 1) := dk_42 (dk_at dksX8_county_1 19 rfl rfl)
theorem dX8_county_44 : decode cX8_county 44 = .ok (.new 157, 3) := dk_187 0 157 (dk_at dksX8_county_1 20 rfl rfl)
theorem dX8_county_47 : decode cX8_county 47 = .ok (.dup, 1) := dk_89 (dk_at dksX8_county_1 23 rfl rfl)
theorem dX8_county_48 : decode cX8_county 48 = .ok (.invokespecial 312, 3) := dk_183 1 56 (dk_at dksX8_county_2 0 rfl rfl)
theorem dX8_county_51 : decode cX8_county 51 = .ok (.putfield 152, 3) := dk_181 0 152 (dk_at dksX8_county_2 3 rfl rfl)
theorem dX8_county_54 : decode cX8_county 54 = .ok (.aload_n 0, 1) := dk_42 (dk_at dksX8_county_2 6 rfl rfl)
theorem dX8_county_55 : decode cX8_county 55 = .ok (.iconst 0, 1) := dk_3 (dk_at dksX8_county_2 7 rfl rfl)
theorem dX8_county_56 : decode cX8_county 56 = .ok (.putfield 77, 3) := dk_181 0 77 (dk_at dksX8_county_2 8 rfl rfl)
theorem dX8_county_59 : decode cX8_county 59 = .ok (.aload_n 0, 1) := dk_42 (dk_at dksX8_county_2 11 rfl rfl)
theorem dX8_county_60 : decode cX8_county 60 = .ok (.invokevirtual 113, 3) := dk_182 0 113 (dk_at dksX8_county_2 12 rfl rfl)
theorem dX8_county_63 : decode cX8_county 63 = .ok (.aload_n 0, 1) := dk_42 (dk_at dksX8_county_2 15 rfl rfl)
theorem dX8_county_64 : decode cX8_county 64 = .ok (.invokevirtual 313, 3) := dk_182 1 57 (dk_at dksX8_county_2 16 rfl rfl)
theorem dX8_county_67 : decode cX8_county 67 = .ok (.aload_n 0, 1) := dk_42 (dk_at dksX8_county_2 19 rfl rfl)
theorem dX8_county_68 : decode cX8_county 68 = .ok (.getfield 103, 3) := dk_180 0 103 (dk_at dksX8_county_2 20 rfl rfl)
theorem dX8_county_71 : decode cX8_county 71 = .ok (.ifCond .le 18, 3) := dk_158 0 18 (dk_at dksX8_county_3 0 rfl rfl)
theorem dX8_county_74 : decode cX8_county 74 = .ok (.aload_n 0, 1) := dk_42 (dk_at dksX8_county_3 3 rfl rfl)
theorem dX8_county_75 : decode cX8_county 75 = .ok (.iconst 4, 1) := dk_7 (dk_at dksX8_county_3 4 rfl rfl)
theorem dX8_county_76 : decode cX8_county 76 = .ok (.putfield 48, 3) := dk_181 0 48 (dk_at dksX8_county_3 5 rfl rfl)
theorem dX8_county_79 : decode cX8_county 79 = .ok (.aload_n 0, 1) := dk_42 (dk_at dksX8_county_3 8 rfl rfl)
theorem dX8_county_80 : decode cX8_county 80 = .ok (.aload_n 0, 1) := dk_42 (dk_at dksX8_county_3 9 rfl rfl)
theorem dX8_county_81 : decode cX8_county 81 = .ok (.getfield 106, 3) := dk_180 0 106 (dk_at dksX8_county_3 10 rfl rfl)
theorem dX8_county_84 : decode cX8_county 84 = .ok (.putfield 9, 3) := dk_181 0 9 (dk_at dksX8_county_3 13 rfl rfl)
theorem dX8_county_87 : decode cX8_county 87 = .ok (.iconst (-1), 1) := dk_2 (dk_at dksX8_county_3 16 rfl rfl)
theorem dX8_county_88 : decode cX8_county 88 = .ok (.ireturn, 1) := dk_172 (dk_at dksX8_county_3 17 rfl rfl)
theorem dX8_county_89 : decode cX8_county 89 = .ok (.aload_n 0, 1) := dk_42 (dk_at dksX8_county_3 18 rfl rfl)
theorem dX8_county_90 : decode cX8_county 90 = .ok (.aload_n 0, 1) := dk_42 (dk_at dksX8_county_3 19 rfl rfl)
theorem dX8_county_91 : decode cX8_county 91 = .ok (.getfield 152, 3) := dk_180 0 152 (dk_at dksX8_county_3 20 rfl rfl)
theorem dX8_county_94 : decode cX8_county 94 = .ok (.putfield 316, 3) := dk_181 1 60 (dk_at dksX8_county_4 0 rfl rfl)
theorem dX8_county_97 : decode cX8_county 97 = .ok (.aload_n 0, 1) := dk_42 (dk_at dksX8_county_4 3 rfl rfl)
theorem dX8_county_98 : decode cX8_county 98 = .ok (.aload_n 0, 1) := dk_42 (dk_at dksX8_county_4 4 rfl rfl)
theorem dX8_county_99 : decode cX8_county 99 = .ok (.getfield 17, 3) := dk_180 0 17 (dk_at dksX8_county_4 5 rfl rfl)
theorem dX8_county_102 : decode cX8_county 102 = .ok (.invokevirtual 318, 3) := dk_182 1 62 (dk_at dksX8_county_4 8 rfl rfl)
theorem dX8_county_105 : decode cX8_county 105 = .ok (.aload_n 0, 1) := dk_42 (dk_at dksX8_county_4 11 rfl rfl)
theorem dX8_county_106 : decode cX8_county 106 = .ok (.iconst 0, 1) := dk_3 (dk_at dksX8_county_4 12 rfl rfl)
theorem dX8_county_107 : decode cX8_county 107 = .ok (.putfield 322, 3) := dk_181 1 66 (dk_at dksX8_county_4 13 rfl rfl)
theorem dX8_county_110 : decode cX8_county 110 = .ok (.aload_n 0, 1) := dk_42 (dk_at dksX8_county_4 16 rfl rfl)
theorem dX8_county_111 : decode cX8_county 111 = .ok (.iconst 0, 1) := dk_3 (dk_at dksX8_county_4 17 rfl rfl)
theorem dX8_county_112 : decode cX8_county 112 = .ok (.putfield 325, 3) := dk_181 1 69 (dk_at dksX8_county_4 18 rfl rfl)
theorem dX8_county_115 : decode cX8_county 115 = .ok (.aload_n 0, 1) := dk_42 (dk_at dksX8_county_4 21 rfl rfl)
theorem dX8_county_116 : decode cX8_county 116 = .ok (.aload_n 0, 1) := dk_42 (dk_at dksX8_county_4 22 rfl rfl)
theorem dX8_county_117 : decode cX8_county 117 = .ok (.getfield 316, 3) := dk_180 1 60 (dk_at dksX8_county_5 0 rfl rfl)
theorem dX8_county_120 : decode cX8_county 120 = .ok (.getfield 194, 3) := dk_180 0 194 (dk_at dksX8_county_5 3 rfl rfl)
theorem dX8_county_123 : decode cX8_county 123 = .ok (.invokevirtual 55, 3) := dk_182 0 55 (dk_at dksX8_county_5 6 rfl rfl)
theorem dX8_county_126 : decode cX8_county 126 = .ok (.ireturn, 1) := dk_172 (dk_at dksX8_county_5 9 rfl rfl)
abbrev cX8_refused : ByteArray := prog_26_method_3_code
def yX8_refused : MethodName := ⟨RX8, "refused", "(I)I"⟩
def dkwX8_refused_0 : List UInt8 := [42, 27, 181, 0, 48, 42, 2, 181, 0, 9, 2, 172]
abbrev dktX8_refused_0 : List UInt8 := dkwX8_refused_0 ++ []
theorem dksX8_refused_0 : cX8_refused.data.toList.drop 0 = dktX8_refused_0 := by decide +kernel
theorem dX8_refused_0 : decode cX8_refused 0 = .ok (.aload_n 0, 1) := dk_42 (dk_at dksX8_refused_0 0 rfl rfl)
theorem dX8_refused_1 : decode cX8_refused 1 = .ok (.iload_n 1, 1) := dk_27 (dk_at dksX8_refused_0 1 rfl rfl)
theorem dX8_refused_2 : decode cX8_refused 2 = .ok (.putfield 48, 3) := dk_181 0 48 (dk_at dksX8_refused_0 2 rfl rfl)
theorem dX8_refused_5 : decode cX8_refused 5 = .ok (.aload_n 0, 1) := dk_42 (dk_at dksX8_refused_0 5 rfl rfl)
theorem dX8_refused_6 : decode cX8_refused 6 = .ok (.iconst (-1), 1) := dk_2 (dk_at dksX8_refused_0 6 rfl rfl)
theorem dX8_refused_7 : decode cX8_refused 7 = .ok (.putfield 9, 3) := dk_181 0 9 (dk_at dksX8_refused_0 7 rfl rfl)
theorem dX8_refused_10 : decode cX8_refused 10 = .ok (.iconst (-1), 1) := dk_2 (dk_at dksX8_refused_0 10 rfl rfl)
theorem dX8_refused_11 : decode cX8_refused 11 = .ok (.ireturn, 1) := dk_172 (dk_at dksX8_refused_0 11 rfl rfl)
abbrev cX8_goesOn : ByteArray := prog_26_method_17_code
def yX8_goesOn : MethodName := ⟨RX8, "goesOn", "()V"⟩
def dkwX8_goesOn_11 : List UInt8 := [4, 96, 181, 0, 80, 177]
abbrev dktX8_goesOn_11 : List UInt8 := dkwX8_goesOn_11 ++ []
def dkwX8_goesOn_10 : List UInt8 := [42, 6, 181, 0, 77, 167, 0, 24, 27, 16, 59, 160, 0, 18, 42, 7, 181, 0, 77, 42, 89, 180, 0, 80]
abbrev dktX8_goesOn_10 : List UInt8 := dkwX8_goesOn_10 ++ dktX8_goesOn_11
def dkwX8_goesOn_9 : List UInt8 := [181, 0, 100, 132, 2, 1, 42, 89, 180, 0, 80, 4, 96, 181, 0, 80, 167, 255, 201, 28, 5, 163, 0, 32]
abbrev dktX8_goesOn_9 : List UInt8 := dkwX8_goesOn_9 ++ dktX8_goesOn_10
def dkwX8_goesOn_8 : List UInt8 := [162, 0, 26, 42, 16, 10, 42, 180, 0, 100, 104, 42, 42, 180, 0, 80, 182, 0, 83, 96, 16, 48, 100]
abbrev dktX8_goesOn_8 : List UInt8 := dkwX8_goesOn_8 ++ dktX8_goesOn_9
def dkwX8_goesOn_7 : List UInt8 := [153, 0, 79, 42, 3, 181, 0, 100, 42, 42, 180, 0, 80, 182, 0, 83, 184, 0, 97, 153, 0, 47, 28, 5]
abbrev dktX8_goesOn_7 : List UInt8 := dkwX8_goesOn_7 ++ dktX8_goesOn_8
def dkwX8_goesOn_6 : List UInt8 := [181, 0, 80, 167, 255, 196, 28, 16, 8, 163, 0, 115, 42, 5, 181, 0, 77, 167, 0, 107, 27, 184, 0, 97]
abbrev dktX8_goesOn_6 : List UInt8 := dkwX8_goesOn_6 ++ dktX8_goesOn_7
def dkwX8_goesOn_5 : List UInt8 := [182, 0, 83, 16, 97, 100, 4, 96, 133, 97, 181, 0, 93, 132, 2, 1, 42, 89, 180, 0, 80, 4, 96]
abbrev dktX8_goesOn_5 : List UInt8 := dkwX8_goesOn_5 ++ dktX8_goesOn_6
def dkwX8_goesOn_4 : List UInt8 := [153, 0, 52, 28, 16, 8, 162, 0, 30, 42, 20, 0, 71, 42, 180, 0, 93, 105, 42, 42, 180, 0, 80]
abbrev dktX8_goesOn_4 : List UInt8 := dkwX8_goesOn_4 ++ dktX8_goesOn_5
def dkwX8_goesOn_3 : List UInt8 := [27, 184, 0, 89, 153, 0, 85, 42, 9, 181, 0, 93, 42, 42, 180, 0, 80, 182, 0, 83, 184, 0, 89]
abbrev dktX8_goesOn_3 : List UInt8 := dkwX8_goesOn_3 ++ dktX8_goesOn_4
def dkwX8_goesOn_2 : List UInt8 := [42, 42, 180, 0, 80, 182, 0, 83, 60, 3, 61, 27, 2, 160, 0, 11, 42, 4, 181, 0, 77, 167, 0, 196]
abbrev dktX8_goesOn_2 : List UInt8 := dkwX8_goesOn_2 ++ dktX8_goesOn_3
def dkwX8_goesOn_1 : List UInt8 := [180, 0, 80, 4, 96, 181, 0, 80, 167, 255, 233, 42, 42, 180, 0, 80, 181, 0, 86, 42, 3, 181, 0, 77]
abbrev dktX8_goesOn_1 : List UInt8 := dkwX8_goesOn_1 ++ dktX8_goesOn_2
def dkwX8_goesOn_0 : List UInt8 := [42, 180, 0, 77, 8, 160, 0, 4, 177, 42, 42, 180, 0, 80, 182, 0, 83, 16, 32, 160, 0, 16, 42, 89]
abbrev dktX8_goesOn_0 : List UInt8 := dkwX8_goesOn_0 ++ dktX8_goesOn_1
theorem dksX8_goesOn_0 : cX8_goesOn.data.toList.drop 0 = dktX8_goesOn_0 := by decide +kernel
theorem dksX8_goesOn_1 : cX8_goesOn.data.toList.drop 24 = dktX8_goesOn_1 := dk_seg dksX8_goesOn_0 24 rfl rfl
theorem dksX8_goesOn_2 : cX8_goesOn.data.toList.drop 48 = dktX8_goesOn_2 := dk_seg dksX8_goesOn_1 24 rfl rfl
theorem dksX8_goesOn_3 : cX8_goesOn.data.toList.drop 72 = dktX8_goesOn_3 := dk_seg dksX8_goesOn_2 24 rfl rfl
theorem dksX8_goesOn_4 : cX8_goesOn.data.toList.drop 95 = dktX8_goesOn_4 := dk_seg dksX8_goesOn_3 23 rfl rfl
theorem dksX8_goesOn_5 : cX8_goesOn.data.toList.drop 118 = dktX8_goesOn_5 := dk_seg dksX8_goesOn_4 23 rfl rfl
theorem dksX8_goesOn_6 : cX8_goesOn.data.toList.drop 141 = dktX8_goesOn_6 := dk_seg dksX8_goesOn_5 23 rfl rfl
theorem dksX8_goesOn_7 : cX8_goesOn.data.toList.drop 165 = dktX8_goesOn_7 := dk_seg dksX8_goesOn_6 24 rfl rfl
theorem dksX8_goesOn_8 : cX8_goesOn.data.toList.drop 189 = dktX8_goesOn_8 := dk_seg dksX8_goesOn_7 24 rfl rfl
theorem dksX8_goesOn_9 : cX8_goesOn.data.toList.drop 212 = dktX8_goesOn_9 := dk_seg dksX8_goesOn_8 23 rfl rfl
theorem dksX8_goesOn_10 : cX8_goesOn.data.toList.drop 236 = dktX8_goesOn_10 := dk_seg dksX8_goesOn_9 24 rfl rfl
theorem dksX8_goesOn_11 : cX8_goesOn.data.toList.drop 260 = dktX8_goesOn_11 := dk_seg dksX8_goesOn_10 24 rfl rfl
theorem dX8_goesOn_0 : decode cX8_goesOn 0 = .ok (.aload_n 0, 1) := dk_42 (dk_at dksX8_goesOn_0 0 rfl rfl)
theorem dX8_goesOn_1 : decode cX8_goesOn 1 = .ok (.getfield 77, 3) := dk_180 0 77 (dk_at dksX8_goesOn_0 1 rfl rfl)
theorem dX8_goesOn_4 : decode cX8_goesOn 4 = .ok (.iconst 5, 1) := dk_8 (dk_at dksX8_goesOn_0 4 rfl rfl)
theorem dX8_goesOn_5 : decode cX8_goesOn 5 = .ok (.if_icmp .ne 4, 3) := dk_160 0 4 (dk_at dksX8_goesOn_0 5 rfl rfl)
theorem dX8_goesOn_8 : decode cX8_goesOn 8 = .ok (.return_, 1) := dk_177 (dk_at dksX8_goesOn_0 8 rfl rfl)
theorem dX8_goesOn_9 : decode cX8_goesOn 9 = .ok (.aload_n 0, 1) := dk_42 (dk_at dksX8_goesOn_0 9 rfl rfl)
theorem dX8_goesOn_10 : decode cX8_goesOn 10 = .ok (.aload_n 0, 1) := dk_42 (dk_at dksX8_goesOn_0 10 rfl rfl)
theorem dX8_goesOn_11 : decode cX8_goesOn 11 = .ok (.getfield 80, 3) := dk_180 0 80 (dk_at dksX8_goesOn_0 11 rfl rfl)
theorem dX8_goesOn_14 : decode cX8_goesOn 14 = .ok (.invokevirtual 83, 3) := dk_182 0 83 (dk_at dksX8_goesOn_0 14 rfl rfl)
theorem dX8_goesOn_17 : decode cX8_goesOn 17 = .ok (.bipush 32, 2) := dk_16 32 (dk_at dksX8_goesOn_0 17 rfl rfl)
theorem dX8_goesOn_19 : decode cX8_goesOn 19 = .ok (.if_icmp .ne 16, 3) := dk_160 0 16 (dk_at dksX8_goesOn_0 19 rfl rfl)
theorem dX8_goesOn_22 : decode cX8_goesOn 22 = .ok (.aload_n 0, 1) := dk_42 (dk_at dksX8_goesOn_0 22 rfl rfl)
theorem dX8_goesOn_23 : decode cX8_goesOn 23 = .ok (.dup, 1) := dk_89 (dk_at dksX8_goesOn_0 23 rfl rfl)
theorem dX8_goesOn_24 : decode cX8_goesOn 24 = .ok (.getfield 80, 3) := dk_180 0 80 (dk_at dksX8_goesOn_1 0 rfl rfl)
theorem dX8_goesOn_27 : decode cX8_goesOn 27 = .ok (.iconst 1, 1) := dk_4 (dk_at dksX8_goesOn_1 3 rfl rfl)
theorem dX8_goesOn_28 : decode cX8_goesOn 28 = .ok (.iadd, 1) := dk_96 (dk_at dksX8_goesOn_1 4 rfl rfl)
theorem dX8_goesOn_29 : decode cX8_goesOn 29 = .ok (.putfield 80, 3) := dk_181 0 80 (dk_at dksX8_goesOn_1 5 rfl rfl)
theorem dX8_goesOn_32 : decode cX8_goesOn 32 = .ok (.goto (-23), 3) := dk_167 255 233 (dk_at dksX8_goesOn_1 8 rfl rfl)
theorem dX8_goesOn_35 : decode cX8_goesOn 35 = .ok (.aload_n 0, 1) := dk_42 (dk_at dksX8_goesOn_1 11 rfl rfl)
theorem dX8_goesOn_36 : decode cX8_goesOn 36 = .ok (.aload_n 0, 1) := dk_42 (dk_at dksX8_goesOn_1 12 rfl rfl)
theorem dX8_goesOn_37 : decode cX8_goesOn 37 = .ok (.getfield 80, 3) := dk_180 0 80 (dk_at dksX8_goesOn_1 13 rfl rfl)
theorem dX8_goesOn_40 : decode cX8_goesOn 40 = .ok (.putfield 86, 3) := dk_181 0 86 (dk_at dksX8_goesOn_1 16 rfl rfl)
theorem dX8_goesOn_43 : decode cX8_goesOn 43 = .ok (.aload_n 0, 1) := dk_42 (dk_at dksX8_goesOn_1 19 rfl rfl)
theorem dX8_goesOn_44 : decode cX8_goesOn 44 = .ok (.iconst 0, 1) := dk_3 (dk_at dksX8_goesOn_1 20 rfl rfl)
theorem dX8_goesOn_45 : decode cX8_goesOn 45 = .ok (.putfield 77, 3) := dk_181 0 77 (dk_at dksX8_goesOn_1 21 rfl rfl)
theorem dX8_goesOn_48 : decode cX8_goesOn 48 = .ok (.aload_n 0, 1) := dk_42 (dk_at dksX8_goesOn_2 0 rfl rfl)
theorem dX8_goesOn_49 : decode cX8_goesOn 49 = .ok (.aload_n 0, 1) := dk_42 (dk_at dksX8_goesOn_2 1 rfl rfl)
theorem dX8_goesOn_50 : decode cX8_goesOn 50 = .ok (.getfield 80, 3) := dk_180 0 80 (dk_at dksX8_goesOn_2 2 rfl rfl)
theorem dX8_goesOn_53 : decode cX8_goesOn 53 = .ok (.invokevirtual 83, 3) := dk_182 0 83 (dk_at dksX8_goesOn_2 5 rfl rfl)
theorem dX8_goesOn_56 : decode cX8_goesOn 56 = .ok (.istore_n 1, 1) := dk_60 (dk_at dksX8_goesOn_2 8 rfl rfl)
theorem dX8_goesOn_57 : decode cX8_goesOn 57 = .ok (.iconst 0, 1) := dk_3 (dk_at dksX8_goesOn_2 9 rfl rfl)
theorem dX8_goesOn_58 : decode cX8_goesOn 58 = .ok (.istore_n 2, 1) := dk_61 (dk_at dksX8_goesOn_2 10 rfl rfl)
theorem dX8_goesOn_59 : decode cX8_goesOn 59 = .ok (.iload_n 1, 1) := dk_27 (dk_at dksX8_goesOn_2 11 rfl rfl)
theorem dX8_goesOn_60 : decode cX8_goesOn 60 = .ok (.iconst (-1), 1) := dk_2 (dk_at dksX8_goesOn_2 12 rfl rfl)
theorem dX8_goesOn_61 : decode cX8_goesOn 61 = .ok (.if_icmp .ne 11, 3) := dk_160 0 11 (dk_at dksX8_goesOn_2 13 rfl rfl)
theorem dX8_goesOn_64 : decode cX8_goesOn 64 = .ok (.aload_n 0, 1) := dk_42 (dk_at dksX8_goesOn_2 16 rfl rfl)
theorem dX8_goesOn_65 : decode cX8_goesOn 65 = .ok (.iconst 1, 1) := dk_4 (dk_at dksX8_goesOn_2 17 rfl rfl)
theorem dX8_goesOn_66 : decode cX8_goesOn 66 = .ok (.putfield 77, 3) := dk_181 0 77 (dk_at dksX8_goesOn_2 18 rfl rfl)
theorem dX8_goesOn_69 : decode cX8_goesOn 69 = .ok (.goto 196, 3) := dk_167 0 196 (dk_at dksX8_goesOn_2 21 rfl rfl)
theorem dX8_goesOn_72 : decode cX8_goesOn 72 = .ok (.iload_n 1, 1) := dk_27 (dk_at dksX8_goesOn_3 0 rfl rfl)
theorem dX8_goesOn_73 : decode cX8_goesOn 73 = .ok (.invokestatic 89, 3) := dk_184 0 89 (dk_at dksX8_goesOn_3 1 rfl rfl)
theorem dX8_goesOn_76 : decode cX8_goesOn 76 = .ok (.ifCond .eq 85, 3) := dk_153 0 85 (dk_at dksX8_goesOn_3 4 rfl rfl)
theorem dX8_goesOn_79 : decode cX8_goesOn 79 = .ok (.aload_n 0, 1) := dk_42 (dk_at dksX8_goesOn_3 7 rfl rfl)
theorem dX8_goesOn_80 : decode cX8_goesOn 80 = .ok (.lconst 0, 1) := dk_9 (dk_at dksX8_goesOn_3 8 rfl rfl)
theorem dX8_goesOn_81 : decode cX8_goesOn 81 = .ok (.putfield 93, 3) := dk_181 0 93 (dk_at dksX8_goesOn_3 9 rfl rfl)
theorem dX8_goesOn_84 : decode cX8_goesOn 84 = .ok (.aload_n 0, 1) := dk_42 (dk_at dksX8_goesOn_3 12 rfl rfl)
theorem dX8_goesOn_85 : decode cX8_goesOn 85 = .ok (.aload_n 0, 1) := dk_42 (dk_at dksX8_goesOn_3 13 rfl rfl)
theorem dX8_goesOn_86 : decode cX8_goesOn 86 = .ok (.getfield 80, 3) := dk_180 0 80 (dk_at dksX8_goesOn_3 14 rfl rfl)
theorem dX8_goesOn_89 : decode cX8_goesOn 89 = .ok (.invokevirtual 83, 3) := dk_182 0 83 (dk_at dksX8_goesOn_3 17 rfl rfl)
theorem dX8_goesOn_92 : decode cX8_goesOn 92 = .ok (.invokestatic 89, 3) := dk_184 0 89 (dk_at dksX8_goesOn_3 20 rfl rfl)
theorem dX8_goesOn_95 : decode cX8_goesOn 95 = .ok (.ifCond .eq 52, 3) := dk_153 0 52 (dk_at dksX8_goesOn_4 0 rfl rfl)
theorem dX8_goesOn_98 : decode cX8_goesOn 98 = .ok (.iload_n 2, 1) := dk_28 (dk_at dksX8_goesOn_4 3 rfl rfl)
theorem dX8_goesOn_99 : decode cX8_goesOn 99 = .ok (.bipush 8, 2) := dk_16 8 (dk_at dksX8_goesOn_4 4 rfl rfl)
theorem dX8_goesOn_101 : decode cX8_goesOn 101 = .ok (.if_icmp .ge 30, 3) := dk_162 0 30 (dk_at dksX8_goesOn_4 6 rfl rfl)
theorem dX8_goesOn_104 : decode cX8_goesOn 104 = .ok (.aload_n 0, 1) := dk_42 (dk_at dksX8_goesOn_4 9 rfl rfl)
theorem dX8_goesOn_105 : decode cX8_goesOn 105 = .ok (.ldc2_w 71, 3) := dk_20 0 71 (dk_at dksX8_goesOn_4 10 rfl rfl)
theorem dX8_goesOn_108 : decode cX8_goesOn 108 = .ok (.aload_n 0, 1) := dk_42 (dk_at dksX8_goesOn_4 13 rfl rfl)
theorem dX8_goesOn_109 : decode cX8_goesOn 109 = .ok (.getfield 93, 3) := dk_180 0 93 (dk_at dksX8_goesOn_4 14 rfl rfl)
theorem dX8_goesOn_112 : decode cX8_goesOn 112 = .ok (.lmul, 1) := dk_105 (dk_at dksX8_goesOn_4 17 rfl rfl)
theorem dX8_goesOn_113 : decode cX8_goesOn 113 = .ok (.aload_n 0, 1) := dk_42 (dk_at dksX8_goesOn_4 18 rfl rfl)
theorem dX8_goesOn_114 : decode cX8_goesOn 114 = .ok (.aload_n 0, 1) := dk_42 (dk_at dksX8_goesOn_4 19 rfl rfl)
theorem dX8_goesOn_115 : decode cX8_goesOn 115 = .ok (.getfield 80, 3) := dk_180 0 80 (dk_at dksX8_goesOn_4 20 rfl rfl)
theorem dX8_goesOn_118 : decode cX8_goesOn 118 = .ok (.invokevirtual 83, 3) := dk_182 0 83 (dk_at dksX8_goesOn_5 0 rfl rfl)
theorem dX8_goesOn_121 : decode cX8_goesOn 121 = .ok (.bipush 97, 2) := dk_16 97 (dk_at dksX8_goesOn_5 3 rfl rfl)
theorem dX8_goesOn_123 : decode cX8_goesOn 123 = .ok (.isub, 1) := dk_100 (dk_at dksX8_goesOn_5 5 rfl rfl)
theorem dX8_goesOn_124 : decode cX8_goesOn 124 = .ok (.iconst 1, 1) := dk_4 (dk_at dksX8_goesOn_5 6 rfl rfl)
theorem dX8_goesOn_125 : decode cX8_goesOn 125 = .ok (.iadd, 1) := dk_96 (dk_at dksX8_goesOn_5 7 rfl rfl)
theorem dX8_goesOn_126 : decode cX8_goesOn 126 = .ok (.i2l, 1) := dk_133 (dk_at dksX8_goesOn_5 8 rfl rfl)
theorem dX8_goesOn_127 : decode cX8_goesOn 127 = .ok (.ladd, 1) := dk_97 (dk_at dksX8_goesOn_5 9 rfl rfl)
theorem dX8_goesOn_128 : decode cX8_goesOn 128 = .ok (.putfield 93, 3) := dk_181 0 93 (dk_at dksX8_goesOn_5 10 rfl rfl)
theorem dX8_goesOn_131 : decode cX8_goesOn 131 = .ok (.iinc 2 1, 3) := dk_132 2 1 (dk_at dksX8_goesOn_5 13 rfl rfl)
theorem dX8_goesOn_134 : decode cX8_goesOn 134 = .ok (.aload_n 0, 1) := dk_42 (dk_at dksX8_goesOn_5 16 rfl rfl)
theorem dX8_goesOn_135 : decode cX8_goesOn 135 = .ok (.dup, 1) := dk_89 (dk_at dksX8_goesOn_5 17 rfl rfl)
theorem dX8_goesOn_136 : decode cX8_goesOn 136 = .ok (.getfield 80, 3) := dk_180 0 80 (dk_at dksX8_goesOn_5 18 rfl rfl)
theorem dX8_goesOn_139 : decode cX8_goesOn 139 = .ok (.iconst 1, 1) := dk_4 (dk_at dksX8_goesOn_5 21 rfl rfl)
theorem dX8_goesOn_140 : decode cX8_goesOn 140 = .ok (.iadd, 1) := dk_96 (dk_at dksX8_goesOn_5 22 rfl rfl)
theorem dX8_goesOn_141 : decode cX8_goesOn 141 = .ok (.putfield 80, 3) := dk_181 0 80 (dk_at dksX8_goesOn_6 0 rfl rfl)
theorem dX8_goesOn_144 : decode cX8_goesOn 144 = .ok (.goto (-60), 3) := dk_167 255 196 (dk_at dksX8_goesOn_6 3 rfl rfl)
theorem dX8_goesOn_147 : decode cX8_goesOn 147 = .ok (.iload_n 2, 1) := dk_28 (dk_at dksX8_goesOn_6 6 rfl rfl)
theorem dX8_goesOn_148 : decode cX8_goesOn 148 = .ok (.bipush 8, 2) := dk_16 8 (dk_at dksX8_goesOn_6 7 rfl rfl)
theorem dX8_goesOn_150 : decode cX8_goesOn 150 = .ok (.if_icmp .gt 115, 3) := dk_163 0 115 (dk_at dksX8_goesOn_6 9 rfl rfl)
theorem dX8_goesOn_153 : decode cX8_goesOn 153 = .ok (.aload_n 0, 1) := dk_42 (dk_at dksX8_goesOn_6 12 rfl rfl)
theorem dX8_goesOn_154 : decode cX8_goesOn 154 = .ok (.iconst 2, 1) := dk_5 (dk_at dksX8_goesOn_6 13 rfl rfl)
theorem dX8_goesOn_155 : decode cX8_goesOn 155 = .ok (.putfield 77, 3) := dk_181 0 77 (dk_at dksX8_goesOn_6 14 rfl rfl)
theorem dX8_goesOn_158 : decode cX8_goesOn 158 = .ok (.goto 107, 3) := dk_167 0 107 (dk_at dksX8_goesOn_6 17 rfl rfl)
theorem dX8_goesOn_161 : decode cX8_goesOn 161 = .ok (.iload_n 1, 1) := dk_27 (dk_at dksX8_goesOn_6 20 rfl rfl)
theorem dX8_goesOn_162 : decode cX8_goesOn 162 = .ok (.invokestatic 97, 3) := dk_184 0 97 (dk_at dksX8_goesOn_6 21 rfl rfl)
theorem dX8_goesOn_165 : decode cX8_goesOn 165 = .ok (.ifCond .eq 79, 3) := dk_153 0 79 (dk_at dksX8_goesOn_7 0 rfl rfl)
theorem dX8_goesOn_168 : decode cX8_goesOn 168 = .ok (.aload_n 0, 1) := dk_42 (dk_at dksX8_goesOn_7 3 rfl rfl)
theorem dX8_goesOn_169 : decode cX8_goesOn 169 = .ok (.iconst 0, 1) := dk_3 (dk_at dksX8_goesOn_7 4 rfl rfl)
theorem dX8_goesOn_170 : decode cX8_goesOn 170 = .ok (.putfield 100, 3) := dk_181 0 100 (dk_at dksX8_goesOn_7 5 rfl rfl)
theorem dX8_goesOn_173 : decode cX8_goesOn 173 = .ok (.aload_n 0, 1) := dk_42 (dk_at dksX8_goesOn_7 8 rfl rfl)
theorem dX8_goesOn_174 : decode cX8_goesOn 174 = .ok (.aload_n 0, 1) := dk_42 (dk_at dksX8_goesOn_7 9 rfl rfl)
theorem dX8_goesOn_175 : decode cX8_goesOn 175 = .ok (.getfield 80, 3) := dk_180 0 80 (dk_at dksX8_goesOn_7 10 rfl rfl)
theorem dX8_goesOn_178 : decode cX8_goesOn 178 = .ok (.invokevirtual 83, 3) := dk_182 0 83 (dk_at dksX8_goesOn_7 13 rfl rfl)
theorem dX8_goesOn_181 : decode cX8_goesOn 181 = .ok (.invokestatic 97, 3) := dk_184 0 97 (dk_at dksX8_goesOn_7 16 rfl rfl)
theorem dX8_goesOn_184 : decode cX8_goesOn 184 = .ok (.ifCond .eq 47, 3) := dk_153 0 47 (dk_at dksX8_goesOn_7 19 rfl rfl)
theorem dX8_goesOn_187 : decode cX8_goesOn 187 = .ok (.iload_n 2, 1) := dk_28 (dk_at dksX8_goesOn_7 22 rfl rfl)
theorem dX8_goesOn_188 : decode cX8_goesOn 188 = .ok (.iconst 2, 1) := dk_5 (dk_at dksX8_goesOn_7 23 rfl rfl)
theorem dX8_goesOn_189 : decode cX8_goesOn 189 = .ok (.if_icmp .ge 26, 3) := dk_162 0 26 (dk_at dksX8_goesOn_8 0 rfl rfl)
theorem dX8_goesOn_192 : decode cX8_goesOn 192 = .ok (.aload_n 0, 1) := dk_42 (dk_at dksX8_goesOn_8 3 rfl rfl)
theorem dX8_goesOn_193 : decode cX8_goesOn 193 = .ok (.bipush 10, 2) := dk_16 10 (dk_at dksX8_goesOn_8 4 rfl rfl)
theorem dX8_goesOn_195 : decode cX8_goesOn 195 = .ok (.aload_n 0, 1) := dk_42 (dk_at dksX8_goesOn_8 6 rfl rfl)
theorem dX8_goesOn_196 : decode cX8_goesOn 196 = .ok (.getfield 100, 3) := dk_180 0 100 (dk_at dksX8_goesOn_8 7 rfl rfl)
theorem dX8_goesOn_199 : decode cX8_goesOn 199 = .ok (.imul, 1) := dk_104 (dk_at dksX8_goesOn_8 10 rfl rfl)
theorem dX8_goesOn_200 : decode cX8_goesOn 200 = .ok (.aload_n 0, 1) := dk_42 (dk_at dksX8_goesOn_8 11 rfl rfl)
theorem dX8_goesOn_201 : decode cX8_goesOn 201 = .ok (.aload_n 0, 1) := dk_42 (dk_at dksX8_goesOn_8 12 rfl rfl)
theorem dX8_goesOn_202 : decode cX8_goesOn 202 = .ok (.getfield 80, 3) := dk_180 0 80 (dk_at dksX8_goesOn_8 13 rfl rfl)
theorem dX8_goesOn_205 : decode cX8_goesOn 205 = .ok (.invokevirtual 83, 3) := dk_182 0 83 (dk_at dksX8_goesOn_8 16 rfl rfl)
theorem dX8_goesOn_208 : decode cX8_goesOn 208 = .ok (.iadd, 1) := dk_96 (dk_at dksX8_goesOn_8 19 rfl rfl)
theorem dX8_goesOn_209 : decode cX8_goesOn 209 = .ok (.bipush 48, 2) := dk_16 48 (dk_at dksX8_goesOn_8 20 rfl rfl)
theorem dX8_goesOn_211 : decode cX8_goesOn 211 = .ok (.isub, 1) := dk_100 (dk_at dksX8_goesOn_8 22 rfl rfl)
theorem dX8_goesOn_212 : decode cX8_goesOn 212 = .ok (.putfield 100, 3) := dk_181 0 100 (dk_at dksX8_goesOn_9 0 rfl rfl)
theorem dX8_goesOn_215 : decode cX8_goesOn 215 = .ok (.iinc 2 1, 3) := dk_132 2 1 (dk_at dksX8_goesOn_9 3 rfl rfl)
theorem dX8_goesOn_218 : decode cX8_goesOn 218 = .ok (.aload_n 0, 1) := dk_42 (dk_at dksX8_goesOn_9 6 rfl rfl)
theorem dX8_goesOn_219 : decode cX8_goesOn 219 = .ok (.dup, 1) := dk_89 (dk_at dksX8_goesOn_9 7 rfl rfl)
theorem dX8_goesOn_220 : decode cX8_goesOn 220 = .ok (.getfield 80, 3) := dk_180 0 80 (dk_at dksX8_goesOn_9 8 rfl rfl)
theorem dX8_goesOn_223 : decode cX8_goesOn 223 = .ok (.iconst 1, 1) := dk_4 (dk_at dksX8_goesOn_9 11 rfl rfl)
theorem dX8_goesOn_224 : decode cX8_goesOn 224 = .ok (.iadd, 1) := dk_96 (dk_at dksX8_goesOn_9 12 rfl rfl)
theorem dX8_goesOn_225 : decode cX8_goesOn 225 = .ok (.putfield 80, 3) := dk_181 0 80 (dk_at dksX8_goesOn_9 13 rfl rfl)
theorem dX8_goesOn_228 : decode cX8_goesOn 228 = .ok (.goto (-55), 3) := dk_167 255 201 (dk_at dksX8_goesOn_9 16 rfl rfl)
theorem dX8_goesOn_231 : decode cX8_goesOn 231 = .ok (.iload_n 2, 1) := dk_28 (dk_at dksX8_goesOn_9 19 rfl rfl)
theorem dX8_goesOn_232 : decode cX8_goesOn 232 = .ok (.iconst 2, 1) := dk_5 (dk_at dksX8_goesOn_9 20 rfl rfl)
theorem dX8_goesOn_233 : decode cX8_goesOn 233 = .ok (.if_icmp .gt 32, 3) := dk_163 0 32 (dk_at dksX8_goesOn_9 21 rfl rfl)
theorem dX8_goesOn_236 : decode cX8_goesOn 236 = .ok (.aload_n 0, 1) := dk_42 (dk_at dksX8_goesOn_10 0 rfl rfl)
theorem dX8_goesOn_237 : decode cX8_goesOn 237 = .ok (.iconst 3, 1) := dk_6 (dk_at dksX8_goesOn_10 1 rfl rfl)
theorem dX8_goesOn_238 : decode cX8_goesOn 238 = .ok (.putfield 77, 3) := dk_181 0 77 (dk_at dksX8_goesOn_10 2 rfl rfl)
theorem dX8_goesOn_241 : decode cX8_goesOn 241 = .ok (.goto 24, 3) := dk_167 0 24 (dk_at dksX8_goesOn_10 5 rfl rfl)
theorem dX8_goesOn_244 : decode cX8_goesOn 244 = .ok (.iload_n 1, 1) := dk_27 (dk_at dksX8_goesOn_10 8 rfl rfl)
theorem dX8_goesOn_245 : decode cX8_goesOn 245 = .ok (.bipush 59, 2) := dk_16 59 (dk_at dksX8_goesOn_10 9 rfl rfl)
theorem dX8_goesOn_247 : decode cX8_goesOn 247 = .ok (.if_icmp .ne 18, 3) := dk_160 0 18 (dk_at dksX8_goesOn_10 11 rfl rfl)
theorem dX8_goesOn_250 : decode cX8_goesOn 250 = .ok (.aload_n 0, 1) := dk_42 (dk_at dksX8_goesOn_10 14 rfl rfl)
theorem dX8_goesOn_251 : decode cX8_goesOn 251 = .ok (.iconst 4, 1) := dk_7 (dk_at dksX8_goesOn_10 15 rfl rfl)
theorem dX8_goesOn_252 : decode cX8_goesOn 252 = .ok (.putfield 77, 3) := dk_181 0 77 (dk_at dksX8_goesOn_10 16 rfl rfl)
theorem dX8_goesOn_255 : decode cX8_goesOn 255 = .ok (.aload_n 0, 1) := dk_42 (dk_at dksX8_goesOn_10 19 rfl rfl)
theorem dX8_goesOn_256 : decode cX8_goesOn 256 = .ok (.dup, 1) := dk_89 (dk_at dksX8_goesOn_10 20 rfl rfl)
theorem dX8_goesOn_257 : decode cX8_goesOn 257 = .ok (.getfield 80, 3) := dk_180 0 80 (dk_at dksX8_goesOn_10 21 rfl rfl)
theorem dX8_goesOn_260 : decode cX8_goesOn 260 = .ok (.iconst 1, 1) := dk_4 (dk_at dksX8_goesOn_11 0 rfl rfl)
theorem dX8_goesOn_261 : decode cX8_goesOn 261 = .ok (.iadd, 1) := dk_96 (dk_at dksX8_goesOn_11 1 rfl rfl)
theorem dX8_goesOn_262 : decode cX8_goesOn 262 = .ok (.putfield 80, 3) := dk_181 0 80 (dk_at dksX8_goesOn_11 2 rfl rfl)
theorem dX8_goesOn_265 : decode cX8_goesOn 265 = .ok (.return_, 1) := dk_177 (dk_at dksX8_goesOn_11 5 rfl rfl)
abbrev cX8_byteAt : ByteArray := prog_26_method_13_code
def yX8_byteAt : MethodName := ⟨RX8, "byteAt", "(I)I"⟩
def dkwX8_byteAt_0 : List UInt8 := [27, 42, 180, 0, 62, 162, 0, 16, 42, 180, 0, 13, 27, 51, 17, 0, 255, 126, 167, 0, 4, 2, 172]
abbrev dktX8_byteAt_0 : List UInt8 := dkwX8_byteAt_0 ++ []
theorem dksX8_byteAt_0 : cX8_byteAt.data.toList.drop 0 = dktX8_byteAt_0 := by decide +kernel
theorem dX8_byteAt_0 : decode cX8_byteAt 0 = .ok (.iload_n 1, 1) := dk_27 (dk_at dksX8_byteAt_0 0 rfl rfl)
theorem dX8_byteAt_1 : decode cX8_byteAt 1 = .ok (.aload_n 0, 1) := dk_42 (dk_at dksX8_byteAt_0 1 rfl rfl)
theorem dX8_byteAt_2 : decode cX8_byteAt 2 = .ok (.getfield 62, 3) := dk_180 0 62 (dk_at dksX8_byteAt_0 2 rfl rfl)
theorem dX8_byteAt_5 : decode cX8_byteAt 5 = .ok (.if_icmp .ge 16, 3) := dk_162 0 16 (dk_at dksX8_byteAt_0 5 rfl rfl)
theorem dX8_byteAt_8 : decode cX8_byteAt 8 = .ok (.aload_n 0, 1) := dk_42 (dk_at dksX8_byteAt_0 8 rfl rfl)
theorem dX8_byteAt_9 : decode cX8_byteAt 9 = .ok (.getfield 13, 3) := dk_180 0 13 (dk_at dksX8_byteAt_0 9 rfl rfl)
theorem dX8_byteAt_12 : decode cX8_byteAt 12 = .ok (.iload_n 1, 1) := dk_27 (dk_at dksX8_byteAt_0 12 rfl rfl)
theorem dX8_byteAt_13 : decode cX8_byteAt 13 = .ok (.baload, 1) := dk_51 (dk_at dksX8_byteAt_0 13 rfl rfl)
theorem dX8_byteAt_14 : decode cX8_byteAt 14 = .ok (.sipush 255, 3) := dk_17 0 255 (dk_at dksX8_byteAt_0 14 rfl rfl)
theorem dX8_byteAt_17 : decode cX8_byteAt 17 = .ok (.iand, 1) := dk_126 (dk_at dksX8_byteAt_0 17 rfl rfl)
theorem dX8_byteAt_18 : decode cX8_byteAt 18 = .ok (.goto 4, 3) := dk_167 0 4 (dk_at dksX8_byteAt_0 18 rfl rfl)
theorem dX8_byteAt_21 : decode cX8_byteAt 21 = .ok (.iconst (-1), 1) := dk_2 (dk_at dksX8_byteAt_0 21 rfl rfl)
theorem dX8_byteAt_22 : decode cX8_byteAt 22 = .ok (.ireturn, 1) := dk_172 (dk_at dksX8_byteAt_0 22 rfl rfl)
abbrev cX8_isLetter : ByteArray := prog_26_method_14_code
def yX8_isLetter : MethodName := ⟨RX8, "isLetter", "(I)Z"⟩
def dkwX8_isLetter_0 : List UInt8 := [26, 16, 97, 161, 0, 13, 26, 16, 122, 163, 0, 7, 4, 167, 0, 4, 3, 172]
abbrev dktX8_isLetter_0 : List UInt8 := dkwX8_isLetter_0 ++ []
theorem dksX8_isLetter_0 : cX8_isLetter.data.toList.drop 0 = dktX8_isLetter_0 := by decide +kernel
theorem dX8_isLetter_0 : decode cX8_isLetter 0 = .ok (.iload_n 0, 1) := dk_26 (dk_at dksX8_isLetter_0 0 rfl rfl)
theorem dX8_isLetter_1 : decode cX8_isLetter 1 = .ok (.bipush 97, 2) := dk_16 97 (dk_at dksX8_isLetter_0 1 rfl rfl)
theorem dX8_isLetter_3 : decode cX8_isLetter 3 = .ok (.if_icmp .lt 13, 3) := dk_161 0 13 (dk_at dksX8_isLetter_0 3 rfl rfl)
theorem dX8_isLetter_6 : decode cX8_isLetter 6 = .ok (.iload_n 0, 1) := dk_26 (dk_at dksX8_isLetter_0 6 rfl rfl)
theorem dX8_isLetter_7 : decode cX8_isLetter 7 = .ok (.bipush 122, 2) := dk_16 122 (dk_at dksX8_isLetter_0 7 rfl rfl)
theorem dX8_isLetter_9 : decode cX8_isLetter 9 = .ok (.if_icmp .gt 7, 3) := dk_163 0 7 (dk_at dksX8_isLetter_0 9 rfl rfl)
theorem dX8_isLetter_12 : decode cX8_isLetter 12 = .ok (.iconst 1, 1) := dk_4 (dk_at dksX8_isLetter_0 12 rfl rfl)
theorem dX8_isLetter_13 : decode cX8_isLetter 13 = .ok (.goto 4, 3) := dk_167 0 4 (dk_at dksX8_isLetter_0 13 rfl rfl)
theorem dX8_isLetter_16 : decode cX8_isLetter 16 = .ok (.iconst 0, 1) := dk_3 (dk_at dksX8_isLetter_0 16 rfl rfl)
theorem dX8_isLetter_17 : decode cX8_isLetter 17 = .ok (.ireturn, 1) := dk_172 (dk_at dksX8_isLetter_0 17 rfl rfl)
abbrev cX8_isDigit : ByteArray := prog_26_method_15_code
def yX8_isDigit : MethodName := ⟨RX8, "isDigit", "(I)Z"⟩
def dkwX8_isDigit_0 : List UInt8 := [26, 16, 48, 161, 0, 13, 26, 16, 57, 163, 0, 7, 4, 167, 0, 4, 3, 172]
abbrev dktX8_isDigit_0 : List UInt8 := dkwX8_isDigit_0 ++ []
theorem dksX8_isDigit_0 : cX8_isDigit.data.toList.drop 0 = dktX8_isDigit_0 := by decide +kernel
theorem dX8_isDigit_0 : decode cX8_isDigit 0 = .ok (.iload_n 0, 1) := dk_26 (dk_at dksX8_isDigit_0 0 rfl rfl)
theorem dX8_isDigit_1 : decode cX8_isDigit 1 = .ok (.bipush 48, 2) := dk_16 48 (dk_at dksX8_isDigit_0 1 rfl rfl)
theorem dX8_isDigit_3 : decode cX8_isDigit 3 = .ok (.if_icmp .lt 13, 3) := dk_161 0 13 (dk_at dksX8_isDigit_0 3 rfl rfl)
theorem dX8_isDigit_6 : decode cX8_isDigit 6 = .ok (.iload_n 0, 1) := dk_26 (dk_at dksX8_isDigit_0 6 rfl rfl)
theorem dX8_isDigit_7 : decode cX8_isDigit 7 = .ok (.bipush 57, 2) := dk_16 57 (dk_at dksX8_isDigit_0 7 rfl rfl)
theorem dX8_isDigit_9 : decode cX8_isDigit 9 = .ok (.if_icmp .gt 7, 3) := dk_163 0 7 (dk_at dksX8_isDigit_0 9 rfl rfl)
theorem dX8_isDigit_12 : decode cX8_isDigit 12 = .ok (.iconst 1, 1) := dk_4 (dk_at dksX8_isDigit_0 12 rfl rfl)
theorem dX8_isDigit_13 : decode cX8_isDigit 13 = .ok (.goto 4, 3) := dk_167 0 4 (dk_at dksX8_isDigit_0 13 rfl rfl)
theorem dX8_isDigit_16 : decode cX8_isDigit 16 = .ok (.iconst 0, 1) := dk_3 (dk_at dksX8_isDigit_0 16 rfl rfl)
theorem dX8_isDigit_17 : decode cX8_isDigit 17 = .ok (.ireturn, 1) := dk_172 (dk_at dksX8_isDigit_0 17 rfl rfl)
abbrev cX8_readAll : ByteArray := prog_26_method_30_code
def yX8_readAll : MethodName := ⟨RX8, "readAll", "()V"⟩
def dkwX8_readAll_2 : List UInt8 := [180, 0, 194, 154, 0, 9, 42, 16, 6, 182, 0, 120, 177]
abbrev dktX8_readAll_2 : List UInt8 := dkwX8_readAll_2 ++ []
def dkwX8_readAll_1 : List UInt8 := [159, 0, 8, 42, 4, 182, 0, 120, 42, 180, 0, 152, 180, 0, 191, 153, 0, 13, 42, 180, 0, 152]
abbrev dktX8_readAll_1 : List UInt8 := dkwX8_readAll_1 ++ dktX8_readAll_2
def dkwX8_readAll_0 : List UInt8 := [4, 60, 27, 153, 0, 15, 42, 182, 0, 185, 42, 182, 0, 188, 60, 167, 255, 243, 42, 180, 0, 77, 4]
abbrev dktX8_readAll_0 : List UInt8 := dkwX8_readAll_0 ++ dktX8_readAll_1
theorem dksX8_readAll_0 : cX8_readAll.data.toList.drop 0 = dktX8_readAll_0 := by decide +kernel
theorem dksX8_readAll_1 : cX8_readAll.data.toList.drop 23 = dktX8_readAll_1 := dk_seg dksX8_readAll_0 23 rfl rfl
theorem dksX8_readAll_2 : cX8_readAll.data.toList.drop 45 = dktX8_readAll_2 := dk_seg dksX8_readAll_1 22 rfl rfl
theorem dX8_readAll_0 : decode cX8_readAll 0 = .ok (.iconst 1, 1) := dk_4 (dk_at dksX8_readAll_0 0 rfl rfl)
theorem dX8_readAll_1 : decode cX8_readAll 1 = .ok (.istore_n 1, 1) := dk_60 (dk_at dksX8_readAll_0 1 rfl rfl)
theorem dX8_readAll_2 : decode cX8_readAll 2 = .ok (.iload_n 1, 1) := dk_27 (dk_at dksX8_readAll_0 2 rfl rfl)
theorem dX8_readAll_3 : decode cX8_readAll 3 = .ok (.ifCond .eq 15, 3) := dk_153 0 15 (dk_at dksX8_readAll_0 3 rfl rfl)
theorem dX8_readAll_6 : decode cX8_readAll 6 = .ok (.aload_n 0, 1) := dk_42 (dk_at dksX8_readAll_0 6 rfl rfl)
theorem dX8_readAll_7 : decode cX8_readAll 7 = .ok (.invokevirtual 185, 3) := dk_182 0 185 (dk_at dksX8_readAll_0 7 rfl rfl)
theorem dX8_readAll_10 : decode cX8_readAll 10 = .ok (.aload_n 0, 1) := dk_42 (dk_at dksX8_readAll_0 10 rfl rfl)
theorem dX8_readAll_11 : decode cX8_readAll 11 = .ok (.invokevirtual 188, 3) := dk_182 0 188 (dk_at dksX8_readAll_0 11 rfl rfl)
theorem dX8_readAll_14 : decode cX8_readAll 14 = .ok (.istore_n 1, 1) := dk_60 (dk_at dksX8_readAll_0 14 rfl rfl)
theorem dX8_readAll_15 : decode cX8_readAll 15 = .ok (.goto (-13), 3) := dk_167 255 243 (dk_at dksX8_readAll_0 15 rfl rfl)
theorem dX8_readAll_18 : decode cX8_readAll 18 = .ok (.aload_n 0, 1) := dk_42 (dk_at dksX8_readAll_0 18 rfl rfl)
theorem dX8_readAll_19 : decode cX8_readAll 19 = .ok (.getfield 77, 3) := dk_180 0 77 (dk_at dksX8_readAll_0 19 rfl rfl)
theorem dX8_readAll_22 : decode cX8_readAll 22 = .ok (.iconst 1, 1) := dk_4 (dk_at dksX8_readAll_0 22 rfl rfl)
theorem dX8_readAll_23 : decode cX8_readAll 23 = .ok (.if_icmp .eq 8, 3) := dk_159 0 8 (dk_at dksX8_readAll_1 0 rfl rfl)
theorem dX8_readAll_26 : decode cX8_readAll 26 = .ok (.aload_n 0, 1) := dk_42 (dk_at dksX8_readAll_1 3 rfl rfl)
theorem dX8_readAll_27 : decode cX8_readAll 27 = .ok (.iconst 1, 1) := dk_4 (dk_at dksX8_readAll_1 4 rfl rfl)
theorem dX8_readAll_28 : decode cX8_readAll 28 = .ok (.invokevirtual 120, 3) := dk_182 0 120 (dk_at dksX8_readAll_1 5 rfl rfl)
theorem dX8_readAll_31 : decode cX8_readAll 31 = .ok (.aload_n 0, 1) := dk_42 (dk_at dksX8_readAll_1 8 rfl rfl)
theorem dX8_readAll_32 : decode cX8_readAll 32 = .ok (.getfield 152, 3) := dk_180 0 152 (dk_at dksX8_readAll_1 9 rfl rfl)
theorem dX8_readAll_35 : decode cX8_readAll 35 = .ok (.getfield 191, 3) := dk_180 0 191 (dk_at dksX8_readAll_1 12 rfl rfl)
theorem dX8_readAll_38 : decode cX8_readAll 38 = .ok (.ifCond .eq 13, 3) := dk_153 0 13 (dk_at dksX8_readAll_1 15 rfl rfl)
theorem dX8_readAll_41 : decode cX8_readAll 41 = .ok (.aload_n 0, 1) := dk_42 (dk_at dksX8_readAll_1 18 rfl rfl)
theorem dX8_readAll_42 : decode cX8_readAll 42 = .ok (.getfield 152, 3) := dk_180 0 152 (dk_at dksX8_readAll_1 19 rfl rfl)
theorem dX8_readAll_45 : decode cX8_readAll 45 = .ok (.getfield 194, 3) := dk_180 0 194 (dk_at dksX8_readAll_2 0 rfl rfl)
theorem dX8_readAll_48 : decode cX8_readAll 48 = .ok (.ifCond .ne 9, 3) := dk_154 0 9 (dk_at dksX8_readAll_2 3 rfl rfl)
theorem dX8_readAll_51 : decode cX8_readAll 51 = .ok (.aload_n 0, 1) := dk_42 (dk_at dksX8_readAll_2 6 rfl rfl)
theorem dX8_readAll_52 : decode cX8_readAll 52 = .ok (.bipush 6, 2) := dk_16 6 (dk_at dksX8_readAll_2 7 rfl rfl)
theorem dX8_readAll_54 : decode cX8_readAll 54 = .ok (.invokevirtual 120, 3) := dk_182 0 120 (dk_at dksX8_readAll_2 9 rfl rfl)
theorem dX8_readAll_57 : decode cX8_readAll 57 = .ok (.return_, 1) := dk_177 (dk_at dksX8_readAll_2 12 rfl rfl)
abbrev cX8_readLine : ByteArray := prog_26_method_31_code
def yX8_readLine : MethodName := ⟨RX8, "readLine", "()V"⟩
def dkwX8_readLine_5 : List UInt8 := [18, 150, 182, 0, 116, 153, 0, 10, 42, 182, 0, 218, 167, 0, 8, 42, 4, 182, 0, 120, 177]
abbrev dktX8_readLine_5 : List UInt8 := dkwX8_readLine_5 ++ []
def dkwX8_readLine_4 : List UInt8 := [182, 0, 212, 167, 0, 40, 42, 18, 148, 182, 0, 116, 153, 0, 10, 42, 182, 0, 215, 167, 0, 24, 42]
abbrev dktX8_readLine_4 : List UInt8 := dkwX8_readLine_4 ++ dktX8_readLine_5
def dkwX8_readLine_3 : List UInt8 := [182, 0, 116, 153, 0, 10, 42, 182, 0, 209, 167, 0, 56, 42, 18, 146, 182, 0, 116, 153, 0, 10, 42]
abbrev dktX8_readLine_3 : List UInt8 := dkwX8_readLine_3 ++ dktX8_readLine_4
def dkwX8_readLine_2 : List UInt8 := [167, 0, 88, 42, 18, 142, 182, 0, 116, 153, 0, 10, 42, 182, 0, 206, 167, 0, 72, 42, 18, 144]
abbrev dktX8_readLine_2 : List UInt8 := dkwX8_readLine_2 ++ dktX8_readLine_3
def dkwX8_readLine_1 : List UInt8 := [153, 0, 10, 42, 182, 0, 200, 167, 0, 104, 42, 18, 140, 182, 0, 116, 153, 0, 10, 42, 182, 0, 203]
abbrev dktX8_readLine_1 : List UInt8 := dkwX8_readLine_1 ++ dktX8_readLine_2
def dkwX8_readLine_0 : List UInt8 := [42, 18, 136, 182, 0, 116, 153, 0, 10, 42, 182, 0, 197, 167, 0, 120, 42, 18, 138, 182, 0, 116]
abbrev dktX8_readLine_0 : List UInt8 := dkwX8_readLine_0 ++ dktX8_readLine_1
theorem dksX8_readLine_0 : cX8_readLine.data.toList.drop 0 = dktX8_readLine_0 := by decide +kernel
theorem dksX8_readLine_1 : cX8_readLine.data.toList.drop 22 = dktX8_readLine_1 := dk_seg dksX8_readLine_0 22 rfl rfl
theorem dksX8_readLine_2 : cX8_readLine.data.toList.drop 45 = dktX8_readLine_2 := dk_seg dksX8_readLine_1 23 rfl rfl
theorem dksX8_readLine_3 : cX8_readLine.data.toList.drop 67 = dktX8_readLine_3 := dk_seg dksX8_readLine_2 22 rfl rfl
theorem dksX8_readLine_4 : cX8_readLine.data.toList.drop 90 = dktX8_readLine_4 := dk_seg dksX8_readLine_3 23 rfl rfl
theorem dksX8_readLine_5 : cX8_readLine.data.toList.drop 113 = dktX8_readLine_5 := dk_seg dksX8_readLine_4 23 rfl rfl
theorem dX8_readLine_0 : decode cX8_readLine 0 = .ok (.aload_n 0, 1) := dk_42 (dk_at dksX8_readLine_0 0 rfl rfl)
theorem dX8_readLine_1 : decode cX8_readLine 1 = .ok (.ldc 136, 2) := dk_18 136 (dk_at dksX8_readLine_0 1 rfl rfl)
theorem dX8_readLine_3 : decode cX8_readLine 3 = .ok (.invokevirtual 116, 3) := dk_182 0 116 (dk_at dksX8_readLine_0 3 rfl rfl)
theorem dX8_readLine_6 : decode cX8_readLine 6 = .ok (.ifCond .eq 10, 3) := dk_153 0 10 (dk_at dksX8_readLine_0 6 rfl rfl)
theorem dX8_readLine_9 : decode cX8_readLine 9 = .ok (.aload_n 0, 1) := dk_42 (dk_at dksX8_readLine_0 9 rfl rfl)
theorem dX8_readLine_10 : decode cX8_readLine 10 = .ok (.invokevirtual 197, 3) := dk_182 0 197 (dk_at dksX8_readLine_0 10 rfl rfl)
theorem dX8_readLine_13 : decode cX8_readLine 13 = .ok (.goto 120, 3) := dk_167 0 120 (dk_at dksX8_readLine_0 13 rfl rfl)
theorem dX8_readLine_16 : decode cX8_readLine 16 = .ok (.aload_n 0, 1) := dk_42 (dk_at dksX8_readLine_0 16 rfl rfl)
theorem dX8_readLine_17 : decode cX8_readLine 17 = .ok (.ldc 138, 2) := dk_18 138 (dk_at dksX8_readLine_0 17 rfl rfl)
theorem dX8_readLine_19 : decode cX8_readLine 19 = .ok (.invokevirtual 116, 3) := dk_182 0 116 (dk_at dksX8_readLine_0 19 rfl rfl)
theorem dX8_readLine_22 : decode cX8_readLine 22 = .ok (.ifCond .eq 10, 3) := dk_153 0 10 (dk_at dksX8_readLine_1 0 rfl rfl)
theorem dX8_readLine_25 : decode cX8_readLine 25 = .ok (.aload_n 0, 1) := dk_42 (dk_at dksX8_readLine_1 3 rfl rfl)
theorem dX8_readLine_26 : decode cX8_readLine 26 = .ok (.invokevirtual 200, 3) := dk_182 0 200 (dk_at dksX8_readLine_1 4 rfl rfl)
theorem dX8_readLine_29 : decode cX8_readLine 29 = .ok (.goto 104, 3) := dk_167 0 104 (dk_at dksX8_readLine_1 7 rfl rfl)
theorem dX8_readLine_32 : decode cX8_readLine 32 = .ok (.aload_n 0, 1) := dk_42 (dk_at dksX8_readLine_1 10 rfl rfl)
theorem dX8_readLine_33 : decode cX8_readLine 33 = .ok (.ldc 140, 2) := dk_18 140 (dk_at dksX8_readLine_1 11 rfl rfl)
theorem dX8_readLine_35 : decode cX8_readLine 35 = .ok (.invokevirtual 116, 3) := dk_182 0 116 (dk_at dksX8_readLine_1 13 rfl rfl)
theorem dX8_readLine_38 : decode cX8_readLine 38 = .ok (.ifCond .eq 10, 3) := dk_153 0 10 (dk_at dksX8_readLine_1 16 rfl rfl)
theorem dX8_readLine_41 : decode cX8_readLine 41 = .ok (.aload_n 0, 1) := dk_42 (dk_at dksX8_readLine_1 19 rfl rfl)
theorem dX8_readLine_42 : decode cX8_readLine 42 = .ok (.invokevirtual 203, 3) := dk_182 0 203 (dk_at dksX8_readLine_1 20 rfl rfl)
theorem dX8_readLine_45 : decode cX8_readLine 45 = .ok (.goto 88, 3) := dk_167 0 88 (dk_at dksX8_readLine_2 0 rfl rfl)
theorem dX8_readLine_48 : decode cX8_readLine 48 = .ok (.aload_n 0, 1) := dk_42 (dk_at dksX8_readLine_2 3 rfl rfl)
theorem dX8_readLine_49 : decode cX8_readLine 49 = .ok (.ldc 142, 2) := dk_18 142 (dk_at dksX8_readLine_2 4 rfl rfl)
theorem dX8_readLine_51 : decode cX8_readLine 51 = .ok (.invokevirtual 116, 3) := dk_182 0 116 (dk_at dksX8_readLine_2 6 rfl rfl)
theorem dX8_readLine_54 : decode cX8_readLine 54 = .ok (.ifCond .eq 10, 3) := dk_153 0 10 (dk_at dksX8_readLine_2 9 rfl rfl)
theorem dX8_readLine_57 : decode cX8_readLine 57 = .ok (.aload_n 0, 1) := dk_42 (dk_at dksX8_readLine_2 12 rfl rfl)
theorem dX8_readLine_58 : decode cX8_readLine 58 = .ok (.invokevirtual 206, 3) := dk_182 0 206 (dk_at dksX8_readLine_2 13 rfl rfl)
theorem dX8_readLine_61 : decode cX8_readLine 61 = .ok (.goto 72, 3) := dk_167 0 72 (dk_at dksX8_readLine_2 16 rfl rfl)
theorem dX8_readLine_64 : decode cX8_readLine 64 = .ok (.aload_n 0, 1) := dk_42 (dk_at dksX8_readLine_2 19 rfl rfl)
theorem dX8_readLine_65 : decode cX8_readLine 65 = .ok (.ldc 144, 2) := dk_18 144 (dk_at dksX8_readLine_2 20 rfl rfl)
theorem dX8_readLine_67 : decode cX8_readLine 67 = .ok (.invokevirtual 116, 3) := dk_182 0 116 (dk_at dksX8_readLine_3 0 rfl rfl)
theorem dX8_readLine_70 : decode cX8_readLine 70 = .ok (.ifCond .eq 10, 3) := dk_153 0 10 (dk_at dksX8_readLine_3 3 rfl rfl)
theorem dX8_readLine_73 : decode cX8_readLine 73 = .ok (.aload_n 0, 1) := dk_42 (dk_at dksX8_readLine_3 6 rfl rfl)
theorem dX8_readLine_74 : decode cX8_readLine 74 = .ok (.invokevirtual 209, 3) := dk_182 0 209 (dk_at dksX8_readLine_3 7 rfl rfl)
theorem dX8_readLine_77 : decode cX8_readLine 77 = .ok (.goto 56, 3) := dk_167 0 56 (dk_at dksX8_readLine_3 10 rfl rfl)
theorem dX8_readLine_80 : decode cX8_readLine 80 = .ok (.aload_n 0, 1) := dk_42 (dk_at dksX8_readLine_3 13 rfl rfl)
theorem dX8_readLine_81 : decode cX8_readLine 81 = .ok (.ldc 146, 2) := dk_18 146 (dk_at dksX8_readLine_3 14 rfl rfl)
theorem dX8_readLine_83 : decode cX8_readLine 83 = .ok (.invokevirtual 116, 3) := dk_182 0 116 (dk_at dksX8_readLine_3 16 rfl rfl)
theorem dX8_readLine_86 : decode cX8_readLine 86 = .ok (.ifCond .eq 10, 3) := dk_153 0 10 (dk_at dksX8_readLine_3 19 rfl rfl)
theorem dX8_readLine_89 : decode cX8_readLine 89 = .ok (.aload_n 0, 1) := dk_42 (dk_at dksX8_readLine_3 22 rfl rfl)
theorem dX8_readLine_90 : decode cX8_readLine 90 = .ok (.invokevirtual 212, 3) := dk_182 0 212 (dk_at dksX8_readLine_4 0 rfl rfl)
theorem dX8_readLine_93 : decode cX8_readLine 93 = .ok (.goto 40, 3) := dk_167 0 40 (dk_at dksX8_readLine_4 3 rfl rfl)
theorem dX8_readLine_96 : decode cX8_readLine 96 = .ok (.aload_n 0, 1) := dk_42 (dk_at dksX8_readLine_4 6 rfl rfl)
theorem dX8_readLine_97 : decode cX8_readLine 97 = .ok (.ldc 148, 2) := dk_18 148 (dk_at dksX8_readLine_4 7 rfl rfl)
theorem dX8_readLine_99 : decode cX8_readLine 99 = .ok (.invokevirtual 116, 3) := dk_182 0 116 (dk_at dksX8_readLine_4 9 rfl rfl)
theorem dX8_readLine_102 : decode cX8_readLine 102 = .ok (.ifCond .eq 10, 3) := dk_153 0 10 (dk_at dksX8_readLine_4 12 rfl rfl)
theorem dX8_readLine_105 : decode cX8_readLine 105 = .ok (.aload_n 0, 1) := dk_42 (dk_at dksX8_readLine_4 15 rfl rfl)
theorem dX8_readLine_106 : decode cX8_readLine 106 = .ok (.invokevirtual 215, 3) := dk_182 0 215 (dk_at dksX8_readLine_4 16 rfl rfl)
theorem dX8_readLine_109 : decode cX8_readLine 109 = .ok (.goto 24, 3) := dk_167 0 24 (dk_at dksX8_readLine_4 19 rfl rfl)
theorem dX8_readLine_112 : decode cX8_readLine 112 = .ok (.aload_n 0, 1) := dk_42 (dk_at dksX8_readLine_4 22 rfl rfl)
theorem dX8_readLine_113 : decode cX8_readLine 113 = .ok (.ldc 150, 2) := dk_18 150 (dk_at dksX8_readLine_5 0 rfl rfl)
theorem dX8_readLine_115 : decode cX8_readLine 115 = .ok (.invokevirtual 116, 3) := dk_182 0 116 (dk_at dksX8_readLine_5 2 rfl rfl)
theorem dX8_readLine_118 : decode cX8_readLine 118 = .ok (.ifCond .eq 10, 3) := dk_153 0 10 (dk_at dksX8_readLine_5 5 rfl rfl)
theorem dX8_readLine_121 : decode cX8_readLine 121 = .ok (.aload_n 0, 1) := dk_42 (dk_at dksX8_readLine_5 8 rfl rfl)
theorem dX8_readLine_122 : decode cX8_readLine 122 = .ok (.invokevirtual 218, 3) := dk_182 0 218 (dk_at dksX8_readLine_5 9 rfl rfl)
theorem dX8_readLine_125 : decode cX8_readLine 125 = .ok (.goto 8, 3) := dk_167 0 8 (dk_at dksX8_readLine_5 12 rfl rfl)
theorem dX8_readLine_128 : decode cX8_readLine 128 = .ok (.aload_n 0, 1) := dk_42 (dk_at dksX8_readLine_5 15 rfl rfl)
theorem dX8_readLine_129 : decode cX8_readLine 129 = .ok (.iconst 1, 1) := dk_4 (dk_at dksX8_readLine_5 16 rfl rfl)
theorem dX8_readLine_130 : decode cX8_readLine 130 = .ok (.invokevirtual 120, 3) := dk_182 0 120 (dk_at dksX8_readLine_5 17 rfl rfl)
theorem dX8_readLine_133 : decode cX8_readLine 133 = .ok (.return_, 1) := dk_177 (dk_at dksX8_readLine_5 20 rfl rfl)
abbrev cX8_isWord : ByteArray := prog_26_method_19_code
def yX8_isWord : MethodName := ⟨RX8, "isWord", "(Ljava/lang/String;)Z"⟩
def dkwX8_isWord_1 : List UInt8 := [3, 172]
abbrev dktX8_isWord_1 : List UInt8 := dkwX8_isWord_1 ++ []
def dkwX8_isWord_0 : List UInt8 := [42, 180, 0, 77, 5, 160, 0, 19, 42, 180, 0, 93, 43, 184, 0, 109, 148, 154, 0, 7, 4, 167, 0, 4]
abbrev dktX8_isWord_0 : List UInt8 := dkwX8_isWord_0 ++ dktX8_isWord_1
theorem dksX8_isWord_0 : cX8_isWord.data.toList.drop 0 = dktX8_isWord_0 := by decide +kernel
theorem dksX8_isWord_1 : cX8_isWord.data.toList.drop 24 = dktX8_isWord_1 := dk_seg dksX8_isWord_0 24 rfl rfl
theorem dX8_isWord_0 : decode cX8_isWord 0 = .ok (.aload_n 0, 1) := dk_42 (dk_at dksX8_isWord_0 0 rfl rfl)
theorem dX8_isWord_1 : decode cX8_isWord 1 = .ok (.getfield 77, 3) := dk_180 0 77 (dk_at dksX8_isWord_0 1 rfl rfl)
theorem dX8_isWord_4 : decode cX8_isWord 4 = .ok (.iconst 2, 1) := dk_5 (dk_at dksX8_isWord_0 4 rfl rfl)
theorem dX8_isWord_5 : decode cX8_isWord 5 = .ok (.if_icmp .ne 19, 3) := dk_160 0 19 (dk_at dksX8_isWord_0 5 rfl rfl)
theorem dX8_isWord_8 : decode cX8_isWord 8 = .ok (.aload_n 0, 1) := dk_42 (dk_at dksX8_isWord_0 8 rfl rfl)
theorem dX8_isWord_9 : decode cX8_isWord 9 = .ok (.getfield 93, 3) := dk_180 0 93 (dk_at dksX8_isWord_0 9 rfl rfl)
theorem dX8_isWord_12 : decode cX8_isWord 12 = .ok (.aload_n 1, 1) := dk_43 (dk_at dksX8_isWord_0 12 rfl rfl)
theorem dX8_isWord_13 : decode cX8_isWord 13 = .ok (.invokestatic 109, 3) := dk_184 0 109 (dk_at dksX8_isWord_0 13 rfl rfl)
theorem dX8_isWord_16 : decode cX8_isWord 16 = .ok (.lcmp, 1) := dk_148 (dk_at dksX8_isWord_0 16 rfl rfl)
theorem dX8_isWord_17 : decode cX8_isWord 17 = .ok (.ifCond .ne 7, 3) := dk_154 0 7 (dk_at dksX8_isWord_0 17 rfl rfl)
theorem dX8_isWord_20 : decode cX8_isWord 20 = .ok (.iconst 1, 1) := dk_4 (dk_at dksX8_isWord_0 20 rfl rfl)
theorem dX8_isWord_21 : decode cX8_isWord 21 = .ok (.goto 4, 3) := dk_167 0 4 (dk_at dksX8_isWord_0 21 rfl rfl)
theorem dX8_isWord_24 : decode cX8_isWord 24 = .ok (.iconst 0, 1) := dk_3 (dk_at dksX8_isWord_1 0 rfl rfl)
theorem dX8_isWord_25 : decode cX8_isWord 25 = .ok (.ireturn, 1) := dk_172 (dk_at dksX8_isWord_1 1 rfl rfl)
abbrev cX8_packed : ByteArray := prog_26_method_16_code
def yX8_packed : MethodName := ⟨RX8, "packed", "(Ljava/lang/String;)J"⟩
def dkwX8_packed_1 : List UInt8 := [100, 4, 96, 133, 97, 64, 132, 3, 1, 167, 255, 227, 31, 173]
abbrev dktX8_packed_1 : List UInt8 := dkwX8_packed_1 ++ []
def dkwX8_packed_0 : List UInt8 := [9, 64, 3, 62, 29, 42, 182, 0, 65, 162, 0, 27, 20, 0, 71, 31, 105, 42, 29, 182, 0, 73, 16, 97]
abbrev dktX8_packed_0 : List UInt8 := dkwX8_packed_0 ++ dktX8_packed_1
theorem dksX8_packed_0 : cX8_packed.data.toList.drop 0 = dktX8_packed_0 := by decide +kernel
theorem dksX8_packed_1 : cX8_packed.data.toList.drop 24 = dktX8_packed_1 := dk_seg dksX8_packed_0 24 rfl rfl
theorem dX8_packed_0 : decode cX8_packed 0 = .ok (.lconst 0, 1) := dk_9 (dk_at dksX8_packed_0 0 rfl rfl)
theorem dX8_packed_1 : decode cX8_packed 1 = .ok (.lstore_n 1, 1) := dk_64 (dk_at dksX8_packed_0 1 rfl rfl)
theorem dX8_packed_2 : decode cX8_packed 2 = .ok (.iconst 0, 1) := dk_3 (dk_at dksX8_packed_0 2 rfl rfl)
theorem dX8_packed_3 : decode cX8_packed 3 = .ok (.istore_n 3, 1) := dk_62 (dk_at dksX8_packed_0 3 rfl rfl)
theorem dX8_packed_4 : decode cX8_packed 4 = .ok (.iload_n 3, 1) := dk_29 (dk_at dksX8_packed_0 4 rfl rfl)
theorem dX8_packed_5 : decode cX8_packed 5 = .ok (.aload_n 0, 1) := dk_42 (dk_at dksX8_packed_0 5 rfl rfl)
theorem dX8_packed_6 : decode cX8_packed 6 = .ok (.invokevirtual 65, 3) := dk_182 0 65 (dk_at dksX8_packed_0 6 rfl rfl)
theorem dX8_packed_9 : decode cX8_packed 9 = .ok (.if_icmp .ge 27, 3) := dk_162 0 27 (dk_at dksX8_packed_0 9 rfl rfl)
theorem dX8_packed_12 : decode cX8_packed 12 = .ok (.ldc2_w 71, 3) := dk_20 0 71 (dk_at dksX8_packed_0 12 rfl rfl)
theorem dX8_packed_15 : decode cX8_packed 15 = .ok (.lload_n 1, 1) := dk_31 (dk_at dksX8_packed_0 15 rfl rfl)
theorem dX8_packed_16 : decode cX8_packed 16 = .ok (.lmul, 1) := dk_105 (dk_at dksX8_packed_0 16 rfl rfl)
theorem dX8_packed_17 : decode cX8_packed 17 = .ok (.aload_n 0, 1) := dk_42 (dk_at dksX8_packed_0 17 rfl rfl)
theorem dX8_packed_18 : decode cX8_packed 18 = .ok (.iload_n 3, 1) := dk_29 (dk_at dksX8_packed_0 18 rfl rfl)
theorem dX8_packed_19 : decode cX8_packed 19 = .ok (.invokevirtual 73, 3) := dk_182 0 73 (dk_at dksX8_packed_0 19 rfl rfl)
theorem dX8_packed_22 : decode cX8_packed 22 = .ok (.bipush 97, 2) := dk_16 97 (dk_at dksX8_packed_0 22 rfl rfl)
theorem dX8_packed_24 : decode cX8_packed 24 = .ok (.isub, 1) := dk_100 (dk_at dksX8_packed_1 0 rfl rfl)
theorem dX8_packed_25 : decode cX8_packed 25 = .ok (.iconst 1, 1) := dk_4 (dk_at dksX8_packed_1 1 rfl rfl)
theorem dX8_packed_26 : decode cX8_packed 26 = .ok (.iadd, 1) := dk_96 (dk_at dksX8_packed_1 2 rfl rfl)
theorem dX8_packed_27 : decode cX8_packed 27 = .ok (.i2l, 1) := dk_133 (dk_at dksX8_packed_1 3 rfl rfl)
theorem dX8_packed_28 : decode cX8_packed 28 = .ok (.ladd, 1) := dk_97 (dk_at dksX8_packed_1 4 rfl rfl)
theorem dX8_packed_29 : decode cX8_packed 29 = .ok (.lstore_n 1, 1) := dk_64 (dk_at dksX8_packed_1 5 rfl rfl)
theorem dX8_packed_30 : decode cX8_packed 30 = .ok (.iinc 3 1, 3) := dk_132 3 1 (dk_at dksX8_packed_1 6 rfl rfl)
theorem dX8_packed_33 : decode cX8_packed 33 = .ok (.goto (-29), 3) := dk_167 255 227 (dk_at dksX8_packed_1 9 rfl rfl)
theorem dX8_packed_36 : decode cX8_packed 36 = .ok (.lload_n 1, 1) := dk_31 (dk_at dksX8_packed_1 12 rfl rfl)
theorem dX8_packed_37 : decode cX8_packed 37 = .ok (.lreturn, 1) := dk_173 (dk_at dksX8_packed_1 13 rfl rfl)
abbrev cX8_readCounty : ByteArray := prog_26_method_32_code
def yX8_readCounty : MethodName := ⟨RX8, "readCounty", "()V"⟩
def dkwX8_readCounty_3 : List UInt8 := [180, 0, 152, 28, 181, 0, 230, 42, 180, 0, 152, 29, 181, 0, 232, 177]
abbrev dktX8_readCounty_3 : List UInt8 := dkwX8_readCounty_3 ++ []
def dkwX8_readCounty_2 : List UInt8 := [182, 0, 222, 62, 42, 180, 0, 77, 8, 160, 0, 4, 177, 42, 180, 0, 152, 27, 181, 0, 156, 42]
abbrev dktX8_readCounty_2 : List UInt8 := dkwX8_readCounty_2 ++ dktX8_readCounty_3
def dkwX8_readCounty_1 : List UInt8 := [16, 30, 182, 0, 222, 60, 42, 18, 226, 3, 16, 99, 182, 0, 222, 61, 42, 18, 228, 3, 16, 99]
abbrev dktX8_readCounty_1 : List UInt8 := dkwX8_readCounty_1 ++ dktX8_readCounty_2
def dkwX8_readCounty_0 : List UInt8 := [42, 180, 0, 152, 180, 0, 156, 158, 0, 8, 42, 6, 182, 0, 120, 42, 182, 0, 113, 42, 18, 221, 4]
abbrev dktX8_readCounty_0 : List UInt8 := dkwX8_readCounty_0 ++ dktX8_readCounty_1
theorem dksX8_readCounty_0 : cX8_readCounty.data.toList.drop 0 = dktX8_readCounty_0 := by decide +kernel
theorem dksX8_readCounty_1 : cX8_readCounty.data.toList.drop 23 = dktX8_readCounty_1 := dk_seg dksX8_readCounty_0 23 rfl rfl
theorem dksX8_readCounty_2 : cX8_readCounty.data.toList.drop 45 = dktX8_readCounty_2 := dk_seg dksX8_readCounty_1 22 rfl rfl
theorem dksX8_readCounty_3 : cX8_readCounty.data.toList.drop 67 = dktX8_readCounty_3 := dk_seg dksX8_readCounty_2 22 rfl rfl
theorem dX8_readCounty_0 : decode cX8_readCounty 0 = .ok (.aload_n 0, 1) := dk_42 (dk_at dksX8_readCounty_0 0 rfl rfl)
theorem dX8_readCounty_1 : decode cX8_readCounty 1 = .ok (.getfield 152, 3) := dk_180 0 152 (dk_at dksX8_readCounty_0 1 rfl rfl)
theorem dX8_readCounty_4 : decode cX8_readCounty 4 = .ok (.getfield 156, 3) := dk_180 0 156 (dk_at dksX8_readCounty_0 4 rfl rfl)
theorem dX8_readCounty_7 : decode cX8_readCounty 7 = .ok (.ifCond .le 8, 3) := dk_158 0 8 (dk_at dksX8_readCounty_0 7 rfl rfl)
theorem dX8_readCounty_10 : decode cX8_readCounty 10 = .ok (.aload_n 0, 1) := dk_42 (dk_at dksX8_readCounty_0 10 rfl rfl)
theorem dX8_readCounty_11 : decode cX8_readCounty 11 = .ok (.iconst 3, 1) := dk_6 (dk_at dksX8_readCounty_0 11 rfl rfl)
theorem dX8_readCounty_12 : decode cX8_readCounty 12 = .ok (.invokevirtual 120, 3) := dk_182 0 120 (dk_at dksX8_readCounty_0 12 rfl rfl)
theorem dX8_readCounty_15 : decode cX8_readCounty 15 = .ok (.aload_n 0, 1) := dk_42 (dk_at dksX8_readCounty_0 15 rfl rfl)
theorem dX8_readCounty_16 : decode cX8_readCounty 16 = .ok (.invokevirtual 113, 3) := dk_182 0 113 (dk_at dksX8_readCounty_0 16 rfl rfl)
theorem dX8_readCounty_19 : decode cX8_readCounty 19 = .ok (.aload_n 0, 1) := dk_42 (dk_at dksX8_readCounty_0 19 rfl rfl)
theorem dX8_readCounty_20 : decode cX8_readCounty 20 = .ok (.ldc 221, 2) := dk_18 221 (dk_at dksX8_readCounty_0 20 rfl rfl)
theorem dX8_readCounty_22 : decode cX8_readCounty 22 = .ok (.iconst 1, 1) := dk_4 (dk_at dksX8_readCounty_0 22 rfl rfl)
theorem dX8_readCounty_23 : decode cX8_readCounty 23 = .ok (.bipush 30, 2) := dk_16 30 (dk_at dksX8_readCounty_1 0 rfl rfl)
theorem dX8_readCounty_25 : decode cX8_readCounty 25 = .ok (.invokevirtual 222, 3) := dk_182 0 222 (dk_at dksX8_readCounty_1 2 rfl rfl)
theorem dX8_readCounty_28 : decode cX8_readCounty 28 = .ok (.istore_n 1, 1) := dk_60 (dk_at dksX8_readCounty_1 5 rfl rfl)
theorem dX8_readCounty_29 : decode cX8_readCounty 29 = .ok (.aload_n 0, 1) := dk_42 (dk_at dksX8_readCounty_1 6 rfl rfl)
theorem dX8_readCounty_30 : decode cX8_readCounty 30 = .ok (.ldc 226, 2) := dk_18 226 (dk_at dksX8_readCounty_1 7 rfl rfl)
theorem dX8_readCounty_32 : decode cX8_readCounty 32 = .ok (.iconst 0, 1) := dk_3 (dk_at dksX8_readCounty_1 9 rfl rfl)
theorem dX8_readCounty_33 : decode cX8_readCounty 33 = .ok (.bipush 99, 2) := dk_16 99 (dk_at dksX8_readCounty_1 10 rfl rfl)
theorem dX8_readCounty_35 : decode cX8_readCounty 35 = .ok (.invokevirtual 222, 3) := dk_182 0 222 (dk_at dksX8_readCounty_1 12 rfl rfl)
theorem dX8_readCounty_38 : decode cX8_readCounty 38 = .ok (.istore_n 2, 1) := dk_61 (dk_at dksX8_readCounty_1 15 rfl rfl)
theorem dX8_readCounty_39 : decode cX8_readCounty 39 = .ok (.aload_n 0, 1) := dk_42 (dk_at dksX8_readCounty_1 16 rfl rfl)
theorem dX8_readCounty_40 : decode cX8_readCounty 40 = .ok (.ldc 228, 2) := dk_18 228 (dk_at dksX8_readCounty_1 17 rfl rfl)
theorem dX8_readCounty_42 : decode cX8_readCounty 42 = .ok (.iconst 0, 1) := dk_3 (dk_at dksX8_readCounty_1 19 rfl rfl)
theorem dX8_readCounty_43 : decode cX8_readCounty 43 = .ok (.bipush 99, 2) := dk_16 99 (dk_at dksX8_readCounty_1 20 rfl rfl)
theorem dX8_readCounty_45 : decode cX8_readCounty 45 = .ok (.invokevirtual 222, 3) := dk_182 0 222 (dk_at dksX8_readCounty_2 0 rfl rfl)
theorem dX8_readCounty_48 : decode cX8_readCounty 48 = .ok (.istore_n 3, 1) := dk_62 (dk_at dksX8_readCounty_2 3 rfl rfl)
theorem dX8_readCounty_49 : decode cX8_readCounty 49 = .ok (.aload_n 0, 1) := dk_42 (dk_at dksX8_readCounty_2 4 rfl rfl)
theorem dX8_readCounty_50 : decode cX8_readCounty 50 = .ok (.getfield 77, 3) := dk_180 0 77 (dk_at dksX8_readCounty_2 5 rfl rfl)
theorem dX8_readCounty_53 : decode cX8_readCounty 53 = .ok (.iconst 5, 1) := dk_8 (dk_at dksX8_readCounty_2 8 rfl rfl)
theorem dX8_readCounty_54 : decode cX8_readCounty 54 = .ok (.if_icmp .ne 4, 3) := dk_160 0 4 (dk_at dksX8_readCounty_2 9 rfl rfl)
theorem dX8_readCounty_57 : decode cX8_readCounty 57 = .ok (.return_, 1) := dk_177 (dk_at dksX8_readCounty_2 12 rfl rfl)
theorem dX8_readCounty_58 : decode cX8_readCounty 58 = .ok (.aload_n 0, 1) := dk_42 (dk_at dksX8_readCounty_2 13 rfl rfl)
theorem dX8_readCounty_59 : decode cX8_readCounty 59 = .ok (.getfield 152, 3) := dk_180 0 152 (dk_at dksX8_readCounty_2 14 rfl rfl)
theorem dX8_readCounty_62 : decode cX8_readCounty 62 = .ok (.iload_n 1, 1) := dk_27 (dk_at dksX8_readCounty_2 17 rfl rfl)
theorem dX8_readCounty_63 : decode cX8_readCounty 63 = .ok (.putfield 156, 3) := dk_181 0 156 (dk_at dksX8_readCounty_2 18 rfl rfl)
theorem dX8_readCounty_66 : decode cX8_readCounty 66 = .ok (.aload_n 0, 1) := dk_42 (dk_at dksX8_readCounty_2 21 rfl rfl)
theorem dX8_readCounty_67 : decode cX8_readCounty 67 = .ok (.getfield 152, 3) := dk_180 0 152 (dk_at dksX8_readCounty_3 0 rfl rfl)
theorem dX8_readCounty_70 : decode cX8_readCounty 70 = .ok (.iload_n 2, 1) := dk_28 (dk_at dksX8_readCounty_3 3 rfl rfl)
theorem dX8_readCounty_71 : decode cX8_readCounty 71 = .ok (.putfield 230, 3) := dk_181 0 230 (dk_at dksX8_readCounty_3 4 rfl rfl)
theorem dX8_readCounty_74 : decode cX8_readCounty 74 = .ok (.aload_n 0, 1) := dk_42 (dk_at dksX8_readCounty_3 7 rfl rfl)
theorem dX8_readCounty_75 : decode cX8_readCounty 75 = .ok (.getfield 152, 3) := dk_180 0 152 (dk_at dksX8_readCounty_3 8 rfl rfl)
theorem dX8_readCounty_78 : decode cX8_readCounty 78 = .ok (.iload_n 3, 1) := dk_29 (dk_at dksX8_readCounty_3 11 rfl rfl)
theorem dX8_readCounty_79 : decode cX8_readCounty 79 = .ok (.putfield 232, 3) := dk_181 0 232 (dk_at dksX8_readCounty_3 12 rfl rfl)
theorem dX8_readCounty_82 : decode cX8_readCounty 82 = .ok (.return_, 1) := dk_177 (dk_at dksX8_readCounty_3 15 rfl rfl)
abbrev cX8_flaw : ByteArray := prog_26_method_18_code
def yX8_flaw : MethodName := ⟨RX8, "flaw", "(I)V"⟩
def dkwX8_flaw_1 : List UInt8 := [181, 0, 77, 177]
abbrev dktX8_flaw_1 : List UInt8 := dkwX8_flaw_1 ++ []
def dkwX8_flaw_0 : List UInt8 := [42, 180, 0, 77, 8, 160, 0, 4, 177, 42, 27, 181, 0, 103, 42, 42, 180, 0, 86, 181, 0, 106, 42, 8]
abbrev dktX8_flaw_0 : List UInt8 := dkwX8_flaw_0 ++ dktX8_flaw_1
theorem dksX8_flaw_0 : cX8_flaw.data.toList.drop 0 = dktX8_flaw_0 := by decide +kernel
theorem dksX8_flaw_1 : cX8_flaw.data.toList.drop 24 = dktX8_flaw_1 := dk_seg dksX8_flaw_0 24 rfl rfl
theorem dX8_flaw_0 : decode cX8_flaw 0 = .ok (.aload_n 0, 1) := dk_42 (dk_at dksX8_flaw_0 0 rfl rfl)
theorem dX8_flaw_1 : decode cX8_flaw 1 = .ok (.getfield 77, 3) := dk_180 0 77 (dk_at dksX8_flaw_0 1 rfl rfl)
theorem dX8_flaw_4 : decode cX8_flaw 4 = .ok (.iconst 5, 1) := dk_8 (dk_at dksX8_flaw_0 4 rfl rfl)
theorem dX8_flaw_5 : decode cX8_flaw 5 = .ok (.if_icmp .ne 4, 3) := dk_160 0 4 (dk_at dksX8_flaw_0 5 rfl rfl)
theorem dX8_flaw_8 : decode cX8_flaw 8 = .ok (.return_, 1) := dk_177 (dk_at dksX8_flaw_0 8 rfl rfl)
theorem dX8_flaw_9 : decode cX8_flaw 9 = .ok (.aload_n 0, 1) := dk_42 (dk_at dksX8_flaw_0 9 rfl rfl)
theorem dX8_flaw_10 : decode cX8_flaw 10 = .ok (.iload_n 1, 1) := dk_27 (dk_at dksX8_flaw_0 10 rfl rfl)
theorem dX8_flaw_11 : decode cX8_flaw 11 = .ok (.putfield 103, 3) := dk_181 0 103 (dk_at dksX8_flaw_0 11 rfl rfl)
theorem dX8_flaw_14 : decode cX8_flaw 14 = .ok (.aload_n 0, 1) := dk_42 (dk_at dksX8_flaw_0 14 rfl rfl)
theorem dX8_flaw_15 : decode cX8_flaw 15 = .ok (.aload_n 0, 1) := dk_42 (dk_at dksX8_flaw_0 15 rfl rfl)
theorem dX8_flaw_16 : decode cX8_flaw 16 = .ok (.getfield 86, 3) := dk_180 0 86 (dk_at dksX8_flaw_0 16 rfl rfl)
theorem dX8_flaw_19 : decode cX8_flaw 19 = .ok (.putfield 106, 3) := dk_181 0 106 (dk_at dksX8_flaw_0 19 rfl rfl)
theorem dX8_flaw_22 : decode cX8_flaw 22 = .ok (.aload_n 0, 1) := dk_42 (dk_at dksX8_flaw_0 22 rfl rfl)
theorem dX8_flaw_23 : decode cX8_flaw 23 = .ok (.iconst 5, 1) := dk_8 (dk_at dksX8_flaw_0 23 rfl rfl)
theorem dX8_flaw_24 : decode cX8_flaw 24 = .ok (.putfield 77, 3) := dk_181 0 77 (dk_at dksX8_flaw_1 0 rfl rfl)
theorem dX8_flaw_27 : decode cX8_flaw 27 = .ok (.return_, 1) := dk_177 (dk_at dksX8_flaw_1 3 rfl rfl)
abbrev cX8_readPart : ByteArray := prog_26_method_23_code
def yX8_readPart : MethodName := ⟨RX8, "readPart", "(Ljava/lang/String;II)I"⟩
def dkwX8_readPart_0 : List UInt8 := [42, 43, 182, 0, 128, 42, 28, 29, 182, 0, 132, 172]
abbrev dktX8_readPart_0 : List UInt8 := dkwX8_readPart_0 ++ []
theorem dksX8_readPart_0 : cX8_readPart.data.toList.drop 0 = dktX8_readPart_0 := by decide +kernel
theorem dX8_readPart_0 : decode cX8_readPart 0 = .ok (.aload_n 0, 1) := dk_42 (dk_at dksX8_readPart_0 0 rfl rfl)
theorem dX8_readPart_1 : decode cX8_readPart 1 = .ok (.aload_n 1, 1) := dk_43 (dk_at dksX8_readPart_0 1 rfl rfl)
theorem dX8_readPart_2 : decode cX8_readPart 2 = .ok (.invokevirtual 128, 3) := dk_182 0 128 (dk_at dksX8_readPart_0 2 rfl rfl)
theorem dX8_readPart_5 : decode cX8_readPart 5 = .ok (.aload_n 0, 1) := dk_42 (dk_at dksX8_readPart_0 5 rfl rfl)
theorem dX8_readPart_6 : decode cX8_readPart 6 = .ok (.iload_n 2, 1) := dk_28 (dk_at dksX8_readPart_0 6 rfl rfl)
theorem dX8_readPart_7 : decode cX8_readPart 7 = .ok (.iload_n 3, 1) := dk_29 (dk_at dksX8_readPart_0 7 rfl rfl)
theorem dX8_readPart_8 : decode cX8_readPart 8 = .ok (.invokevirtual 132, 3) := dk_182 0 132 (dk_at dksX8_readPart_0 8 rfl rfl)
theorem dX8_readPart_11 : decode cX8_readPart 11 = .ok (.ireturn, 1) := dk_172 (dk_at dksX8_readPart_0 11 rfl rfl)
abbrev cX8_needs : ByteArray := prog_26_method_21_code
def yX8_needs : MethodName := ⟨RX8, "needs", "(Ljava/lang/String;)V"⟩
def dkwX8_needs_0 : List UInt8 := [42, 43, 182, 0, 116, 154, 0, 8, 42, 4, 182, 0, 120, 42, 182, 0, 113, 177]
abbrev dktX8_needs_0 : List UInt8 := dkwX8_needs_0 ++ []
theorem dksX8_needs_0 : cX8_needs.data.toList.drop 0 = dktX8_needs_0 := by decide +kernel
theorem dX8_needs_0 : decode cX8_needs 0 = .ok (.aload_n 0, 1) := dk_42 (dk_at dksX8_needs_0 0 rfl rfl)
theorem dX8_needs_1 : decode cX8_needs 1 = .ok (.aload_n 1, 1) := dk_43 (dk_at dksX8_needs_0 1 rfl rfl)
theorem dX8_needs_2 : decode cX8_needs 2 = .ok (.invokevirtual 116, 3) := dk_182 0 116 (dk_at dksX8_needs_0 2 rfl rfl)
theorem dX8_needs_5 : decode cX8_needs 5 = .ok (.ifCond .ne 8, 3) := dk_154 0 8 (dk_at dksX8_needs_0 5 rfl rfl)
theorem dX8_needs_8 : decode cX8_needs 8 = .ok (.aload_n 0, 1) := dk_42 (dk_at dksX8_needs_0 8 rfl rfl)
theorem dX8_needs_9 : decode cX8_needs 9 = .ok (.iconst 1, 1) := dk_4 (dk_at dksX8_needs_0 9 rfl rfl)
theorem dX8_needs_10 : decode cX8_needs 10 = .ok (.invokevirtual 120, 3) := dk_182 0 120 (dk_at dksX8_needs_0 10 rfl rfl)
theorem dX8_needs_13 : decode cX8_needs 13 = .ok (.aload_n 0, 1) := dk_42 (dk_at dksX8_needs_0 13 rfl rfl)
theorem dX8_needs_14 : decode cX8_needs 14 = .ok (.invokevirtual 113, 3) := dk_182 0 113 (dk_at dksX8_needs_0 14 rfl rfl)
theorem dX8_needs_17 : decode cX8_needs 17 = .ok (.return_, 1) := dk_177 (dk_at dksX8_needs_0 17 rfl rfl)
abbrev cX8_readWhole : ByteArray := prog_26_method_22_code
def yX8_readWhole : MethodName := ⟨RX8, "readWhole", "(II)I"⟩
def dkwX8_readWhole_2 : List UInt8 := [180, 0, 100, 62, 42, 182, 0, 113, 29, 172]
abbrev dktX8_readWhole_2 : List UInt8 := dkwX8_readWhole_2 ++ []
def dkwX8_readWhole_1 : List UInt8 := [184, 0, 124, 154, 0, 8, 42, 7, 182, 0, 120, 42, 180, 0, 77, 8, 160, 0, 7, 27, 167, 0, 7, 42]
abbrev dktX8_readWhole_1 : List UInt8 := dkwX8_readWhole_1 ++ dktX8_readWhole_2
def dkwX8_readWhole_0 : List UInt8 := [42, 180, 0, 77, 6, 159, 0, 11, 42, 4, 182, 0, 120, 167, 0, 20, 42, 180, 0, 100, 27, 28]
abbrev dktX8_readWhole_0 : List UInt8 := dkwX8_readWhole_0 ++ dktX8_readWhole_1
theorem dksX8_readWhole_0 : cX8_readWhole.data.toList.drop 0 = dktX8_readWhole_0 := by decide +kernel
theorem dksX8_readWhole_1 : cX8_readWhole.data.toList.drop 22 = dktX8_readWhole_1 := dk_seg dksX8_readWhole_0 22 rfl rfl
theorem dksX8_readWhole_2 : cX8_readWhole.data.toList.drop 46 = dktX8_readWhole_2 := dk_seg dksX8_readWhole_1 24 rfl rfl
theorem dX8_readWhole_0 : decode cX8_readWhole 0 = .ok (.aload_n 0, 1) := dk_42 (dk_at dksX8_readWhole_0 0 rfl rfl)
theorem dX8_readWhole_1 : decode cX8_readWhole 1 = .ok (.getfield 77, 3) := dk_180 0 77 (dk_at dksX8_readWhole_0 1 rfl rfl)
theorem dX8_readWhole_4 : decode cX8_readWhole 4 = .ok (.iconst 3, 1) := dk_6 (dk_at dksX8_readWhole_0 4 rfl rfl)
theorem dX8_readWhole_5 : decode cX8_readWhole 5 = .ok (.if_icmp .eq 11, 3) := dk_159 0 11 (dk_at dksX8_readWhole_0 5 rfl rfl)
theorem dX8_readWhole_8 : decode cX8_readWhole 8 = .ok (.aload_n 0, 1) := dk_42 (dk_at dksX8_readWhole_0 8 rfl rfl)
theorem dX8_readWhole_9 : decode cX8_readWhole 9 = .ok (.iconst 1, 1) := dk_4 (dk_at dksX8_readWhole_0 9 rfl rfl)
theorem dX8_readWhole_10 : decode cX8_readWhole 10 = .ok (.invokevirtual 120, 3) := dk_182 0 120 (dk_at dksX8_readWhole_0 10 rfl rfl)
theorem dX8_readWhole_13 : decode cX8_readWhole 13 = .ok (.goto 20, 3) := dk_167 0 20 (dk_at dksX8_readWhole_0 13 rfl rfl)
theorem dX8_readWhole_16 : decode cX8_readWhole 16 = .ok (.aload_n 0, 1) := dk_42 (dk_at dksX8_readWhole_0 16 rfl rfl)
theorem dX8_readWhole_17 : decode cX8_readWhole 17 = .ok (.getfield 100, 3) := dk_180 0 100 (dk_at dksX8_readWhole_0 17 rfl rfl)
theorem dX8_readWhole_20 : decode cX8_readWhole 20 = .ok (.iload_n 1, 1) := dk_27 (dk_at dksX8_readWhole_0 20 rfl rfl)
theorem dX8_readWhole_21 : decode cX8_readWhole 21 = .ok (.iload_n 2, 1) := dk_28 (dk_at dksX8_readWhole_0 21 rfl rfl)
theorem dX8_readWhole_22 : decode cX8_readWhole 22 = .ok (.invokestatic 124, 3) := dk_184 0 124 (dk_at dksX8_readWhole_1 0 rfl rfl)
theorem dX8_readWhole_25 : decode cX8_readWhole 25 = .ok (.ifCond .ne 8, 3) := dk_154 0 8 (dk_at dksX8_readWhole_1 3 rfl rfl)
theorem dX8_readWhole_28 : decode cX8_readWhole 28 = .ok (.aload_n 0, 1) := dk_42 (dk_at dksX8_readWhole_1 6 rfl rfl)
theorem dX8_readWhole_29 : decode cX8_readWhole 29 = .ok (.iconst 4, 1) := dk_7 (dk_at dksX8_readWhole_1 7 rfl rfl)
theorem dX8_readWhole_30 : decode cX8_readWhole 30 = .ok (.invokevirtual 120, 3) := dk_182 0 120 (dk_at dksX8_readWhole_1 8 rfl rfl)
theorem dX8_readWhole_33 : decode cX8_readWhole 33 = .ok (.aload_n 0, 1) := dk_42 (dk_at dksX8_readWhole_1 11 rfl rfl)
theorem dX8_readWhole_34 : decode cX8_readWhole 34 = .ok (.getfield 77, 3) := dk_180 0 77 (dk_at dksX8_readWhole_1 12 rfl rfl)
theorem dX8_readWhole_37 : decode cX8_readWhole 37 = .ok (.iconst 5, 1) := dk_8 (dk_at dksX8_readWhole_1 15 rfl rfl)
theorem dX8_readWhole_38 : decode cX8_readWhole 38 = .ok (.if_icmp .ne 7, 3) := dk_160 0 7 (dk_at dksX8_readWhole_1 16 rfl rfl)
theorem dX8_readWhole_41 : decode cX8_readWhole 41 = .ok (.iload_n 1, 1) := dk_27 (dk_at dksX8_readWhole_1 19 rfl rfl)
theorem dX8_readWhole_42 : decode cX8_readWhole 42 = .ok (.goto 7, 3) := dk_167 0 7 (dk_at dksX8_readWhole_1 20 rfl rfl)
theorem dX8_readWhole_45 : decode cX8_readWhole 45 = .ok (.aload_n 0, 1) := dk_42 (dk_at dksX8_readWhole_1 23 rfl rfl)
theorem dX8_readWhole_46 : decode cX8_readWhole 46 = .ok (.getfield 100, 3) := dk_180 0 100 (dk_at dksX8_readWhole_2 0 rfl rfl)
theorem dX8_readWhole_49 : decode cX8_readWhole 49 = .ok (.istore_n 3, 1) := dk_62 (dk_at dksX8_readWhole_2 3 rfl rfl)
theorem dX8_readWhole_50 : decode cX8_readWhole 50 = .ok (.aload_n 0, 1) := dk_42 (dk_at dksX8_readWhole_2 4 rfl rfl)
theorem dX8_readWhole_51 : decode cX8_readWhole 51 = .ok (.invokevirtual 113, 3) := dk_182 0 113 (dk_at dksX8_readWhole_2 5 rfl rfl)
theorem dX8_readWhole_54 : decode cX8_readWhole 54 = .ok (.iload_n 3, 1) := dk_29 (dk_at dksX8_readWhole_2 8 rfl rfl)
theorem dX8_readWhole_55 : decode cX8_readWhole 55 = .ok (.ireturn, 1) := dk_172 (dk_at dksX8_readWhole_2 9 rfl rfl)
abbrev cX8_in : ByteArray := prog_26_method_8_code
def yX8_in : MethodName := ⟨RX8, "in", "(III)Z"⟩
def dkwX8_in_0 : List UInt8 := [26, 27, 161, 0, 12, 26, 28, 163, 0, 7, 4, 167, 0, 4, 3, 172]
abbrev dktX8_in_0 : List UInt8 := dkwX8_in_0 ++ []
theorem dksX8_in_0 : cX8_in.data.toList.drop 0 = dktX8_in_0 := by decide +kernel
theorem dX8_in_0 : decode cX8_in 0 = .ok (.iload_n 0, 1) := dk_26 (dk_at dksX8_in_0 0 rfl rfl)
theorem dX8_in_1 : decode cX8_in 1 = .ok (.iload_n 1, 1) := dk_27 (dk_at dksX8_in_0 1 rfl rfl)
theorem dX8_in_2 : decode cX8_in 2 = .ok (.if_icmp .lt 12, 3) := dk_161 0 12 (dk_at dksX8_in_0 2 rfl rfl)
theorem dX8_in_5 : decode cX8_in 5 = .ok (.iload_n 0, 1) := dk_26 (dk_at dksX8_in_0 5 rfl rfl)
theorem dX8_in_6 : decode cX8_in 6 = .ok (.iload_n 2, 1) := dk_28 (dk_at dksX8_in_0 6 rfl rfl)
theorem dX8_in_7 : decode cX8_in 7 = .ok (.if_icmp .gt 7, 3) := dk_163 0 7 (dk_at dksX8_in_0 7 rfl rfl)
theorem dX8_in_10 : decode cX8_in 10 = .ok (.iconst 1, 1) := dk_4 (dk_at dksX8_in_0 10 rfl rfl)
theorem dX8_in_11 : decode cX8_in 11 = .ok (.goto 4, 3) := dk_167 0 4 (dk_at dksX8_in_0 11 rfl rfl)
theorem dX8_in_14 : decode cX8_in 14 = .ok (.iconst 0, 1) := dk_3 (dk_at dksX8_in_0 14 rfl rfl)
theorem dX8_in_15 : decode cX8_in 15 = .ok (.ireturn, 1) := dk_172 (dk_at dksX8_in_0 15 rfl rfl)
abbrev cX8_readPerson : ByteArray := prog_26_method_33_code
def yX8_readPerson : MethodName := ⟨RX8, "readPerson", "()V"⟩
def dkwX8_readPerson_5 : List UInt8 := [180, 0, 191, 4, 96, 181, 0, 191, 177]
abbrev dktX8_readPerson_5 : List UInt8 := dkwX8_readPerson_5 ++ []
def dkwX8_readPerson_4 : List UInt8 := [182, 0, 248, 42, 180, 0, 152, 180, 0, 251, 42, 180, 0, 152, 180, 0, 191, 29, 79, 42, 180, 0, 152, 89]
abbrev dktX8_readPerson_4 : List UInt8 := dkwX8_readPerson_4 ++ dktX8_readPerson_5
def dkwX8_readPerson_3 : List UInt8 := [182, 0, 113, 42, 180, 0, 77, 8, 160, 0, 4, 177, 42, 31, 3, 42, 180, 0, 152, 180, 0, 191]
abbrev dktX8_readPerson_3 : List UInt8 := dkwX8_readPerson_3 ++ dktX8_readPerson_4
def dkwX8_readPerson_2 : List UInt8 := [182, 0, 116, 153, 0, 7, 5, 167, 0, 4, 2, 62, 29, 2, 160, 0, 8, 42, 4, 182, 0, 120, 42]
abbrev dktX8_readPerson_2 : List UInt8 := dkwX8_readPerson_2 ++ dktX8_readPerson_3
def dkwX8_readPerson_1 : List UInt8 := [153, 0, 7, 3, 167, 0, 30, 42, 18, 244, 182, 0, 116, 153, 0, 7, 4, 167, 0, 17, 42, 18, 246]
abbrev dktX8_readPerson_1 : List UInt8 := dkwX8_readPerson_1 ++ dktX8_readPerson_2
def dkwX8_readPerson_0 : List UInt8 := [42, 42, 180, 0, 152, 180, 0, 191, 16, 6, 182, 0, 234, 42, 182, 0, 238, 64, 42, 18, 242, 182, 0, 116]
abbrev dktX8_readPerson_0 : List UInt8 := dkwX8_readPerson_0 ++ dktX8_readPerson_1
theorem dksX8_readPerson_0 : cX8_readPerson.data.toList.drop 0 = dktX8_readPerson_0 := by decide +kernel
theorem dksX8_readPerson_1 : cX8_readPerson.data.toList.drop 24 = dktX8_readPerson_1 := dk_seg dksX8_readPerson_0 24 rfl rfl
theorem dksX8_readPerson_2 : cX8_readPerson.data.toList.drop 47 = dktX8_readPerson_2 := dk_seg dksX8_readPerson_1 23 rfl rfl
theorem dksX8_readPerson_3 : cX8_readPerson.data.toList.drop 70 = dktX8_readPerson_3 := dk_seg dksX8_readPerson_2 23 rfl rfl
theorem dksX8_readPerson_4 : cX8_readPerson.data.toList.drop 92 = dktX8_readPerson_4 := dk_seg dksX8_readPerson_3 22 rfl rfl
theorem dksX8_readPerson_5 : cX8_readPerson.data.toList.drop 116 = dktX8_readPerson_5 := dk_seg dksX8_readPerson_4 24 rfl rfl
theorem dX8_readPerson_0 : decode cX8_readPerson 0 = .ok (.aload_n 0, 1) := dk_42 (dk_at dksX8_readPerson_0 0 rfl rfl)
theorem dX8_readPerson_1 : decode cX8_readPerson 1 = .ok (.aload_n 0, 1) := dk_42 (dk_at dksX8_readPerson_0 1 rfl rfl)
theorem dX8_readPerson_2 : decode cX8_readPerson 2 = .ok (.getfield 152, 3) := dk_180 0 152 (dk_at dksX8_readPerson_0 2 rfl rfl)
theorem dX8_readPerson_5 : decode cX8_readPerson 5 = .ok (.getfield 191, 3) := dk_180 0 191 (dk_at dksX8_readPerson_0 5 rfl rfl)
theorem dX8_readPerson_8 : decode cX8_readPerson 8 = .ok (.bipush 6, 2) := dk_16 6 (dk_at dksX8_readPerson_0 8 rfl rfl)
theorem dX8_readPerson_10 : decode cX8_readPerson 10 = .ok (.invokevirtual 234, 3) := dk_182 0 234 (dk_at dksX8_readPerson_0 10 rfl rfl)
theorem dX8_readPerson_13 : decode cX8_readPerson 13 = .ok (.aload_n 0, 1) := dk_42 (dk_at dksX8_readPerson_0 13 rfl rfl)
theorem dX8_readPerson_14 : decode cX8_readPerson 14 = .ok (.invokevirtual 238, 3) := dk_182 0 238 (dk_at dksX8_readPerson_0 14 rfl rfl)
theorem dX8_readPerson_17 : decode cX8_readPerson 17 = .ok (.lstore_n 1, 1) := dk_64 (dk_at dksX8_readPerson_0 17 rfl rfl)
theorem dX8_readPerson_18 : decode cX8_readPerson 18 = .ok (.aload_n 0, 1) := dk_42 (dk_at dksX8_readPerson_0 18 rfl rfl)
theorem dX8_readPerson_19 : decode cX8_readPerson 19 = .ok (.ldc 242, 2) := dk_18 242 (dk_at dksX8_readPerson_0 19 rfl rfl)
theorem dX8_readPerson_21 : decode cX8_readPerson 21 = .ok (.invokevirtual 116, 3) := dk_182 0 116 (dk_at dksX8_readPerson_0 21 rfl rfl)
theorem dX8_readPerson_24 : decode cX8_readPerson 24 = .ok (.ifCond .eq 7, 3) := dk_153 0 7 (dk_at dksX8_readPerson_1 0 rfl rfl)
theorem dX8_readPerson_27 : decode cX8_readPerson 27 = .ok (.iconst 0, 1) := dk_3 (dk_at dksX8_readPerson_1 3 rfl rfl)
theorem dX8_readPerson_28 : decode cX8_readPerson 28 = .ok (.goto 30, 3) := dk_167 0 30 (dk_at dksX8_readPerson_1 4 rfl rfl)
theorem dX8_readPerson_31 : decode cX8_readPerson 31 = .ok (.aload_n 0, 1) := dk_42 (dk_at dksX8_readPerson_1 7 rfl rfl)
theorem dX8_readPerson_32 : decode cX8_readPerson 32 = .ok (.ldc 244, 2) := dk_18 244 (dk_at dksX8_readPerson_1 8 rfl rfl)
theorem dX8_readPerson_34 : decode cX8_readPerson 34 = .ok (.invokevirtual 116, 3) := dk_182 0 116 (dk_at dksX8_readPerson_1 10 rfl rfl)
theorem dX8_readPerson_37 : decode cX8_readPerson 37 = .ok (.ifCond .eq 7, 3) := dk_153 0 7 (dk_at dksX8_readPerson_1 13 rfl rfl)
theorem dX8_readPerson_40 : decode cX8_readPerson 40 = .ok (.iconst 1, 1) := dk_4 (dk_at dksX8_readPerson_1 16 rfl rfl)
theorem dX8_readPerson_41 : decode cX8_readPerson 41 = .ok (.goto 17, 3) := dk_167 0 17 (dk_at dksX8_readPerson_1 17 rfl rfl)
theorem dX8_readPerson_44 : decode cX8_readPerson 44 = .ok (.aload_n 0, 1) := dk_42 (dk_at dksX8_readPerson_1 20 rfl rfl)
theorem dX8_readPerson_45 : decode cX8_readPerson 45 = .ok (.ldc 246, 2) := dk_18 246 (dk_at dksX8_readPerson_1 21 rfl rfl)
theorem dX8_readPerson_47 : decode cX8_readPerson 47 = .ok (.invokevirtual 116, 3) := dk_182 0 116 (dk_at dksX8_readPerson_2 0 rfl rfl)
theorem dX8_readPerson_50 : decode cX8_readPerson 50 = .ok (.ifCond .eq 7, 3) := dk_153 0 7 (dk_at dksX8_readPerson_2 3 rfl rfl)
theorem dX8_readPerson_53 : decode cX8_readPerson 53 = .ok (.iconst 2, 1) := dk_5 (dk_at dksX8_readPerson_2 6 rfl rfl)
theorem dX8_readPerson_54 : decode cX8_readPerson 54 = .ok (.goto 4, 3) := dk_167 0 4 (dk_at dksX8_readPerson_2 7 rfl rfl)
theorem dX8_readPerson_57 : decode cX8_readPerson 57 = .ok (.iconst (-1), 1) := dk_2 (dk_at dksX8_readPerson_2 10 rfl rfl)
theorem dX8_readPerson_58 : decode cX8_readPerson 58 = .ok (.istore_n 3, 1) := dk_62 (dk_at dksX8_readPerson_2 11 rfl rfl)
theorem dX8_readPerson_59 : decode cX8_readPerson 59 = .ok (.iload_n 3, 1) := dk_29 (dk_at dksX8_readPerson_2 12 rfl rfl)
theorem dX8_readPerson_60 : decode cX8_readPerson 60 = .ok (.iconst (-1), 1) := dk_2 (dk_at dksX8_readPerson_2 13 rfl rfl)
theorem dX8_readPerson_61 : decode cX8_readPerson 61 = .ok (.if_icmp .ne 8, 3) := dk_160 0 8 (dk_at dksX8_readPerson_2 14 rfl rfl)
theorem dX8_readPerson_64 : decode cX8_readPerson 64 = .ok (.aload_n 0, 1) := dk_42 (dk_at dksX8_readPerson_2 17 rfl rfl)
theorem dX8_readPerson_65 : decode cX8_readPerson 65 = .ok (.iconst 1, 1) := dk_4 (dk_at dksX8_readPerson_2 18 rfl rfl)
theorem dX8_readPerson_66 : decode cX8_readPerson 66 = .ok (.invokevirtual 120, 3) := dk_182 0 120 (dk_at dksX8_readPerson_2 19 rfl rfl)
theorem dX8_readPerson_69 : decode cX8_readPerson 69 = .ok (.aload_n 0, 1) := dk_42 (dk_at dksX8_readPerson_2 22 rfl rfl)
theorem dX8_readPerson_70 : decode cX8_readPerson 70 = .ok (.invokevirtual 113, 3) := dk_182 0 113 (dk_at dksX8_readPerson_3 0 rfl rfl)
theorem dX8_readPerson_73 : decode cX8_readPerson 73 = .ok (.aload_n 0, 1) := dk_42 (dk_at dksX8_readPerson_3 3 rfl rfl)
theorem dX8_readPerson_74 : decode cX8_readPerson 74 = .ok (.getfield 77, 3) := dk_180 0 77 (dk_at dksX8_readPerson_3 4 rfl rfl)
theorem dX8_readPerson_77 : decode cX8_readPerson 77 = .ok (.iconst 5, 1) := dk_8 (dk_at dksX8_readPerson_3 7 rfl rfl)
theorem dX8_readPerson_78 : decode cX8_readPerson 78 = .ok (.if_icmp .ne 4, 3) := dk_160 0 4 (dk_at dksX8_readPerson_3 8 rfl rfl)
theorem dX8_readPerson_81 : decode cX8_readPerson 81 = .ok (.return_, 1) := dk_177 (dk_at dksX8_readPerson_3 11 rfl rfl)
theorem dX8_readPerson_82 : decode cX8_readPerson 82 = .ok (.aload_n 0, 1) := dk_42 (dk_at dksX8_readPerson_3 12 rfl rfl)
theorem dX8_readPerson_83 : decode cX8_readPerson 83 = .ok (.lload_n 1, 1) := dk_31 (dk_at dksX8_readPerson_3 13 rfl rfl)
theorem dX8_readPerson_84 : decode cX8_readPerson 84 = .ok (.iconst 0, 1) := dk_3 (dk_at dksX8_readPerson_3 14 rfl rfl)
theorem dX8_readPerson_85 : decode cX8_readPerson 85 = .ok (.aload_n 0, 1) := dk_42 (dk_at dksX8_readPerson_3 15 rfl rfl)
theorem dX8_readPerson_86 : decode cX8_readPerson 86 = .ok (.getfield 152, 3) := dk_180 0 152 (dk_at dksX8_readPerson_3 16 rfl rfl)
theorem dX8_readPerson_89 : decode cX8_readPerson 89 = .ok (.getfield 191, 3) := dk_180 0 191 (dk_at dksX8_readPerson_3 19 rfl rfl)
theorem dX8_readPerson_92 : decode cX8_readPerson 92 = .ok (.invokevirtual 248, 3) := dk_182 0 248 (dk_at dksX8_readPerson_4 0 rfl rfl)
theorem dX8_readPerson_95 : decode cX8_readPerson 95 = .ok (.aload_n 0, 1) := dk_42 (dk_at dksX8_readPerson_4 3 rfl rfl)
theorem dX8_readPerson_96 : decode cX8_readPerson 96 = .ok (.getfield 152, 3) := dk_180 0 152 (dk_at dksX8_readPerson_4 4 rfl rfl)
theorem dX8_readPerson_99 : decode cX8_readPerson 99 = .ok (.getfield 251, 3) := dk_180 0 251 (dk_at dksX8_readPerson_4 7 rfl rfl)
theorem dX8_readPerson_102 : decode cX8_readPerson 102 = .ok (.aload_n 0, 1) := dk_42 (dk_at dksX8_readPerson_4 10 rfl rfl)
theorem dX8_readPerson_103 : decode cX8_readPerson 103 = .ok (.getfield 152, 3) := dk_180 0 152 (dk_at dksX8_readPerson_4 11 rfl rfl)
theorem dX8_readPerson_106 : decode cX8_readPerson 106 = .ok (.getfield 191, 3) := dk_180 0 191 (dk_at dksX8_readPerson_4 14 rfl rfl)
theorem dX8_readPerson_109 : decode cX8_readPerson 109 = .ok (.iload_n 3, 1) := dk_29 (dk_at dksX8_readPerson_4 17 rfl rfl)
theorem dX8_readPerson_110 : decode cX8_readPerson 110 = .ok (.iastore, 1) := dk_79 (dk_at dksX8_readPerson_4 18 rfl rfl)
theorem dX8_readPerson_111 : decode cX8_readPerson 111 = .ok (.aload_n 0, 1) := dk_42 (dk_at dksX8_readPerson_4 19 rfl rfl)
theorem dX8_readPerson_112 : decode cX8_readPerson 112 = .ok (.getfield 152, 3) := dk_180 0 152 (dk_at dksX8_readPerson_4 20 rfl rfl)
theorem dX8_readPerson_115 : decode cX8_readPerson 115 = .ok (.dup, 1) := dk_89 (dk_at dksX8_readPerson_4 23 rfl rfl)
theorem dX8_readPerson_116 : decode cX8_readPerson 116 = .ok (.getfield 191, 3) := dk_180 0 191 (dk_at dksX8_readPerson_5 0 rfl rfl)
theorem dX8_readPerson_119 : decode cX8_readPerson 119 = .ok (.iconst 1, 1) := dk_4 (dk_at dksX8_readPerson_5 3 rfl rfl)
theorem dX8_readPerson_120 : decode cX8_readPerson 120 = .ok (.iadd, 1) := dk_96 (dk_at dksX8_readPerson_5 4 rfl rfl)
theorem dX8_readPerson_121 : decode cX8_readPerson 121 = .ok (.putfield 191, 3) := dk_181 0 191 (dk_at dksX8_readPerson_5 5 rfl rfl)
theorem dX8_readPerson_124 : decode cX8_readPerson 124 = .ok (.return_, 1) := dk_177 (dk_at dksX8_readPerson_5 8 rfl rfl)
abbrev cX8_lineBegins : ByteArray := prog_26_method_25_code
def yX8_lineBegins : MethodName := ⟨RX8, "lineBegins", "(II)V"⟩
def dkwX8_lineBegins_1 : List UInt8 := [182, 0, 120, 42, 182, 0, 113, 177]
abbrev dktX8_lineBegins_1 : List UInt8 := dkwX8_lineBegins_1 ++ []
def dkwX8_lineBegins_0 : List UInt8 := [27, 28, 160, 0, 8, 42, 8, 182, 0, 120, 42, 180, 0, 152, 180, 0, 156, 154, 0, 9, 42, 16, 6]
abbrev dktX8_lineBegins_0 : List UInt8 := dkwX8_lineBegins_0 ++ dktX8_lineBegins_1
theorem dksX8_lineBegins_0 : cX8_lineBegins.data.toList.drop 0 = dktX8_lineBegins_0 := by decide +kernel
theorem dksX8_lineBegins_1 : cX8_lineBegins.data.toList.drop 23 = dktX8_lineBegins_1 := dk_seg dksX8_lineBegins_0 23 rfl rfl
theorem dX8_lineBegins_0 : decode cX8_lineBegins 0 = .ok (.iload_n 1, 1) := dk_27 (dk_at dksX8_lineBegins_0 0 rfl rfl)
theorem dX8_lineBegins_1 : decode cX8_lineBegins 1 = .ok (.iload_n 2, 1) := dk_28 (dk_at dksX8_lineBegins_0 1 rfl rfl)
theorem dX8_lineBegins_2 : decode cX8_lineBegins 2 = .ok (.if_icmp .ne 8, 3) := dk_160 0 8 (dk_at dksX8_lineBegins_0 2 rfl rfl)
theorem dX8_lineBegins_5 : decode cX8_lineBegins 5 = .ok (.aload_n 0, 1) := dk_42 (dk_at dksX8_lineBegins_0 5 rfl rfl)
theorem dX8_lineBegins_6 : decode cX8_lineBegins 6 = .ok (.iconst 5, 1) := dk_8 (dk_at dksX8_lineBegins_0 6 rfl rfl)
theorem dX8_lineBegins_7 : decode cX8_lineBegins 7 = .ok (.invokevirtual 120, 3) := dk_182 0 120 (dk_at dksX8_lineBegins_0 7 rfl rfl)
theorem dX8_lineBegins_10 : decode cX8_lineBegins 10 = .ok (.aload_n 0, 1) := dk_42 (dk_at dksX8_lineBegins_0 10 rfl rfl)
theorem dX8_lineBegins_11 : decode cX8_lineBegins 11 = .ok (.getfield 152, 3) := dk_180 0 152 (dk_at dksX8_lineBegins_0 11 rfl rfl)
theorem dX8_lineBegins_14 : decode cX8_lineBegins 14 = .ok (.getfield 156, 3) := dk_180 0 156 (dk_at dksX8_lineBegins_0 14 rfl rfl)
theorem dX8_lineBegins_17 : decode cX8_lineBegins 17 = .ok (.ifCond .ne 9, 3) := dk_154 0 9 (dk_at dksX8_lineBegins_0 17 rfl rfl)
theorem dX8_lineBegins_20 : decode cX8_lineBegins 20 = .ok (.aload_n 0, 1) := dk_42 (dk_at dksX8_lineBegins_0 20 rfl rfl)
theorem dX8_lineBegins_21 : decode cX8_lineBegins 21 = .ok (.bipush 6, 2) := dk_16 6 (dk_at dksX8_lineBegins_0 21 rfl rfl)
theorem dX8_lineBegins_23 : decode cX8_lineBegins 23 = .ok (.invokevirtual 120, 3) := dk_182 0 120 (dk_at dksX8_lineBegins_1 0 rfl rfl)
theorem dX8_lineBegins_26 : decode cX8_lineBegins 26 = .ok (.aload_n 0, 1) := dk_42 (dk_at dksX8_lineBegins_1 3 rfl rfl)
theorem dX8_lineBegins_27 : decode cX8_lineBegins 27 = .ok (.invokevirtual 113, 3) := dk_182 0 113 (dk_at dksX8_lineBegins_1 4 rfl rfl)
theorem dX8_lineBegins_30 : decode cX8_lineBegins 30 = .ok (.return_, 1) := dk_177 (dk_at dksX8_lineBegins_1 7 rfl rfl)
abbrev cX8_readFresh : ByteArray := prog_26_method_26_code
def yX8_readFresh : MethodName := ⟨RX8, "readFresh", "()J"⟩
def dkwX8_readFresh_1 : List UInt8 := [159, 0, 8, 42, 6, 182, 0, 120, 42, 180, 0, 93, 64, 42, 182, 0, 113, 31, 173]
abbrev dktX8_readFresh_1 : List UInt8 := dkwX8_readFresh_1 ++ []
def dkwX8_readFresh_0 : List UInt8 := [42, 182, 0, 161, 154, 0, 8, 42, 4, 182, 0, 120, 42, 180, 0, 152, 42, 180, 0, 93, 182, 0, 165, 2]
abbrev dktX8_readFresh_0 : List UInt8 := dkwX8_readFresh_0 ++ dktX8_readFresh_1
theorem dksX8_readFresh_0 : cX8_readFresh.data.toList.drop 0 = dktX8_readFresh_0 := by decide +kernel
theorem dksX8_readFresh_1 : cX8_readFresh.data.toList.drop 24 = dktX8_readFresh_1 := dk_seg dksX8_readFresh_0 24 rfl rfl
theorem dX8_readFresh_0 : decode cX8_readFresh 0 = .ok (.aload_n 0, 1) := dk_42 (dk_at dksX8_readFresh_0 0 rfl rfl)
theorem dX8_readFresh_1 : decode cX8_readFresh 1 = .ok (.invokevirtual 161, 3) := dk_182 0 161 (dk_at dksX8_readFresh_0 1 rfl rfl)
theorem dX8_readFresh_4 : decode cX8_readFresh 4 = .ok (.ifCond .ne 8, 3) := dk_154 0 8 (dk_at dksX8_readFresh_0 4 rfl rfl)
theorem dX8_readFresh_7 : decode cX8_readFresh 7 = .ok (.aload_n 0, 1) := dk_42 (dk_at dksX8_readFresh_0 7 rfl rfl)
theorem dX8_readFresh_8 : decode cX8_readFresh 8 = .ok (.iconst 1, 1) := dk_4 (dk_at dksX8_readFresh_0 8 rfl rfl)
theorem dX8_readFresh_9 : decode cX8_readFresh 9 = .ok (.invokevirtual 120, 3) := dk_182 0 120 (dk_at dksX8_readFresh_0 9 rfl rfl)
theorem dX8_readFresh_12 : decode cX8_readFresh 12 = .ok (.aload_n 0, 1) := dk_42 (dk_at dksX8_readFresh_0 12 rfl rfl)
theorem dX8_readFresh_13 : decode cX8_readFresh 13 = .ok (.getfield 152, 3) := dk_180 0 152 (dk_at dksX8_readFresh_0 13 rfl rfl)
theorem dX8_readFresh_16 : decode cX8_readFresh 16 = .ok (.aload_n 0, 1) := dk_42 (dk_at dksX8_readFresh_0 16 rfl rfl)
theorem dX8_readFresh_17 : decode cX8_readFresh 17 = .ok (.getfield 93, 3) := dk_180 0 93 (dk_at dksX8_readFresh_0 17 rfl rfl)
theorem dX8_readFresh_20 : decode cX8_readFresh 20 = .ok (.invokevirtual 165, 3) := dk_182 0 165 (dk_at dksX8_readFresh_0 20 rfl rfl)
theorem dX8_readFresh_23 : decode cX8_readFresh 23 = .ok (.iconst (-1), 1) := dk_2 (dk_at dksX8_readFresh_0 23 rfl rfl)
theorem dX8_readFresh_24 : decode cX8_readFresh 24 = .ok (.if_icmp .eq 8, 3) := dk_159 0 8 (dk_at dksX8_readFresh_1 0 rfl rfl)
theorem dX8_readFresh_27 : decode cX8_readFresh 27 = .ok (.aload_n 0, 1) := dk_42 (dk_at dksX8_readFresh_1 3 rfl rfl)
theorem dX8_readFresh_28 : decode cX8_readFresh 28 = .ok (.iconst 3, 1) := dk_6 (dk_at dksX8_readFresh_1 4 rfl rfl)
theorem dX8_readFresh_29 : decode cX8_readFresh 29 = .ok (.invokevirtual 120, 3) := dk_182 0 120 (dk_at dksX8_readFresh_1 5 rfl rfl)
theorem dX8_readFresh_32 : decode cX8_readFresh 32 = .ok (.aload_n 0, 1) := dk_42 (dk_at dksX8_readFresh_1 8 rfl rfl)
theorem dX8_readFresh_33 : decode cX8_readFresh 33 = .ok (.getfield 93, 3) := dk_180 0 93 (dk_at dksX8_readFresh_1 9 rfl rfl)
theorem dX8_readFresh_36 : decode cX8_readFresh 36 = .ok (.lstore_n 1, 1) := dk_64 (dk_at dksX8_readFresh_1 12 rfl rfl)
theorem dX8_readFresh_37 : decode cX8_readFresh 37 = .ok (.aload_n 0, 1) := dk_42 (dk_at dksX8_readFresh_1 13 rfl rfl)
theorem dX8_readFresh_38 : decode cX8_readFresh 38 = .ok (.invokevirtual 113, 3) := dk_182 0 113 (dk_at dksX8_readFresh_1 14 rfl rfl)
theorem dX8_readFresh_41 : decode cX8_readFresh 41 = .ok (.lload_n 1, 1) := dk_31 (dk_at dksX8_readFresh_1 17 rfl rfl)
theorem dX8_readFresh_42 : decode cX8_readFresh 42 = .ok (.lreturn, 1) := dk_173 (dk_at dksX8_readFresh_1 18 rfl rfl)
abbrev cX8_isName : ByteArray := prog_26_method_24_code
def yX8_isName : MethodName := ⟨RX8, "isName", "()Z"⟩
def dkwX8_isName_3 : List UInt8 := [154, 0, 16, 42, 18, 150, 182, 0, 116, 154, 0, 7, 4, 167, 0, 4, 3, 172]
abbrev dktX8_isName_3 : List UInt8 := dkwX8_isName_3 ++ []
def dkwX8_isName_2 : List UInt8 := [18, 144, 182, 0, 116, 154, 0, 34, 42, 18, 146, 182, 0, 116, 154, 0, 25, 42, 18, 148, 182, 0, 116]
abbrev dktX8_isName_2 : List UInt8 := dkwX8_isName_2 ++ dktX8_isName_3
def dkwX8_isName_1 : List UInt8 := [154, 0, 21, 42, 18, 140, 182, 0, 116, 154, 0, 12, 42, 18, 142, 182, 0, 116, 153, 0, 5, 3, 172, 42]
abbrev dktX8_isName_1 : List UInt8 := dkwX8_isName_1 ++ dktX8_isName_2
def dkwX8_isName_0 : List UInt8 := [42, 180, 0, 77, 5, 160, 0, 39, 42, 18, 136, 182, 0, 116, 154, 0, 30, 42, 18, 138, 182, 0, 116]
abbrev dktX8_isName_0 : List UInt8 := dkwX8_isName_0 ++ dktX8_isName_1
theorem dksX8_isName_0 : cX8_isName.data.toList.drop 0 = dktX8_isName_0 := by decide +kernel
theorem dksX8_isName_1 : cX8_isName.data.toList.drop 23 = dktX8_isName_1 := dk_seg dksX8_isName_0 23 rfl rfl
theorem dksX8_isName_2 : cX8_isName.data.toList.drop 47 = dktX8_isName_2 := dk_seg dksX8_isName_1 24 rfl rfl
theorem dksX8_isName_3 : cX8_isName.data.toList.drop 70 = dktX8_isName_3 := dk_seg dksX8_isName_2 23 rfl rfl
theorem dX8_isName_0 : decode cX8_isName 0 = .ok (.aload_n 0, 1) := dk_42 (dk_at dksX8_isName_0 0 rfl rfl)
theorem dX8_isName_1 : decode cX8_isName 1 = .ok (.getfield 77, 3) := dk_180 0 77 (dk_at dksX8_isName_0 1 rfl rfl)
theorem dX8_isName_4 : decode cX8_isName 4 = .ok (.iconst 2, 1) := dk_5 (dk_at dksX8_isName_0 4 rfl rfl)
theorem dX8_isName_5 : decode cX8_isName 5 = .ok (.if_icmp .ne 39, 3) := dk_160 0 39 (dk_at dksX8_isName_0 5 rfl rfl)
theorem dX8_isName_8 : decode cX8_isName 8 = .ok (.aload_n 0, 1) := dk_42 (dk_at dksX8_isName_0 8 rfl rfl)
theorem dX8_isName_9 : decode cX8_isName 9 = .ok (.ldc 136, 2) := dk_18 136 (dk_at dksX8_isName_0 9 rfl rfl)
theorem dX8_isName_11 : decode cX8_isName 11 = .ok (.invokevirtual 116, 3) := dk_182 0 116 (dk_at dksX8_isName_0 11 rfl rfl)
theorem dX8_isName_14 : decode cX8_isName 14 = .ok (.ifCond .ne 30, 3) := dk_154 0 30 (dk_at dksX8_isName_0 14 rfl rfl)
theorem dX8_isName_17 : decode cX8_isName 17 = .ok (.aload_n 0, 1) := dk_42 (dk_at dksX8_isName_0 17 rfl rfl)
theorem dX8_isName_18 : decode cX8_isName 18 = .ok (.ldc 138, 2) := dk_18 138 (dk_at dksX8_isName_0 18 rfl rfl)
theorem dX8_isName_20 : decode cX8_isName 20 = .ok (.invokevirtual 116, 3) := dk_182 0 116 (dk_at dksX8_isName_0 20 rfl rfl)
theorem dX8_isName_23 : decode cX8_isName 23 = .ok (.ifCond .ne 21, 3) := dk_154 0 21 (dk_at dksX8_isName_1 0 rfl rfl)
theorem dX8_isName_26 : decode cX8_isName 26 = .ok (.aload_n 0, 1) := dk_42 (dk_at dksX8_isName_1 3 rfl rfl)
theorem dX8_isName_27 : decode cX8_isName 27 = .ok (.ldc 140, 2) := dk_18 140 (dk_at dksX8_isName_1 4 rfl rfl)
theorem dX8_isName_29 : decode cX8_isName 29 = .ok (.invokevirtual 116, 3) := dk_182 0 116 (dk_at dksX8_isName_1 6 rfl rfl)
theorem dX8_isName_32 : decode cX8_isName 32 = .ok (.ifCond .ne 12, 3) := dk_154 0 12 (dk_at dksX8_isName_1 9 rfl rfl)
theorem dX8_isName_35 : decode cX8_isName 35 = .ok (.aload_n 0, 1) := dk_42 (dk_at dksX8_isName_1 12 rfl rfl)
theorem dX8_isName_36 : decode cX8_isName 36 = .ok (.ldc 142, 2) := dk_18 142 (dk_at dksX8_isName_1 13 rfl rfl)
theorem dX8_isName_38 : decode cX8_isName 38 = .ok (.invokevirtual 116, 3) := dk_182 0 116 (dk_at dksX8_isName_1 15 rfl rfl)
theorem dX8_isName_41 : decode cX8_isName 41 = .ok (.ifCond .eq 5, 3) := dk_153 0 5 (dk_at dksX8_isName_1 18 rfl rfl)
theorem dX8_isName_44 : decode cX8_isName 44 = .ok (.iconst 0, 1) := dk_3 (dk_at dksX8_isName_1 21 rfl rfl)
theorem dX8_isName_45 : decode cX8_isName 45 = .ok (.ireturn, 1) := dk_172 (dk_at dksX8_isName_1 22 rfl rfl)
theorem dX8_isName_46 : decode cX8_isName 46 = .ok (.aload_n 0, 1) := dk_42 (dk_at dksX8_isName_1 23 rfl rfl)
theorem dX8_isName_47 : decode cX8_isName 47 = .ok (.ldc 144, 2) := dk_18 144 (dk_at dksX8_isName_2 0 rfl rfl)
theorem dX8_isName_49 : decode cX8_isName 49 = .ok (.invokevirtual 116, 3) := dk_182 0 116 (dk_at dksX8_isName_2 2 rfl rfl)
theorem dX8_isName_52 : decode cX8_isName 52 = .ok (.ifCond .ne 34, 3) := dk_154 0 34 (dk_at dksX8_isName_2 5 rfl rfl)
theorem dX8_isName_55 : decode cX8_isName 55 = .ok (.aload_n 0, 1) := dk_42 (dk_at dksX8_isName_2 8 rfl rfl)
theorem dX8_isName_56 : decode cX8_isName 56 = .ok (.ldc 146, 2) := dk_18 146 (dk_at dksX8_isName_2 9 rfl rfl)
theorem dX8_isName_58 : decode cX8_isName 58 = .ok (.invokevirtual 116, 3) := dk_182 0 116 (dk_at dksX8_isName_2 11 rfl rfl)
theorem dX8_isName_61 : decode cX8_isName 61 = .ok (.ifCond .ne 25, 3) := dk_154 0 25 (dk_at dksX8_isName_2 14 rfl rfl)
theorem dX8_isName_64 : decode cX8_isName 64 = .ok (.aload_n 0, 1) := dk_42 (dk_at dksX8_isName_2 17 rfl rfl)
theorem dX8_isName_65 : decode cX8_isName 65 = .ok (.ldc 148, 2) := dk_18 148 (dk_at dksX8_isName_2 18 rfl rfl)
theorem dX8_isName_67 : decode cX8_isName 67 = .ok (.invokevirtual 116, 3) := dk_182 0 116 (dk_at dksX8_isName_2 20 rfl rfl)
theorem dX8_isName_70 : decode cX8_isName 70 = .ok (.ifCond .ne 16, 3) := dk_154 0 16 (dk_at dksX8_isName_3 0 rfl rfl)
theorem dX8_isName_73 : decode cX8_isName 73 = .ok (.aload_n 0, 1) := dk_42 (dk_at dksX8_isName_3 3 rfl rfl)
theorem dX8_isName_74 : decode cX8_isName 74 = .ok (.ldc 150, 2) := dk_18 150 (dk_at dksX8_isName_3 4 rfl rfl)
theorem dX8_isName_76 : decode cX8_isName 76 = .ok (.invokevirtual 116, 3) := dk_182 0 116 (dk_at dksX8_isName_3 6 rfl rfl)
theorem dX8_isName_79 : decode cX8_isName 79 = .ok (.ifCond .ne 7, 3) := dk_154 0 7 (dk_at dksX8_isName_3 9 rfl rfl)
theorem dX8_isName_82 : decode cX8_isName 82 = .ok (.iconst 1, 1) := dk_4 (dk_at dksX8_isName_3 12 rfl rfl)
theorem dX8_isName_83 : decode cX8_isName 83 = .ok (.goto 4, 3) := dk_167 0 4 (dk_at dksX8_isName_3 13 rfl rfl)
theorem dX8_isName_86 : decode cX8_isName 86 = .ok (.iconst 0, 1) := dk_3 (dk_at dksX8_isName_3 16 rfl rfl)
theorem dX8_isName_87 : decode cX8_isName 87 = .ok (.ireturn, 1) := dk_172 (dk_at dksX8_isName_3 17 rfl rfl)
abbrev cX8_names : ByteArray := prog_26_method_27_code
def yX8_names : MethodName := ⟨RX8, "names", "(JII)V"⟩
def dkwX8_names_2 : List UInt8 := [79, 42, 180, 0, 152, 89, 180, 0, 173, 4, 96, 181, 0, 173, 177]
abbrev dktX8_names_2 : List UInt8 := dkwX8_names_2 ++ []
def dkwX8_names_1 : List UInt8 := [180, 0, 152, 180, 0, 173, 29, 79, 42, 180, 0, 152, 180, 0, 179, 42, 180, 0, 152, 180, 0, 173, 21, 4]
abbrev dktX8_names_1 : List UInt8 := dkwX8_names_1 ++ dktX8_names_2
def dkwX8_names_0 : List UInt8 := [42, 180, 0, 152, 180, 0, 169, 42, 180, 0, 152, 180, 0, 173, 31, 80, 42, 180, 0, 152, 180, 0, 176, 42]
abbrev dktX8_names_0 : List UInt8 := dkwX8_names_0 ++ dktX8_names_1
theorem dksX8_names_0 : cX8_names.data.toList.drop 0 = dktX8_names_0 := by decide +kernel
theorem dksX8_names_1 : cX8_names.data.toList.drop 24 = dktX8_names_1 := dk_seg dksX8_names_0 24 rfl rfl
theorem dksX8_names_2 : cX8_names.data.toList.drop 48 = dktX8_names_2 := dk_seg dksX8_names_1 24 rfl rfl
theorem dX8_names_0 : decode cX8_names 0 = .ok (.aload_n 0, 1) := dk_42 (dk_at dksX8_names_0 0 rfl rfl)
theorem dX8_names_1 : decode cX8_names 1 = .ok (.getfield 152, 3) := dk_180 0 152 (dk_at dksX8_names_0 1 rfl rfl)
theorem dX8_names_4 : decode cX8_names 4 = .ok (.getfield 169, 3) := dk_180 0 169 (dk_at dksX8_names_0 4 rfl rfl)
theorem dX8_names_7 : decode cX8_names 7 = .ok (.aload_n 0, 1) := dk_42 (dk_at dksX8_names_0 7 rfl rfl)
theorem dX8_names_8 : decode cX8_names 8 = .ok (.getfield 152, 3) := dk_180 0 152 (dk_at dksX8_names_0 8 rfl rfl)
theorem dX8_names_11 : decode cX8_names 11 = .ok (.getfield 173, 3) := dk_180 0 173 (dk_at dksX8_names_0 11 rfl rfl)
theorem dX8_names_14 : decode cX8_names 14 = .ok (.lload_n 1, 1) := dk_31 (dk_at dksX8_names_0 14 rfl rfl)
theorem dX8_names_15 : decode cX8_names 15 = .ok (.lastore, 1) := dk_80 (dk_at dksX8_names_0 15 rfl rfl)
theorem dX8_names_16 : decode cX8_names 16 = .ok (.aload_n 0, 1) := dk_42 (dk_at dksX8_names_0 16 rfl rfl)
theorem dX8_names_17 : decode cX8_names 17 = .ok (.getfield 152, 3) := dk_180 0 152 (dk_at dksX8_names_0 17 rfl rfl)
theorem dX8_names_20 : decode cX8_names 20 = .ok (.getfield 176, 3) := dk_180 0 176 (dk_at dksX8_names_0 20 rfl rfl)
theorem dX8_names_23 : decode cX8_names 23 = .ok (.aload_n 0, 1) := dk_42 (dk_at dksX8_names_0 23 rfl rfl)
theorem dX8_names_24 : decode cX8_names 24 = .ok (.getfield 152, 3) := dk_180 0 152 (dk_at dksX8_names_1 0 rfl rfl)
theorem dX8_names_27 : decode cX8_names 27 = .ok (.getfield 173, 3) := dk_180 0 173 (dk_at dksX8_names_1 3 rfl rfl)
theorem dX8_names_30 : decode cX8_names 30 = .ok (.iload_n 3, 1) := dk_29 (dk_at dksX8_names_1 6 rfl rfl)
theorem dX8_names_31 : decode cX8_names 31 = .ok (.iastore, 1) := dk_79 (dk_at dksX8_names_1 7 rfl rfl)
theorem dX8_names_32 : decode cX8_names 32 = .ok (.aload_n 0, 1) := dk_42 (dk_at dksX8_names_1 8 rfl rfl)
theorem dX8_names_33 : decode cX8_names 33 = .ok (.getfield 152, 3) := dk_180 0 152 (dk_at dksX8_names_1 9 rfl rfl)
theorem dX8_names_36 : decode cX8_names 36 = .ok (.getfield 179, 3) := dk_180 0 179 (dk_at dksX8_names_1 12 rfl rfl)
theorem dX8_names_39 : decode cX8_names 39 = .ok (.aload_n 0, 1) := dk_42 (dk_at dksX8_names_1 15 rfl rfl)
theorem dX8_names_40 : decode cX8_names 40 = .ok (.getfield 152, 3) := dk_180 0 152 (dk_at dksX8_names_1 16 rfl rfl)
theorem dX8_names_43 : decode cX8_names 43 = .ok (.getfield 173, 3) := dk_180 0 173 (dk_at dksX8_names_1 19 rfl rfl)
theorem dX8_names_46 : decode cX8_names 46 = .ok (.iload 4, 2) := dk_21 4 (dk_at dksX8_names_1 22 rfl rfl)
theorem dX8_names_48 : decode cX8_names 48 = .ok (.iastore, 1) := dk_79 (dk_at dksX8_names_2 0 rfl rfl)
theorem dX8_names_49 : decode cX8_names 49 = .ok (.aload_n 0, 1) := dk_42 (dk_at dksX8_names_2 1 rfl rfl)
theorem dX8_names_50 : decode cX8_names 50 = .ok (.getfield 152, 3) := dk_180 0 152 (dk_at dksX8_names_2 2 rfl rfl)
theorem dX8_names_53 : decode cX8_names 53 = .ok (.dup, 1) := dk_89 (dk_at dksX8_names_2 5 rfl rfl)
theorem dX8_names_54 : decode cX8_names 54 = .ok (.getfield 173, 3) := dk_180 0 173 (dk_at dksX8_names_2 6 rfl rfl)
theorem dX8_names_57 : decode cX8_names 57 = .ok (.iconst 1, 1) := dk_4 (dk_at dksX8_names_2 9 rfl rfl)
theorem dX8_names_58 : decode cX8_names 58 = .ok (.iadd, 1) := dk_96 (dk_at dksX8_names_2 10 rfl rfl)
theorem dX8_names_59 : decode cX8_names 59 = .ok (.putfield 173, 3) := dk_181 0 173 (dk_at dksX8_names_2 11 rfl rfl)
theorem dX8_names_62 : decode cX8_names 62 = .ok (.return_, 1) := dk_177 (dk_at dksX8_names_2 14 rfl rfl)
abbrev cX8_readUmbrella : ByteArray := prog_26_method_34_code
def yX8_readUmbrella : MethodName := ⟨RX8, "readUmbrella", "()V"⟩
def dkwX8_readUmbrella_9 : List UInt8 := [180, 0, 152, 89, 180, 0, 194, 4, 96, 181, 0, 194, 177]
abbrev dktX8_readUmbrella_9 : List UInt8 := dkwX8_readUmbrella_9 ++ []
def dkwX8_readUmbrella_8 : List UInt8 := [180, 0, 152, 180, 1, 19, 21, 7, 21, 5, 79, 42, 180, 0, 152, 180, 1, 21, 21, 7, 21, 6, 79, 42]
abbrev dktX8_readUmbrella_8 : List UInt8 := dkwX8_readUmbrella_8 ++ dktX8_readUmbrella_9
def dkwX8_readUmbrella_7 : List UInt8 := [180, 0, 152, 180, 1, 14, 21, 7, 29, 79, 42, 180, 0, 152, 180, 1, 17, 21, 7, 21, 4, 79, 42]
abbrev dktX8_readUmbrella_7 : List UInt8 := dkwX8_readUmbrella_7 ++ dktX8_readUmbrella_8
def dkwX8_readUmbrella_6 : List UInt8 := [8, 160, 0, 4, 177, 42, 180, 0, 152, 180, 0, 194, 54, 7, 42, 31, 4, 21, 7, 182, 0, 248, 42]
abbrev dktX8_readUmbrella_6 : List UInt8 := dkwX8_readUmbrella_6 ++ dktX8_readUmbrella_7
def dkwX8_readUmbrella_5 : List UInt8 := [19, 1, 9, 182, 0, 116, 153, 0, 14, 42, 182, 0, 113, 42, 3, 182, 1, 11, 54, 6, 42, 180, 0, 77]
abbrev dktX8_readUmbrella_5 : List UInt8 := dkwX8_readUmbrella_5 ++ dktX8_readUmbrella_6
def dkwX8_readUmbrella_4 : List UInt8 := [182, 0, 222, 54, 4, 42, 19, 1, 7, 7, 16, 12, 182, 0, 222, 54, 5, 16, 254, 54, 6, 42]
abbrev dktX8_readUmbrella_4 : List UInt8 := dkwX8_readUmbrella_4 ++ dktX8_readUmbrella_5
def dkwX8_readUmbrella_3 : List UInt8 := [2, 62, 29, 2, 160, 0, 8, 42, 4, 182, 0, 120, 42, 182, 0, 113, 42, 19, 1, 5, 3, 16, 99]
abbrev dktX8_readUmbrella_3 : List UInt8 := dkwX8_readUmbrella_3 ++ dktX8_readUmbrella_4
def dkwX8_readUmbrella_2 : List UInt8 := [182, 0, 116, 153, 0, 7, 5, 167, 0, 18, 42, 19, 1, 3, 182, 0, 116, 153, 0, 7, 6, 167, 0, 4]
abbrev dktX8_readUmbrella_2 : List UInt8 := dkwX8_readUmbrella_2 ++ dktX8_readUmbrella_3
def dkwX8_readUmbrella_1 : List UInt8 := [153, 0, 7, 3, 167, 0, 45, 42, 18, 255, 182, 0, 116, 153, 0, 7, 4, 167, 0, 32, 42, 19, 1, 1]
abbrev dktX8_readUmbrella_1 : List UInt8 := dkwX8_readUmbrella_1 ++ dktX8_readUmbrella_2
def dkwX8_readUmbrella_0 : List UInt8 := [42, 42, 180, 0, 152, 180, 0, 194, 8, 182, 0, 234, 42, 182, 0, 238, 64, 42, 18, 253, 182, 0, 116]
abbrev dktX8_readUmbrella_0 : List UInt8 := dkwX8_readUmbrella_0 ++ dktX8_readUmbrella_1
theorem dksX8_readUmbrella_0 : cX8_readUmbrella.data.toList.drop 0 = dktX8_readUmbrella_0 := by decide +kernel
theorem dksX8_readUmbrella_1 : cX8_readUmbrella.data.toList.drop 23 = dktX8_readUmbrella_1 := dk_seg dksX8_readUmbrella_0 23 rfl rfl
theorem dksX8_readUmbrella_2 : cX8_readUmbrella.data.toList.drop 47 = dktX8_readUmbrella_2 := dk_seg dksX8_readUmbrella_1 24 rfl rfl
theorem dksX8_readUmbrella_3 : cX8_readUmbrella.data.toList.drop 71 = dktX8_readUmbrella_3 := dk_seg dksX8_readUmbrella_2 24 rfl rfl
theorem dksX8_readUmbrella_4 : cX8_readUmbrella.data.toList.drop 94 = dktX8_readUmbrella_4 := dk_seg dksX8_readUmbrella_3 23 rfl rfl
theorem dksX8_readUmbrella_5 : cX8_readUmbrella.data.toList.drop 116 = dktX8_readUmbrella_5 := dk_seg dksX8_readUmbrella_4 22 rfl rfl
theorem dksX8_readUmbrella_6 : cX8_readUmbrella.data.toList.drop 140 = dktX8_readUmbrella_6 := dk_seg dksX8_readUmbrella_5 24 rfl rfl
theorem dksX8_readUmbrella_7 : cX8_readUmbrella.data.toList.drop 163 = dktX8_readUmbrella_7 := dk_seg dksX8_readUmbrella_6 23 rfl rfl
theorem dksX8_readUmbrella_8 : cX8_readUmbrella.data.toList.drop 186 = dktX8_readUmbrella_8 := dk_seg dksX8_readUmbrella_7 23 rfl rfl
theorem dksX8_readUmbrella_9 : cX8_readUmbrella.data.toList.drop 210 = dktX8_readUmbrella_9 := dk_seg dksX8_readUmbrella_8 24 rfl rfl
theorem dX8_readUmbrella_0 : decode cX8_readUmbrella 0 = .ok (.aload_n 0, 1) := dk_42 (dk_at dksX8_readUmbrella_0 0 rfl rfl)
theorem dX8_readUmbrella_1 : decode cX8_readUmbrella 1 = .ok (.aload_n 0, 1) := dk_42 (dk_at dksX8_readUmbrella_0 1 rfl rfl)
theorem dX8_readUmbrella_2 : decode cX8_readUmbrella 2 = .ok (.getfield 152, 3) := dk_180 0 152 (dk_at dksX8_readUmbrella_0 2 rfl rfl)
theorem dX8_readUmbrella_5 : decode cX8_readUmbrella 5 = .ok (.getfield 194, 3) := dk_180 0 194 (dk_at dksX8_readUmbrella_0 5 rfl rfl)
theorem dX8_readUmbrella_8 : decode cX8_readUmbrella 8 = .ok (.iconst 5, 1) := dk_8 (dk_at dksX8_readUmbrella_0 8 rfl rfl)
theorem dX8_readUmbrella_9 : decode cX8_readUmbrella 9 = .ok (.invokevirtual 234, 3) := dk_182 0 234 (dk_at dksX8_readUmbrella_0 9 rfl rfl)
theorem dX8_readUmbrella_12 : decode cX8_readUmbrella 12 = .ok (.aload_n 0, 1) := dk_42 (dk_at dksX8_readUmbrella_0 12 rfl rfl)
theorem dX8_readUmbrella_13 : decode cX8_readUmbrella 13 = .ok (.invokevirtual 238, 3) := dk_182 0 238 (dk_at dksX8_readUmbrella_0 13 rfl rfl)
theorem dX8_readUmbrella_16 : decode cX8_readUmbrella 16 = .ok (.lstore_n 1, 1) := dk_64 (dk_at dksX8_readUmbrella_0 16 rfl rfl)
theorem dX8_readUmbrella_17 : decode cX8_readUmbrella 17 = .ok (.aload_n 0, 1) := dk_42 (dk_at dksX8_readUmbrella_0 17 rfl rfl)
theorem dX8_readUmbrella_18 : decode cX8_readUmbrella 18 = .ok (.ldc 253, 2) := dk_18 253 (dk_at dksX8_readUmbrella_0 18 rfl rfl)
theorem dX8_readUmbrella_20 : decode cX8_readUmbrella 20 = .ok (.invokevirtual 116, 3) := dk_182 0 116 (dk_at dksX8_readUmbrella_0 20 rfl rfl)
theorem dX8_readUmbrella_23 : decode cX8_readUmbrella 23 = .ok (.ifCond .eq 7, 3) := dk_153 0 7 (dk_at dksX8_readUmbrella_1 0 rfl rfl)
theorem dX8_readUmbrella_26 : decode cX8_readUmbrella 26 = .ok (.iconst 0, 1) := dk_3 (dk_at dksX8_readUmbrella_1 3 rfl rfl)
theorem dX8_readUmbrella_27 : decode cX8_readUmbrella 27 = .ok (.goto 45, 3) := dk_167 0 45 (dk_at dksX8_readUmbrella_1 4 rfl rfl)
theorem dX8_readUmbrella_30 : decode cX8_readUmbrella 30 = .ok (.aload_n 0, 1) := dk_42 (dk_at dksX8_readUmbrella_1 7 rfl rfl)
theorem dX8_readUmbrella_31 : decode cX8_readUmbrella 31 = .ok (.ldc 255, 2) := dk_18 255 (dk_at dksX8_readUmbrella_1 8 rfl rfl)
theorem dX8_readUmbrella_33 : decode cX8_readUmbrella 33 = .ok (.invokevirtual 116, 3) := dk_182 0 116 (dk_at dksX8_readUmbrella_1 10 rfl rfl)
theorem dX8_readUmbrella_36 : decode cX8_readUmbrella 36 = .ok (.ifCond .eq 7, 3) := dk_153 0 7 (dk_at dksX8_readUmbrella_1 13 rfl rfl)
theorem dX8_readUmbrella_39 : decode cX8_readUmbrella 39 = .ok (.iconst 1, 1) := dk_4 (dk_at dksX8_readUmbrella_1 16 rfl rfl)
theorem dX8_readUmbrella_40 : decode cX8_readUmbrella 40 = .ok (.goto 32, 3) := dk_167 0 32 (dk_at dksX8_readUmbrella_1 17 rfl rfl)
theorem dX8_readUmbrella_43 : decode cX8_readUmbrella 43 = .ok (.aload_n 0, 1) := dk_42 (dk_at dksX8_readUmbrella_1 20 rfl rfl)
theorem dX8_readUmbrella_44 : decode cX8_readUmbrella 44 = .ok (.ldc_w 257, 3) := dk_19 1 1 (dk_at dksX8_readUmbrella_1 21 rfl rfl)
theorem dX8_readUmbrella_47 : decode cX8_readUmbrella 47 = .ok (.invokevirtual 116, 3) := dk_182 0 116 (dk_at dksX8_readUmbrella_2 0 rfl rfl)
theorem dX8_readUmbrella_50 : decode cX8_readUmbrella 50 = .ok (.ifCond .eq 7, 3) := dk_153 0 7 (dk_at dksX8_readUmbrella_2 3 rfl rfl)
theorem dX8_readUmbrella_53 : decode cX8_readUmbrella 53 = .ok (.iconst 2, 1) := dk_5 (dk_at dksX8_readUmbrella_2 6 rfl rfl)
theorem dX8_readUmbrella_54 : decode cX8_readUmbrella 54 = .ok (.goto 18, 3) := dk_167 0 18 (dk_at dksX8_readUmbrella_2 7 rfl rfl)
theorem dX8_readUmbrella_57 : decode cX8_readUmbrella 57 = .ok (.aload_n 0, 1) := dk_42 (dk_at dksX8_readUmbrella_2 10 rfl rfl)
theorem dX8_readUmbrella_58 : decode cX8_readUmbrella 58 = .ok (.ldc_w 259, 3) := dk_19 1 3 (dk_at dksX8_readUmbrella_2 11 rfl rfl)
theorem dX8_readUmbrella_61 : decode cX8_readUmbrella 61 = .ok (.invokevirtual 116, 3) := dk_182 0 116 (dk_at dksX8_readUmbrella_2 14 rfl rfl)
theorem dX8_readUmbrella_64 : decode cX8_readUmbrella 64 = .ok (.ifCond .eq 7, 3) := dk_153 0 7 (dk_at dksX8_readUmbrella_2 17 rfl rfl)
theorem dX8_readUmbrella_67 : decode cX8_readUmbrella 67 = .ok (.iconst 3, 1) := dk_6 (dk_at dksX8_readUmbrella_2 20 rfl rfl)
theorem dX8_readUmbrella_68 : decode cX8_readUmbrella 68 = .ok (.goto 4, 3) := dk_167 0 4 (dk_at dksX8_readUmbrella_2 21 rfl rfl)
theorem dX8_readUmbrella_71 : decode cX8_readUmbrella 71 = .ok (.iconst (-1), 1) := dk_2 (dk_at dksX8_readUmbrella_3 0 rfl rfl)
theorem dX8_readUmbrella_72 : decode cX8_readUmbrella 72 = .ok (.istore_n 3, 1) := dk_62 (dk_at dksX8_readUmbrella_3 1 rfl rfl)
theorem dX8_readUmbrella_73 : decode cX8_readUmbrella 73 = .ok (.iload_n 3, 1) := dk_29 (dk_at dksX8_readUmbrella_3 2 rfl rfl)
theorem dX8_readUmbrella_74 : decode cX8_readUmbrella 74 = .ok (.iconst (-1), 1) := dk_2 (dk_at dksX8_readUmbrella_3 3 rfl rfl)
theorem dX8_readUmbrella_75 : decode cX8_readUmbrella 75 = .ok (.if_icmp .ne 8, 3) := dk_160 0 8 (dk_at dksX8_readUmbrella_3 4 rfl rfl)
theorem dX8_readUmbrella_78 : decode cX8_readUmbrella 78 = .ok (.aload_n 0, 1) := dk_42 (dk_at dksX8_readUmbrella_3 7 rfl rfl)
theorem dX8_readUmbrella_79 : decode cX8_readUmbrella 79 = .ok (.iconst 1, 1) := dk_4 (dk_at dksX8_readUmbrella_3 8 rfl rfl)
theorem dX8_readUmbrella_80 : decode cX8_readUmbrella 80 = .ok (.invokevirtual 120, 3) := dk_182 0 120 (dk_at dksX8_readUmbrella_3 9 rfl rfl)
theorem dX8_readUmbrella_83 : decode cX8_readUmbrella 83 = .ok (.aload_n 0, 1) := dk_42 (dk_at dksX8_readUmbrella_3 12 rfl rfl)
theorem dX8_readUmbrella_84 : decode cX8_readUmbrella 84 = .ok (.invokevirtual 113, 3) := dk_182 0 113 (dk_at dksX8_readUmbrella_3 13 rfl rfl)
theorem dX8_readUmbrella_87 : decode cX8_readUmbrella 87 = .ok (.aload_n 0, 1) := dk_42 (dk_at dksX8_readUmbrella_3 16 rfl rfl)
theorem dX8_readUmbrella_88 : decode cX8_readUmbrella 88 = .ok (.ldc_w 261, 3) := dk_19 1 5 (dk_at dksX8_readUmbrella_3 17 rfl rfl)
theorem dX8_readUmbrella_91 : decode cX8_readUmbrella 91 = .ok (.iconst 0, 1) := dk_3 (dk_at dksX8_readUmbrella_3 20 rfl rfl)
theorem dX8_readUmbrella_92 : decode cX8_readUmbrella 92 = .ok (.bipush 99, 2) := dk_16 99 (dk_at dksX8_readUmbrella_3 21 rfl rfl)
theorem dX8_readUmbrella_94 : decode cX8_readUmbrella 94 = .ok (.invokevirtual 222, 3) := dk_182 0 222 (dk_at dksX8_readUmbrella_4 0 rfl rfl)
theorem dX8_readUmbrella_97 : decode cX8_readUmbrella 97 = .ok (.istore 4, 2) := dk_54 4 (dk_at dksX8_readUmbrella_4 3 rfl rfl)
theorem dX8_readUmbrella_99 : decode cX8_readUmbrella 99 = .ok (.aload_n 0, 1) := dk_42 (dk_at dksX8_readUmbrella_4 5 rfl rfl)
theorem dX8_readUmbrella_100 : decode cX8_readUmbrella 100 = .ok (.ldc_w 263, 3) := dk_19 1 7 (dk_at dksX8_readUmbrella_4 6 rfl rfl)
theorem dX8_readUmbrella_103 : decode cX8_readUmbrella 103 = .ok (.iconst 4, 1) := dk_7 (dk_at dksX8_readUmbrella_4 9 rfl rfl)
theorem dX8_readUmbrella_104 : decode cX8_readUmbrella 104 = .ok (.bipush 12, 2) := dk_16 12 (dk_at dksX8_readUmbrella_4 10 rfl rfl)
theorem dX8_readUmbrella_106 : decode cX8_readUmbrella 106 = .ok (.invokevirtual 222, 3) := dk_182 0 222 (dk_at dksX8_readUmbrella_4 12 rfl rfl)
theorem dX8_readUmbrella_109 : decode cX8_readUmbrella 109 = .ok (.istore 5, 2) := dk_54 5 (dk_at dksX8_readUmbrella_4 15 rfl rfl)
theorem dX8_readUmbrella_111 : decode cX8_readUmbrella 111 = .ok (.bipush (-2), 2) := dk_16 254 (dk_at dksX8_readUmbrella_4 17 rfl rfl)
theorem dX8_readUmbrella_113 : decode cX8_readUmbrella 113 = .ok (.istore 6, 2) := dk_54 6 (dk_at dksX8_readUmbrella_4 19 rfl rfl)
theorem dX8_readUmbrella_115 : decode cX8_readUmbrella 115 = .ok (.aload_n 0, 1) := dk_42 (dk_at dksX8_readUmbrella_4 21 rfl rfl)
theorem dX8_readUmbrella_116 : decode cX8_readUmbrella 116 = .ok (.ldc_w 265, 3) := dk_19 1 9 (dk_at dksX8_readUmbrella_5 0 rfl rfl)
theorem dX8_readUmbrella_119 : decode cX8_readUmbrella 119 = .ok (.invokevirtual 116, 3) := dk_182 0 116 (dk_at dksX8_readUmbrella_5 3 rfl rfl)
theorem dX8_readUmbrella_122 : decode cX8_readUmbrella 122 = .ok (.ifCond .eq 14, 3) := dk_153 0 14 (dk_at dksX8_readUmbrella_5 6 rfl rfl)
theorem dX8_readUmbrella_125 : decode cX8_readUmbrella 125 = .ok (.aload_n 0, 1) := dk_42 (dk_at dksX8_readUmbrella_5 9 rfl rfl)
theorem dX8_readUmbrella_126 : decode cX8_readUmbrella 126 = .ok (.invokevirtual 113, 3) := dk_182 0 113 (dk_at dksX8_readUmbrella_5 10 rfl rfl)
theorem dX8_readUmbrella_129 : decode cX8_readUmbrella 129 = .ok (.aload_n 0, 1) := dk_42 (dk_at dksX8_readUmbrella_5 13 rfl rfl)
theorem dX8_readUmbrella_130 : decode cX8_readUmbrella 130 = .ok (.iconst 0, 1) := dk_3 (dk_at dksX8_readUmbrella_5 14 rfl rfl)
theorem dX8_readUmbrella_131 : decode cX8_readUmbrella 131 = .ok (.invokevirtual 267, 3) := dk_182 1 11 (dk_at dksX8_readUmbrella_5 15 rfl rfl)
theorem dX8_readUmbrella_134 : decode cX8_readUmbrella 134 = .ok (.istore 6, 2) := dk_54 6 (dk_at dksX8_readUmbrella_5 18 rfl rfl)
theorem dX8_readUmbrella_136 : decode cX8_readUmbrella 136 = .ok (.aload_n 0, 1) := dk_42 (dk_at dksX8_readUmbrella_5 20 rfl rfl)
theorem dX8_readUmbrella_137 : decode cX8_readUmbrella 137 = .ok (.getfield 77, 3) := dk_180 0 77 (dk_at dksX8_readUmbrella_5 21 rfl rfl)
theorem dX8_readUmbrella_140 : decode cX8_readUmbrella 140 = .ok (.iconst 5, 1) := dk_8 (dk_at dksX8_readUmbrella_6 0 rfl rfl)
theorem dX8_readUmbrella_141 : decode cX8_readUmbrella 141 = .ok (.if_icmp .ne 4, 3) := dk_160 0 4 (dk_at dksX8_readUmbrella_6 1 rfl rfl)
theorem dX8_readUmbrella_144 : decode cX8_readUmbrella 144 = .ok (.return_, 1) := dk_177 (dk_at dksX8_readUmbrella_6 4 rfl rfl)
theorem dX8_readUmbrella_145 : decode cX8_readUmbrella 145 = .ok (.aload_n 0, 1) := dk_42 (dk_at dksX8_readUmbrella_6 5 rfl rfl)
theorem dX8_readUmbrella_146 : decode cX8_readUmbrella 146 = .ok (.getfield 152, 3) := dk_180 0 152 (dk_at dksX8_readUmbrella_6 6 rfl rfl)
theorem dX8_readUmbrella_149 : decode cX8_readUmbrella 149 = .ok (.getfield 194, 3) := dk_180 0 194 (dk_at dksX8_readUmbrella_6 9 rfl rfl)
theorem dX8_readUmbrella_152 : decode cX8_readUmbrella 152 = .ok (.istore 7, 2) := dk_54 7 (dk_at dksX8_readUmbrella_6 12 rfl rfl)
theorem dX8_readUmbrella_154 : decode cX8_readUmbrella 154 = .ok (.aload_n 0, 1) := dk_42 (dk_at dksX8_readUmbrella_6 14 rfl rfl)
theorem dX8_readUmbrella_155 : decode cX8_readUmbrella 155 = .ok (.lload_n 1, 1) := dk_31 (dk_at dksX8_readUmbrella_6 15 rfl rfl)
theorem dX8_readUmbrella_156 : decode cX8_readUmbrella 156 = .ok (.iconst 1, 1) := dk_4 (dk_at dksX8_readUmbrella_6 16 rfl rfl)
theorem dX8_readUmbrella_157 : decode cX8_readUmbrella 157 = .ok (.iload 7, 2) := dk_21 7 (dk_at dksX8_readUmbrella_6 17 rfl rfl)
theorem dX8_readUmbrella_159 : decode cX8_readUmbrella 159 = .ok (.invokevirtual 248, 3) := dk_182 0 248 (dk_at dksX8_readUmbrella_6 19 rfl rfl)
theorem dX8_readUmbrella_162 : decode cX8_readUmbrella 162 = .ok (.aload_n 0, 1) := dk_42 (dk_at dksX8_readUmbrella_6 22 rfl rfl)
theorem dX8_readUmbrella_163 : decode cX8_readUmbrella 163 = .ok (.getfield 152, 3) := dk_180 0 152 (dk_at dksX8_readUmbrella_7 0 rfl rfl)
theorem dX8_readUmbrella_166 : decode cX8_readUmbrella 166 = .ok (.getfield 270, 3) := dk_180 1 14 (dk_at dksX8_readUmbrella_7 3 rfl rfl)
theorem dX8_readUmbrella_169 : decode cX8_readUmbrella 169 = .ok (.iload 7, 2) := dk_21 7 (dk_at dksX8_readUmbrella_7 6 rfl rfl)
theorem dX8_readUmbrella_171 : decode cX8_readUmbrella 171 = .ok (.iload_n 3, 1) := dk_29 (dk_at dksX8_readUmbrella_7 8 rfl rfl)
theorem dX8_readUmbrella_172 : decode cX8_readUmbrella 172 = .ok (.iastore, 1) := dk_79 (dk_at dksX8_readUmbrella_7 9 rfl rfl)
theorem dX8_readUmbrella_173 : decode cX8_readUmbrella 173 = .ok (.aload_n 0, 1) := dk_42 (dk_at dksX8_readUmbrella_7 10 rfl rfl)
theorem dX8_readUmbrella_174 : decode cX8_readUmbrella 174 = .ok (.getfield 152, 3) := dk_180 0 152 (dk_at dksX8_readUmbrella_7 11 rfl rfl)
theorem dX8_readUmbrella_177 : decode cX8_readUmbrella 177 = .ok (.getfield 273, 3) := dk_180 1 17 (dk_at dksX8_readUmbrella_7 14 rfl rfl)
theorem dX8_readUmbrella_180 : decode cX8_readUmbrella 180 = .ok (.iload 7, 2) := dk_21 7 (dk_at dksX8_readUmbrella_7 17 rfl rfl)
theorem dX8_readUmbrella_182 : decode cX8_readUmbrella 182 = .ok (.iload 4, 2) := dk_21 4 (dk_at dksX8_readUmbrella_7 19 rfl rfl)
theorem dX8_readUmbrella_184 : decode cX8_readUmbrella 184 = .ok (.iastore, 1) := dk_79 (dk_at dksX8_readUmbrella_7 21 rfl rfl)
theorem dX8_readUmbrella_185 : decode cX8_readUmbrella 185 = .ok (.aload_n 0, 1) := dk_42 (dk_at dksX8_readUmbrella_7 22 rfl rfl)
theorem dX8_readUmbrella_186 : decode cX8_readUmbrella 186 = .ok (.getfield 152, 3) := dk_180 0 152 (dk_at dksX8_readUmbrella_8 0 rfl rfl)
theorem dX8_readUmbrella_189 : decode cX8_readUmbrella 189 = .ok (.getfield 275, 3) := dk_180 1 19 (dk_at dksX8_readUmbrella_8 3 rfl rfl)
theorem dX8_readUmbrella_192 : decode cX8_readUmbrella 192 = .ok (.iload 7, 2) := dk_21 7 (dk_at dksX8_readUmbrella_8 6 rfl rfl)
theorem dX8_readUmbrella_194 : decode cX8_readUmbrella 194 = .ok (.iload 5, 2) := dk_21 5 (dk_at dksX8_readUmbrella_8 8 rfl rfl)
theorem dX8_readUmbrella_196 : decode cX8_readUmbrella 196 = .ok (.iastore, 1) := dk_79 (dk_at dksX8_readUmbrella_8 10 rfl rfl)
theorem dX8_readUmbrella_197 : decode cX8_readUmbrella 197 = .ok (.aload_n 0, 1) := dk_42 (dk_at dksX8_readUmbrella_8 11 rfl rfl)
theorem dX8_readUmbrella_198 : decode cX8_readUmbrella 198 = .ok (.getfield 152, 3) := dk_180 0 152 (dk_at dksX8_readUmbrella_8 12 rfl rfl)
theorem dX8_readUmbrella_201 : decode cX8_readUmbrella 201 = .ok (.getfield 277, 3) := dk_180 1 21 (dk_at dksX8_readUmbrella_8 15 rfl rfl)
theorem dX8_readUmbrella_204 : decode cX8_readUmbrella 204 = .ok (.iload 7, 2) := dk_21 7 (dk_at dksX8_readUmbrella_8 18 rfl rfl)
theorem dX8_readUmbrella_206 : decode cX8_readUmbrella 206 = .ok (.iload 6, 2) := dk_21 6 (dk_at dksX8_readUmbrella_8 20 rfl rfl)
theorem dX8_readUmbrella_208 : decode cX8_readUmbrella 208 = .ok (.iastore, 1) := dk_79 (dk_at dksX8_readUmbrella_8 22 rfl rfl)
theorem dX8_readUmbrella_209 : decode cX8_readUmbrella 209 = .ok (.aload_n 0, 1) := dk_42 (dk_at dksX8_readUmbrella_8 23 rfl rfl)
theorem dX8_readUmbrella_210 : decode cX8_readUmbrella 210 = .ok (.getfield 152, 3) := dk_180 0 152 (dk_at dksX8_readUmbrella_9 0 rfl rfl)
theorem dX8_readUmbrella_213 : decode cX8_readUmbrella 213 = .ok (.dup, 1) := dk_89 (dk_at dksX8_readUmbrella_9 3 rfl rfl)
theorem dX8_readUmbrella_214 : decode cX8_readUmbrella 214 = .ok (.getfield 194, 3) := dk_180 0 194 (dk_at dksX8_readUmbrella_9 4 rfl rfl)
theorem dX8_readUmbrella_217 : decode cX8_readUmbrella 217 = .ok (.iconst 1, 1) := dk_4 (dk_at dksX8_readUmbrella_9 7 rfl rfl)
theorem dX8_readUmbrella_218 : decode cX8_readUmbrella 218 = .ok (.iadd, 1) := dk_96 (dk_at dksX8_readUmbrella_9 8 rfl rfl)
theorem dX8_readUmbrella_219 : decode cX8_readUmbrella 219 = .ok (.putfield 194, 3) := dk_181 0 194 (dk_at dksX8_readUmbrella_9 9 rfl rfl)
theorem dX8_readUmbrella_222 : decode cX8_readUmbrella 222 = .ok (.return_, 1) := dk_177 (dk_at dksX8_readUmbrella_9 12 rfl rfl)
abbrev cX8_readKnown : ByteArray := prog_26_method_29_code
def yX8_readKnown : MethodName := ⟨RX8, "readKnown", "(I)I"⟩
def dkwX8_readKnown_0 : List UInt8 := [42, 27, 182, 0, 182, 61, 42, 182, 0, 113, 28, 172]
abbrev dktX8_readKnown_0 : List UInt8 := dkwX8_readKnown_0 ++ []
theorem dksX8_readKnown_0 : cX8_readKnown.data.toList.drop 0 = dktX8_readKnown_0 := by decide +kernel
theorem dX8_readKnown_0 : decode cX8_readKnown 0 = .ok (.aload_n 0, 1) := dk_42 (dk_at dksX8_readKnown_0 0 rfl rfl)
theorem dX8_readKnown_1 : decode cX8_readKnown 1 = .ok (.iload_n 1, 1) := dk_27 (dk_at dksX8_readKnown_0 1 rfl rfl)
theorem dX8_readKnown_2 : decode cX8_readKnown 2 = .ok (.invokevirtual 182, 3) := dk_182 0 182 (dk_at dksX8_readKnown_0 2 rfl rfl)
theorem dX8_readKnown_5 : decode cX8_readKnown 5 = .ok (.istore_n 2, 1) := dk_61 (dk_at dksX8_readKnown_0 5 rfl rfl)
theorem dX8_readKnown_6 : decode cX8_readKnown 6 = .ok (.aload_n 0, 1) := dk_42 (dk_at dksX8_readKnown_0 6 rfl rfl)
theorem dX8_readKnown_7 : decode cX8_readKnown 7 = .ok (.invokevirtual 113, 3) := dk_182 0 113 (dk_at dksX8_readKnown_0 7 rfl rfl)
theorem dX8_readKnown_10 : decode cX8_readKnown 10 = .ok (.iload_n 2, 1) := dk_28 (dk_at dksX8_readKnown_0 10 rfl rfl)
theorem dX8_readKnown_11 : decode cX8_readKnown 11 = .ok (.ireturn, 1) := dk_172 (dk_at dksX8_readKnown_0 11 rfl rfl)
abbrev cX8_knownOne : ByteArray := prog_26_method_28_code
def yX8_knownOne : MethodName := ⟨RX8, "knownOne", "(I)I"⟩
def dkwX8_knownOne_2 : List UInt8 := [180, 0, 77, 8, 160, 0, 7, 3, 167, 0, 12, 42, 180, 0, 152, 180, 0, 179, 28, 46, 172]
abbrev dktX8_knownOne_2 : List UInt8 := dkwX8_knownOne_2 ++ []
def dkwX8_knownOne_1 : List UInt8 := [28, 2, 159, 0, 16, 42, 180, 0, 152, 180, 0, 176, 28, 46, 27, 159, 0, 8, 42, 5, 182, 0, 120, 42]
abbrev dktX8_knownOne_1 : List UInt8 := dkwX8_knownOne_1 ++ dktX8_knownOne_2
def dkwX8_knownOne_0 : List UInt8 := [42, 182, 0, 161, 154, 0, 8, 42, 4, 182, 0, 120, 42, 180, 0, 152, 42, 180, 0, 93, 182, 0, 165, 61]
abbrev dktX8_knownOne_0 : List UInt8 := dkwX8_knownOne_0 ++ dktX8_knownOne_1
theorem dksX8_knownOne_0 : cX8_knownOne.data.toList.drop 0 = dktX8_knownOne_0 := by decide +kernel
theorem dksX8_knownOne_1 : cX8_knownOne.data.toList.drop 24 = dktX8_knownOne_1 := dk_seg dksX8_knownOne_0 24 rfl rfl
theorem dksX8_knownOne_2 : cX8_knownOne.data.toList.drop 48 = dktX8_knownOne_2 := dk_seg dksX8_knownOne_1 24 rfl rfl
theorem dX8_knownOne_0 : decode cX8_knownOne 0 = .ok (.aload_n 0, 1) := dk_42 (dk_at dksX8_knownOne_0 0 rfl rfl)
theorem dX8_knownOne_1 : decode cX8_knownOne 1 = .ok (.invokevirtual 161, 3) := dk_182 0 161 (dk_at dksX8_knownOne_0 1 rfl rfl)
theorem dX8_knownOne_4 : decode cX8_knownOne 4 = .ok (.ifCond .ne 8, 3) := dk_154 0 8 (dk_at dksX8_knownOne_0 4 rfl rfl)
theorem dX8_knownOne_7 : decode cX8_knownOne 7 = .ok (.aload_n 0, 1) := dk_42 (dk_at dksX8_knownOne_0 7 rfl rfl)
theorem dX8_knownOne_8 : decode cX8_knownOne 8 = .ok (.iconst 1, 1) := dk_4 (dk_at dksX8_knownOne_0 8 rfl rfl)
theorem dX8_knownOne_9 : decode cX8_knownOne 9 = .ok (.invokevirtual 120, 3) := dk_182 0 120 (dk_at dksX8_knownOne_0 9 rfl rfl)
theorem dX8_knownOne_12 : decode cX8_knownOne 12 = .ok (.aload_n 0, 1) := dk_42 (dk_at dksX8_knownOne_0 12 rfl rfl)
theorem dX8_knownOne_13 : decode cX8_knownOne 13 = .ok (.getfield 152, 3) := dk_180 0 152 (dk_at dksX8_knownOne_0 13 rfl rfl)
theorem dX8_knownOne_16 : decode cX8_knownOne 16 = .ok (.aload_n 0, 1) := dk_42 (dk_at dksX8_knownOne_0 16 rfl rfl)
theorem dX8_knownOne_17 : decode cX8_knownOne 17 = .ok (.getfield 93, 3) := dk_180 0 93 (dk_at dksX8_knownOne_0 17 rfl rfl)
theorem dX8_knownOne_20 : decode cX8_knownOne 20 = .ok (.invokevirtual 165, 3) := dk_182 0 165 (dk_at dksX8_knownOne_0 20 rfl rfl)
theorem dX8_knownOne_23 : decode cX8_knownOne 23 = .ok (.istore_n 2, 1) := dk_61 (dk_at dksX8_knownOne_0 23 rfl rfl)
theorem dX8_knownOne_24 : decode cX8_knownOne 24 = .ok (.iload_n 2, 1) := dk_28 (dk_at dksX8_knownOne_1 0 rfl rfl)
theorem dX8_knownOne_25 : decode cX8_knownOne 25 = .ok (.iconst (-1), 1) := dk_2 (dk_at dksX8_knownOne_1 1 rfl rfl)
theorem dX8_knownOne_26 : decode cX8_knownOne 26 = .ok (.if_icmp .eq 16, 3) := dk_159 0 16 (dk_at dksX8_knownOne_1 2 rfl rfl)
theorem dX8_knownOne_29 : decode cX8_knownOne 29 = .ok (.aload_n 0, 1) := dk_42 (dk_at dksX8_knownOne_1 5 rfl rfl)
theorem dX8_knownOne_30 : decode cX8_knownOne 30 = .ok (.getfield 152, 3) := dk_180 0 152 (dk_at dksX8_knownOne_1 6 rfl rfl)
theorem dX8_knownOne_33 : decode cX8_knownOne 33 = .ok (.getfield 176, 3) := dk_180 0 176 (dk_at dksX8_knownOne_1 9 rfl rfl)
theorem dX8_knownOne_36 : decode cX8_knownOne 36 = .ok (.iload_n 2, 1) := dk_28 (dk_at dksX8_knownOne_1 12 rfl rfl)
theorem dX8_knownOne_37 : decode cX8_knownOne 37 = .ok (.iaload, 1) := dk_46 (dk_at dksX8_knownOne_1 13 rfl rfl)
theorem dX8_knownOne_38 : decode cX8_knownOne 38 = .ok (.iload_n 1, 1) := dk_27 (dk_at dksX8_knownOne_1 14 rfl rfl)
theorem dX8_knownOne_39 : decode cX8_knownOne 39 = .ok (.if_icmp .eq 8, 3) := dk_159 0 8 (dk_at dksX8_knownOne_1 15 rfl rfl)
theorem dX8_knownOne_42 : decode cX8_knownOne 42 = .ok (.aload_n 0, 1) := dk_42 (dk_at dksX8_knownOne_1 18 rfl rfl)
theorem dX8_knownOne_43 : decode cX8_knownOne 43 = .ok (.iconst 2, 1) := dk_5 (dk_at dksX8_knownOne_1 19 rfl rfl)
theorem dX8_knownOne_44 : decode cX8_knownOne 44 = .ok (.invokevirtual 120, 3) := dk_182 0 120 (dk_at dksX8_knownOne_1 20 rfl rfl)
theorem dX8_knownOne_47 : decode cX8_knownOne 47 = .ok (.aload_n 0, 1) := dk_42 (dk_at dksX8_knownOne_1 23 rfl rfl)
theorem dX8_knownOne_48 : decode cX8_knownOne 48 = .ok (.getfield 77, 3) := dk_180 0 77 (dk_at dksX8_knownOne_2 0 rfl rfl)
theorem dX8_knownOne_51 : decode cX8_knownOne 51 = .ok (.iconst 5, 1) := dk_8 (dk_at dksX8_knownOne_2 3 rfl rfl)
theorem dX8_knownOne_52 : decode cX8_knownOne 52 = .ok (.if_icmp .ne 7, 3) := dk_160 0 7 (dk_at dksX8_knownOne_2 4 rfl rfl)
theorem dX8_knownOne_55 : decode cX8_knownOne 55 = .ok (.iconst 0, 1) := dk_3 (dk_at dksX8_knownOne_2 7 rfl rfl)
theorem dX8_knownOne_56 : decode cX8_knownOne 56 = .ok (.goto 12, 3) := dk_167 0 12 (dk_at dksX8_knownOne_2 8 rfl rfl)
theorem dX8_knownOne_59 : decode cX8_knownOne 59 = .ok (.aload_n 0, 1) := dk_42 (dk_at dksX8_knownOne_2 11 rfl rfl)
theorem dX8_knownOne_60 : decode cX8_knownOne 60 = .ok (.getfield 152, 3) := dk_180 0 152 (dk_at dksX8_knownOne_2 12 rfl rfl)
theorem dX8_knownOne_63 : decode cX8_knownOne 63 = .ok (.getfield 179, 3) := dk_180 0 179 (dk_at dksX8_knownOne_2 15 rfl rfl)
theorem dX8_knownOne_66 : decode cX8_knownOne 66 = .ok (.iload_n 2, 1) := dk_28 (dk_at dksX8_knownOne_2 18 rfl rfl)
theorem dX8_knownOne_67 : decode cX8_knownOne 67 = .ok (.iaload, 1) := dk_46 (dk_at dksX8_knownOne_2 19 rfl rfl)
theorem dX8_knownOne_68 : decode cX8_knownOne 68 = .ok (.ireturn, 1) := dk_172 (dk_at dksX8_knownOne_2 20 rfl rfl)
abbrev cX8_readLent : ByteArray := prog_26_method_36_code
def yX8_readLent : MethodName := ⟨RX8, "readLent", "()V"⟩
def dkwX8_readLent_1 : List UInt8 := [61, 42, 3, 27, 28, 182, 1, 39, 177]
abbrev dktX8_readLent_1 : List UInt8 := dkwX8_readLent_1 ++ []
def dkwX8_readLent_0 : List UInt8 := [42, 42, 180, 0, 152, 180, 1, 23, 16, 16, 182, 0, 234, 42, 4, 182, 1, 11, 60, 42, 3, 182, 1, 11]
abbrev dktX8_readLent_0 : List UInt8 := dkwX8_readLent_0 ++ dktX8_readLent_1
theorem dksX8_readLent_0 : cX8_readLent.data.toList.drop 0 = dktX8_readLent_0 := by decide +kernel
theorem dksX8_readLent_1 : cX8_readLent.data.toList.drop 24 = dktX8_readLent_1 := dk_seg dksX8_readLent_0 24 rfl rfl
theorem dX8_readLent_0 : decode cX8_readLent 0 = .ok (.aload_n 0, 1) := dk_42 (dk_at dksX8_readLent_0 0 rfl rfl)
theorem dX8_readLent_1 : decode cX8_readLent 1 = .ok (.aload_n 0, 1) := dk_42 (dk_at dksX8_readLent_0 1 rfl rfl)
theorem dX8_readLent_2 : decode cX8_readLent 2 = .ok (.getfield 152, 3) := dk_180 0 152 (dk_at dksX8_readLent_0 2 rfl rfl)
theorem dX8_readLent_5 : decode cX8_readLent 5 = .ok (.getfield 279, 3) := dk_180 1 23 (dk_at dksX8_readLent_0 5 rfl rfl)
theorem dX8_readLent_8 : decode cX8_readLent 8 = .ok (.bipush 16, 2) := dk_16 16 (dk_at dksX8_readLent_0 8 rfl rfl)
theorem dX8_readLent_10 : decode cX8_readLent 10 = .ok (.invokevirtual 234, 3) := dk_182 0 234 (dk_at dksX8_readLent_0 10 rfl rfl)
theorem dX8_readLent_13 : decode cX8_readLent 13 = .ok (.aload_n 0, 1) := dk_42 (dk_at dksX8_readLent_0 13 rfl rfl)
theorem dX8_readLent_14 : decode cX8_readLent 14 = .ok (.iconst 1, 1) := dk_4 (dk_at dksX8_readLent_0 14 rfl rfl)
theorem dX8_readLent_15 : decode cX8_readLent 15 = .ok (.invokevirtual 267, 3) := dk_182 1 11 (dk_at dksX8_readLent_0 15 rfl rfl)
theorem dX8_readLent_18 : decode cX8_readLent 18 = .ok (.istore_n 1, 1) := dk_60 (dk_at dksX8_readLent_0 18 rfl rfl)
theorem dX8_readLent_19 : decode cX8_readLent 19 = .ok (.aload_n 0, 1) := dk_42 (dk_at dksX8_readLent_0 19 rfl rfl)
theorem dX8_readLent_20 : decode cX8_readLent 20 = .ok (.iconst 0, 1) := dk_3 (dk_at dksX8_readLent_0 20 rfl rfl)
theorem dX8_readLent_21 : decode cX8_readLent 21 = .ok (.invokevirtual 267, 3) := dk_182 1 11 (dk_at dksX8_readLent_0 21 rfl rfl)
theorem dX8_readLent_24 : decode cX8_readLent 24 = .ok (.istore_n 2, 1) := dk_61 (dk_at dksX8_readLent_1 0 rfl rfl)
theorem dX8_readLent_25 : decode cX8_readLent 25 = .ok (.aload_n 0, 1) := dk_42 (dk_at dksX8_readLent_1 1 rfl rfl)
theorem dX8_readLent_26 : decode cX8_readLent 26 = .ok (.iconst 0, 1) := dk_3 (dk_at dksX8_readLent_1 2 rfl rfl)
theorem dX8_readLent_27 : decode cX8_readLent 27 = .ok (.iload_n 1, 1) := dk_27 (dk_at dksX8_readLent_1 3 rfl rfl)
theorem dX8_readLent_28 : decode cX8_readLent 28 = .ok (.iload_n 2, 1) := dk_28 (dk_at dksX8_readLent_1 4 rfl rfl)
theorem dX8_readLent_29 : decode cX8_readLent 29 = .ok (.invokevirtual 295, 3) := dk_182 1 39 (dk_at dksX8_readLent_1 5 rfl rfl)
theorem dX8_readLent_32 : decode cX8_readLent 32 = .ok (.return_, 1) := dk_177 (dk_at dksX8_readLent_1 8 rfl rfl)
abbrev cX8_logs : ByteArray := prog_26_method_35_code
def yX8_logs : MethodName := ⟨RX8, "logs", "(III)V"⟩
def dkwX8_logs_5 : List UInt8 := [21, 5, 79, 42, 180, 0, 152, 89, 180, 1, 23, 4, 96, 181, 1, 23, 177]
abbrev dktX8_logs_5 : List UInt8 := dkwX8_logs_5 ++ []
def dkwX8_logs_4 : List UInt8 := [42, 180, 0, 152, 180, 1, 23, 29, 79, 42, 180, 0, 152, 180, 1, 26, 42, 180, 0, 152, 180, 1, 23]
abbrev dktX8_logs_4 : List UInt8 := dkwX8_logs_4 ++ dktX8_logs_5
def dkwX8_logs_3 : List UInt8 := [79, 42, 180, 0, 152, 180, 1, 33, 42, 180, 0, 152, 180, 1, 23, 28, 79, 42, 180, 0, 152, 180, 1, 36]
abbrev dktX8_logs_3 : List UInt8 := dkwX8_logs_3 ++ dktX8_logs_4
def dkwX8_logs_2 : List UInt8 := [42, 180, 0, 77, 8, 160, 0, 4, 177, 42, 180, 0, 152, 180, 1, 30, 42, 180, 0, 152, 180, 1, 23, 27]
abbrev dktX8_logs_2 : List UInt8 := dkwX8_logs_2 ++ dktX8_logs_3
def dkwX8_logs_1 : List UInt8 := [180, 0, 152, 180, 1, 23, 4, 100, 46, 54, 4, 42, 19, 1, 29, 21, 4, 16, 40, 182, 0, 222, 54, 5]
abbrev dktX8_logs_1 : List UInt8 := dkwX8_logs_1 ++ dktX8_logs_2
def dkwX8_logs_0 : List UInt8 := [42, 180, 0, 152, 180, 1, 23, 154, 0, 7, 3, 167, 0, 20, 42, 180, 0, 152, 180, 1, 26, 42]
abbrev dktX8_logs_0 : List UInt8 := dkwX8_logs_0 ++ dktX8_logs_1
theorem dksX8_logs_0 : cX8_logs.data.toList.drop 0 = dktX8_logs_0 := by decide +kernel
theorem dksX8_logs_1 : cX8_logs.data.toList.drop 22 = dktX8_logs_1 := dk_seg dksX8_logs_0 22 rfl rfl
theorem dksX8_logs_2 : cX8_logs.data.toList.drop 46 = dktX8_logs_2 := dk_seg dksX8_logs_1 24 rfl rfl
theorem dksX8_logs_3 : cX8_logs.data.toList.drop 70 = dktX8_logs_3 := dk_seg dksX8_logs_2 24 rfl rfl
theorem dksX8_logs_4 : cX8_logs.data.toList.drop 94 = dktX8_logs_4 := dk_seg dksX8_logs_3 24 rfl rfl
theorem dksX8_logs_5 : cX8_logs.data.toList.drop 117 = dktX8_logs_5 := dk_seg dksX8_logs_4 23 rfl rfl
theorem dX8_logs_0 : decode cX8_logs 0 = .ok (.aload_n 0, 1) := dk_42 (dk_at dksX8_logs_0 0 rfl rfl)
theorem dX8_logs_1 : decode cX8_logs 1 = .ok (.getfield 152, 3) := dk_180 0 152 (dk_at dksX8_logs_0 1 rfl rfl)
theorem dX8_logs_4 : decode cX8_logs 4 = .ok (.getfield 279, 3) := dk_180 1 23 (dk_at dksX8_logs_0 4 rfl rfl)
theorem dX8_logs_7 : decode cX8_logs 7 = .ok (.ifCond .ne 7, 3) := dk_154 0 7 (dk_at dksX8_logs_0 7 rfl rfl)
theorem dX8_logs_10 : decode cX8_logs 10 = .ok (.iconst 0, 1) := dk_3 (dk_at dksX8_logs_0 10 rfl rfl)
theorem dX8_logs_11 : decode cX8_logs 11 = .ok (.goto 20, 3) := dk_167 0 20 (dk_at dksX8_logs_0 11 rfl rfl)
theorem dX8_logs_14 : decode cX8_logs 14 = .ok (.aload_n 0, 1) := dk_42 (dk_at dksX8_logs_0 14 rfl rfl)
theorem dX8_logs_15 : decode cX8_logs 15 = .ok (.getfield 152, 3) := dk_180 0 152 (dk_at dksX8_logs_0 15 rfl rfl)
theorem dX8_logs_18 : decode cX8_logs 18 = .ok (.getfield 282, 3) := dk_180 1 26 (dk_at dksX8_logs_0 18 rfl rfl)
theorem dX8_logs_21 : decode cX8_logs 21 = .ok (.aload_n 0, 1) := dk_42 (dk_at dksX8_logs_0 21 rfl rfl)
theorem dX8_logs_22 : decode cX8_logs 22 = .ok (.getfield 152, 3) := dk_180 0 152 (dk_at dksX8_logs_1 0 rfl rfl)
theorem dX8_logs_25 : decode cX8_logs 25 = .ok (.getfield 279, 3) := dk_180 1 23 (dk_at dksX8_logs_1 3 rfl rfl)
theorem dX8_logs_28 : decode cX8_logs 28 = .ok (.iconst 1, 1) := dk_4 (dk_at dksX8_logs_1 6 rfl rfl)
theorem dX8_logs_29 : decode cX8_logs 29 = .ok (.isub, 1) := dk_100 (dk_at dksX8_logs_1 7 rfl rfl)
theorem dX8_logs_30 : decode cX8_logs 30 = .ok (.iaload, 1) := dk_46 (dk_at dksX8_logs_1 8 rfl rfl)
theorem dX8_logs_31 : decode cX8_logs 31 = .ok (.istore 4, 2) := dk_54 4 (dk_at dksX8_logs_1 9 rfl rfl)
theorem dX8_logs_33 : decode cX8_logs 33 = .ok (.aload_n 0, 1) := dk_42 (dk_at dksX8_logs_1 11 rfl rfl)
theorem dX8_logs_34 : decode cX8_logs 34 = .ok (.ldc_w 285, 3) := dk_19 1 29 (dk_at dksX8_logs_1 12 rfl rfl)
theorem dX8_logs_37 : decode cX8_logs 37 = .ok (.iload 4, 2) := dk_21 4 (dk_at dksX8_logs_1 15 rfl rfl)
theorem dX8_logs_39 : decode cX8_logs 39 = .ok (.bipush 40, 2) := dk_16 40 (dk_at dksX8_logs_1 17 rfl rfl)
theorem dX8_logs_41 : decode cX8_logs 41 = .ok (.invokevirtual 222, 3) := dk_182 0 222 (dk_at dksX8_logs_1 19 rfl rfl)
theorem dX8_logs_44 : decode cX8_logs 44 = .ok (.istore 5, 2) := dk_54 5 (dk_at dksX8_logs_1 22 rfl rfl)
theorem dX8_logs_46 : decode cX8_logs 46 = .ok (.aload_n 0, 1) := dk_42 (dk_at dksX8_logs_2 0 rfl rfl)
theorem dX8_logs_47 : decode cX8_logs 47 = .ok (.getfield 77, 3) := dk_180 0 77 (dk_at dksX8_logs_2 1 rfl rfl)
theorem dX8_logs_50 : decode cX8_logs 50 = .ok (.iconst 5, 1) := dk_8 (dk_at dksX8_logs_2 4 rfl rfl)
theorem dX8_logs_51 : decode cX8_logs 51 = .ok (.if_icmp .ne 4, 3) := dk_160 0 4 (dk_at dksX8_logs_2 5 rfl rfl)
theorem dX8_logs_54 : decode cX8_logs 54 = .ok (.return_, 1) := dk_177 (dk_at dksX8_logs_2 8 rfl rfl)
theorem dX8_logs_55 : decode cX8_logs 55 = .ok (.aload_n 0, 1) := dk_42 (dk_at dksX8_logs_2 9 rfl rfl)
theorem dX8_logs_56 : decode cX8_logs 56 = .ok (.getfield 152, 3) := dk_180 0 152 (dk_at dksX8_logs_2 10 rfl rfl)
theorem dX8_logs_59 : decode cX8_logs 59 = .ok (.getfield 286, 3) := dk_180 1 30 (dk_at dksX8_logs_2 13 rfl rfl)
theorem dX8_logs_62 : decode cX8_logs 62 = .ok (.aload_n 0, 1) := dk_42 (dk_at dksX8_logs_2 16 rfl rfl)
theorem dX8_logs_63 : decode cX8_logs 63 = .ok (.getfield 152, 3) := dk_180 0 152 (dk_at dksX8_logs_2 17 rfl rfl)
theorem dX8_logs_66 : decode cX8_logs 66 = .ok (.getfield 279, 3) := dk_180 1 23 (dk_at dksX8_logs_2 20 rfl rfl)
theorem dX8_logs_69 : decode cX8_logs 69 = .ok (.iload_n 1, 1) := dk_27 (dk_at dksX8_logs_2 23 rfl rfl)
theorem dX8_logs_70 : decode cX8_logs 70 = .ok (.iastore, 1) := dk_79 (dk_at dksX8_logs_3 0 rfl rfl)
theorem dX8_logs_71 : decode cX8_logs 71 = .ok (.aload_n 0, 1) := dk_42 (dk_at dksX8_logs_3 1 rfl rfl)
theorem dX8_logs_72 : decode cX8_logs 72 = .ok (.getfield 152, 3) := dk_180 0 152 (dk_at dksX8_logs_3 2 rfl rfl)
theorem dX8_logs_75 : decode cX8_logs 75 = .ok (.getfield 289, 3) := dk_180 1 33 (dk_at dksX8_logs_3 5 rfl rfl)
theorem dX8_logs_78 : decode cX8_logs 78 = .ok (.aload_n 0, 1) := dk_42 (dk_at dksX8_logs_3 8 rfl rfl)
theorem dX8_logs_79 : decode cX8_logs 79 = .ok (.getfield 152, 3) := dk_180 0 152 (dk_at dksX8_logs_3 9 rfl rfl)
theorem dX8_logs_82 : decode cX8_logs 82 = .ok (.getfield 279, 3) := dk_180 1 23 (dk_at dksX8_logs_3 12 rfl rfl)
theorem dX8_logs_85 : decode cX8_logs 85 = .ok (.iload_n 2, 1) := dk_28 (dk_at dksX8_logs_3 15 rfl rfl)
theorem dX8_logs_86 : decode cX8_logs 86 = .ok (.iastore, 1) := dk_79 (dk_at dksX8_logs_3 16 rfl rfl)
theorem dX8_logs_87 : decode cX8_logs 87 = .ok (.aload_n 0, 1) := dk_42 (dk_at dksX8_logs_3 17 rfl rfl)
theorem dX8_logs_88 : decode cX8_logs 88 = .ok (.getfield 152, 3) := dk_180 0 152 (dk_at dksX8_logs_3 18 rfl rfl)
theorem dX8_logs_91 : decode cX8_logs 91 = .ok (.getfield 292, 3) := dk_180 1 36 (dk_at dksX8_logs_3 21 rfl rfl)
theorem dX8_logs_94 : decode cX8_logs 94 = .ok (.aload_n 0, 1) := dk_42 (dk_at dksX8_logs_4 0 rfl rfl)
theorem dX8_logs_95 : decode cX8_logs 95 = .ok (.getfield 152, 3) := dk_180 0 152 (dk_at dksX8_logs_4 1 rfl rfl)
theorem dX8_logs_98 : decode cX8_logs 98 = .ok (.getfield 279, 3) := dk_180 1 23 (dk_at dksX8_logs_4 4 rfl rfl)
theorem dX8_logs_101 : decode cX8_logs 101 = .ok (.iload_n 3, 1) := dk_29 (dk_at dksX8_logs_4 7 rfl rfl)
theorem dX8_logs_102 : decode cX8_logs 102 = .ok (.iastore, 1) := dk_79 (dk_at dksX8_logs_4 8 rfl rfl)
theorem dX8_logs_103 : decode cX8_logs 103 = .ok (.aload_n 0, 1) := dk_42 (dk_at dksX8_logs_4 9 rfl rfl)
theorem dX8_logs_104 : decode cX8_logs 104 = .ok (.getfield 152, 3) := dk_180 0 152 (dk_at dksX8_logs_4 10 rfl rfl)
theorem dX8_logs_107 : decode cX8_logs 107 = .ok (.getfield 282, 3) := dk_180 1 26 (dk_at dksX8_logs_4 13 rfl rfl)
theorem dX8_logs_110 : decode cX8_logs 110 = .ok (.aload_n 0, 1) := dk_42 (dk_at dksX8_logs_4 16 rfl rfl)
theorem dX8_logs_111 : decode cX8_logs 111 = .ok (.getfield 152, 3) := dk_180 0 152 (dk_at dksX8_logs_4 17 rfl rfl)
theorem dX8_logs_114 : decode cX8_logs 114 = .ok (.getfield 279, 3) := dk_180 1 23 (dk_at dksX8_logs_4 20 rfl rfl)
theorem dX8_logs_117 : decode cX8_logs 117 = .ok (.iload 5, 2) := dk_21 5 (dk_at dksX8_logs_5 0 rfl rfl)
theorem dX8_logs_119 : decode cX8_logs 119 = .ok (.iastore, 1) := dk_79 (dk_at dksX8_logs_5 2 rfl rfl)
theorem dX8_logs_120 : decode cX8_logs 120 = .ok (.aload_n 0, 1) := dk_42 (dk_at dksX8_logs_5 3 rfl rfl)
theorem dX8_logs_121 : decode cX8_logs 121 = .ok (.getfield 152, 3) := dk_180 0 152 (dk_at dksX8_logs_5 4 rfl rfl)
theorem dX8_logs_124 : decode cX8_logs 124 = .ok (.dup, 1) := dk_89 (dk_at dksX8_logs_5 7 rfl rfl)
theorem dX8_logs_125 : decode cX8_logs 125 = .ok (.getfield 279, 3) := dk_180 1 23 (dk_at dksX8_logs_5 8 rfl rfl)
theorem dX8_logs_128 : decode cX8_logs 128 = .ok (.iconst 1, 1) := dk_4 (dk_at dksX8_logs_5 11 rfl rfl)
theorem dX8_logs_129 : decode cX8_logs 129 = .ok (.iadd, 1) := dk_96 (dk_at dksX8_logs_5 12 rfl rfl)
theorem dX8_logs_130 : decode cX8_logs 130 = .ok (.putfield 279, 3) := dk_181 1 23 (dk_at dksX8_logs_5 13 rfl rfl)
theorem dX8_logs_133 : decode cX8_logs 133 = .ok (.return_, 1) := dk_177 (dk_at dksX8_logs_5 16 rfl rfl)
abbrev cX8_readLeft : ByteArray := prog_26_method_37_code
def yX8_readLeft : MethodName := ⟨RX8, "readLeft", "()V"⟩
def dkwX8_readLeft_1 : List UInt8 := [182, 1, 39, 177]
abbrev dktX8_readLeft_1 : List UInt8 := dkwX8_readLeft_1 ++ []
def dkwX8_readLeft_0 : List UInt8 := [42, 42, 180, 0, 152, 180, 1, 23, 16, 16, 182, 0, 234, 42, 4, 182, 1, 11, 60, 42, 4, 27, 3]
abbrev dktX8_readLeft_0 : List UInt8 := dkwX8_readLeft_0 ++ dktX8_readLeft_1
theorem dksX8_readLeft_0 : cX8_readLeft.data.toList.drop 0 = dktX8_readLeft_0 := by decide +kernel
theorem dksX8_readLeft_1 : cX8_readLeft.data.toList.drop 23 = dktX8_readLeft_1 := dk_seg dksX8_readLeft_0 23 rfl rfl
theorem dX8_readLeft_0 : decode cX8_readLeft 0 = .ok (.aload_n 0, 1) := dk_42 (dk_at dksX8_readLeft_0 0 rfl rfl)
theorem dX8_readLeft_1 : decode cX8_readLeft 1 = .ok (.aload_n 0, 1) := dk_42 (dk_at dksX8_readLeft_0 1 rfl rfl)
theorem dX8_readLeft_2 : decode cX8_readLeft 2 = .ok (.getfield 152, 3) := dk_180 0 152 (dk_at dksX8_readLeft_0 2 rfl rfl)
theorem dX8_readLeft_5 : decode cX8_readLeft 5 = .ok (.getfield 279, 3) := dk_180 1 23 (dk_at dksX8_readLeft_0 5 rfl rfl)
theorem dX8_readLeft_8 : decode cX8_readLeft 8 = .ok (.bipush 16, 2) := dk_16 16 (dk_at dksX8_readLeft_0 8 rfl rfl)
theorem dX8_readLeft_10 : decode cX8_readLeft 10 = .ok (.invokevirtual 234, 3) := dk_182 0 234 (dk_at dksX8_readLeft_0 10 rfl rfl)
theorem dX8_readLeft_13 : decode cX8_readLeft 13 = .ok (.aload_n 0, 1) := dk_42 (dk_at dksX8_readLeft_0 13 rfl rfl)
theorem dX8_readLeft_14 : decode cX8_readLeft 14 = .ok (.iconst 1, 1) := dk_4 (dk_at dksX8_readLeft_0 14 rfl rfl)
theorem dX8_readLeft_15 : decode cX8_readLeft 15 = .ok (.invokevirtual 267, 3) := dk_182 1 11 (dk_at dksX8_readLeft_0 15 rfl rfl)
theorem dX8_readLeft_18 : decode cX8_readLeft 18 = .ok (.istore_n 1, 1) := dk_60 (dk_at dksX8_readLeft_0 18 rfl rfl)
theorem dX8_readLeft_19 : decode cX8_readLeft 19 = .ok (.aload_n 0, 1) := dk_42 (dk_at dksX8_readLeft_0 19 rfl rfl)
theorem dX8_readLeft_20 : decode cX8_readLeft 20 = .ok (.iconst 1, 1) := dk_4 (dk_at dksX8_readLeft_0 20 rfl rfl)
theorem dX8_readLeft_21 : decode cX8_readLeft 21 = .ok (.iload_n 1, 1) := dk_27 (dk_at dksX8_readLeft_0 21 rfl rfl)
theorem dX8_readLeft_22 : decode cX8_readLeft 22 = .ok (.iconst 0, 1) := dk_3 (dk_at dksX8_readLeft_0 22 rfl rfl)
theorem dX8_readLeft_23 : decode cX8_readLeft 23 = .ok (.invokevirtual 295, 3) := dk_182 1 39 (dk_at dksX8_readLeft_1 0 rfl rfl)
theorem dX8_readLeft_26 : decode cX8_readLeft 26 = .ok (.return_, 1) := dk_177 (dk_at dksX8_readLeft_1 3 rfl rfl)
abbrev cX8_readChanged : ByteArray := prog_26_method_38_code
def yX8_readChanged : MethodName := ⟨RX8, "readChanged", "()V"⟩
def dkwX8_readChanged_2 : List UInt8 := [5, 27, 28, 182, 1, 39, 177]
abbrev dktX8_readChanged_2 : List UInt8 := dkwX8_readChanged_2 ++ []
def dkwX8_readChanged_1 : List UInt8 := [61, 42, 180, 0, 77, 8, 159, 0, 13, 27, 28, 160, 0, 8, 42, 6, 182, 0, 120, 42, 182, 0, 113, 42]
abbrev dktX8_readChanged_1 : List UInt8 := dkwX8_readChanged_1 ++ dktX8_readChanged_2
def dkwX8_readChanged_0 : List UInt8 := [42, 42, 180, 0, 152, 180, 1, 23, 16, 16, 182, 0, 234, 42, 4, 182, 1, 11, 60, 42, 4, 182, 0, 182]
abbrev dktX8_readChanged_0 : List UInt8 := dkwX8_readChanged_0 ++ dktX8_readChanged_1
theorem dksX8_readChanged_0 : cX8_readChanged.data.toList.drop 0 = dktX8_readChanged_0 := by decide +kernel
theorem dksX8_readChanged_1 : cX8_readChanged.data.toList.drop 24 = dktX8_readChanged_1 := dk_seg dksX8_readChanged_0 24 rfl rfl
theorem dksX8_readChanged_2 : cX8_readChanged.data.toList.drop 48 = dktX8_readChanged_2 := dk_seg dksX8_readChanged_1 24 rfl rfl
theorem dX8_readChanged_0 : decode cX8_readChanged 0 = .ok (.aload_n 0, 1) := dk_42 (dk_at dksX8_readChanged_0 0 rfl rfl)
theorem dX8_readChanged_1 : decode cX8_readChanged 1 = .ok (.aload_n 0, 1) := dk_42 (dk_at dksX8_readChanged_0 1 rfl rfl)
theorem dX8_readChanged_2 : decode cX8_readChanged 2 = .ok (.getfield 152, 3) := dk_180 0 152 (dk_at dksX8_readChanged_0 2 rfl rfl)
theorem dX8_readChanged_5 : decode cX8_readChanged 5 = .ok (.getfield 279, 3) := dk_180 1 23 (dk_at dksX8_readChanged_0 5 rfl rfl)
theorem dX8_readChanged_8 : decode cX8_readChanged 8 = .ok (.bipush 16, 2) := dk_16 16 (dk_at dksX8_readChanged_0 8 rfl rfl)
theorem dX8_readChanged_10 : decode cX8_readChanged 10 = .ok (.invokevirtual 234, 3) := dk_182 0 234 (dk_at dksX8_readChanged_0 10 rfl rfl)
theorem dX8_readChanged_13 : decode cX8_readChanged 13 = .ok (.aload_n 0, 1) := dk_42 (dk_at dksX8_readChanged_0 13 rfl rfl)
theorem dX8_readChanged_14 : decode cX8_readChanged 14 = .ok (.iconst 1, 1) := dk_4 (dk_at dksX8_readChanged_0 14 rfl rfl)
theorem dX8_readChanged_15 : decode cX8_readChanged 15 = .ok (.invokevirtual 267, 3) := dk_182 1 11 (dk_at dksX8_readChanged_0 15 rfl rfl)
theorem dX8_readChanged_18 : decode cX8_readChanged 18 = .ok (.istore_n 1, 1) := dk_60 (dk_at dksX8_readChanged_0 18 rfl rfl)
theorem dX8_readChanged_19 : decode cX8_readChanged 19 = .ok (.aload_n 0, 1) := dk_42 (dk_at dksX8_readChanged_0 19 rfl rfl)
theorem dX8_readChanged_20 : decode cX8_readChanged 20 = .ok (.iconst 1, 1) := dk_4 (dk_at dksX8_readChanged_0 20 rfl rfl)
theorem dX8_readChanged_21 : decode cX8_readChanged 21 = .ok (.invokevirtual 182, 3) := dk_182 0 182 (dk_at dksX8_readChanged_0 21 rfl rfl)
theorem dX8_readChanged_24 : decode cX8_readChanged 24 = .ok (.istore_n 2, 1) := dk_61 (dk_at dksX8_readChanged_1 0 rfl rfl)
theorem dX8_readChanged_25 : decode cX8_readChanged 25 = .ok (.aload_n 0, 1) := dk_42 (dk_at dksX8_readChanged_1 1 rfl rfl)
theorem dX8_readChanged_26 : decode cX8_readChanged 26 = .ok (.getfield 77, 3) := dk_180 0 77 (dk_at dksX8_readChanged_1 2 rfl rfl)
theorem dX8_readChanged_29 : decode cX8_readChanged 29 = .ok (.iconst 5, 1) := dk_8 (dk_at dksX8_readChanged_1 5 rfl rfl)
theorem dX8_readChanged_30 : decode cX8_readChanged 30 = .ok (.if_icmp .eq 13, 3) := dk_159 0 13 (dk_at dksX8_readChanged_1 6 rfl rfl)
theorem dX8_readChanged_33 : decode cX8_readChanged 33 = .ok (.iload_n 1, 1) := dk_27 (dk_at dksX8_readChanged_1 9 rfl rfl)
theorem dX8_readChanged_34 : decode cX8_readChanged 34 = .ok (.iload_n 2, 1) := dk_28 (dk_at dksX8_readChanged_1 10 rfl rfl)
theorem dX8_readChanged_35 : decode cX8_readChanged 35 = .ok (.if_icmp .ne 8, 3) := dk_160 0 8 (dk_at dksX8_readChanged_1 11 rfl rfl)
theorem dX8_readChanged_38 : decode cX8_readChanged 38 = .ok (.aload_n 0, 1) := dk_42 (dk_at dksX8_readChanged_1 14 rfl rfl)
theorem dX8_readChanged_39 : decode cX8_readChanged 39 = .ok (.iconst 3, 1) := dk_6 (dk_at dksX8_readChanged_1 15 rfl rfl)
theorem dX8_readChanged_40 : decode cX8_readChanged 40 = .ok (.invokevirtual 120, 3) := dk_182 0 120 (dk_at dksX8_readChanged_1 16 rfl rfl)
theorem dX8_readChanged_43 : decode cX8_readChanged 43 = .ok (.aload_n 0, 1) := dk_42 (dk_at dksX8_readChanged_1 19 rfl rfl)
theorem dX8_readChanged_44 : decode cX8_readChanged 44 = .ok (.invokevirtual 113, 3) := dk_182 0 113 (dk_at dksX8_readChanged_1 20 rfl rfl)
theorem dX8_readChanged_47 : decode cX8_readChanged 47 = .ok (.aload_n 0, 1) := dk_42 (dk_at dksX8_readChanged_1 23 rfl rfl)
theorem dX8_readChanged_48 : decode cX8_readChanged 48 = .ok (.iconst 2, 1) := dk_5 (dk_at dksX8_readChanged_2 0 rfl rfl)
theorem dX8_readChanged_49 : decode cX8_readChanged 49 = .ok (.iload_n 1, 1) := dk_27 (dk_at dksX8_readChanged_2 1 rfl rfl)
theorem dX8_readChanged_50 : decode cX8_readChanged 50 = .ok (.iload_n 2, 1) := dk_28 (dk_at dksX8_readChanged_2 2 rfl rfl)
theorem dX8_readChanged_51 : decode cX8_readChanged 51 = .ok (.invokevirtual 295, 3) := dk_182 1 39 (dk_at dksX8_readChanged_2 3 rfl rfl)
theorem dX8_readChanged_54 : decode cX8_readChanged 54 = .ok (.return_, 1) := dk_177 (dk_at dksX8_readChanged_2 6 rfl rfl)
abbrev cX8_readRain : ByteArray := prog_26_method_39_code
def yX8_readRain : MethodName := ⟨RX8, "readRain", "()V"⟩
def dkwX8_readRain_0 : List UInt8 := [42, 42, 180, 0, 152, 180, 1, 23, 16, 16, 182, 0, 234, 42, 6, 3, 3, 182, 1, 39, 177]
abbrev dktX8_readRain_0 : List UInt8 := dkwX8_readRain_0 ++ []
theorem dksX8_readRain_0 : cX8_readRain.data.toList.drop 0 = dktX8_readRain_0 := by decide +kernel
theorem dX8_readRain_0 : decode cX8_readRain 0 = .ok (.aload_n 0, 1) := dk_42 (dk_at dksX8_readRain_0 0 rfl rfl)
theorem dX8_readRain_1 : decode cX8_readRain 1 = .ok (.aload_n 0, 1) := dk_42 (dk_at dksX8_readRain_0 1 rfl rfl)
theorem dX8_readRain_2 : decode cX8_readRain 2 = .ok (.getfield 152, 3) := dk_180 0 152 (dk_at dksX8_readRain_0 2 rfl rfl)
theorem dX8_readRain_5 : decode cX8_readRain 5 = .ok (.getfield 279, 3) := dk_180 1 23 (dk_at dksX8_readRain_0 5 rfl rfl)
theorem dX8_readRain_8 : decode cX8_readRain 8 = .ok (.bipush 16, 2) := dk_16 16 (dk_at dksX8_readRain_0 8 rfl rfl)
theorem dX8_readRain_10 : decode cX8_readRain 10 = .ok (.invokevirtual 234, 3) := dk_182 0 234 (dk_at dksX8_readRain_0 10 rfl rfl)
theorem dX8_readRain_13 : decode cX8_readRain 13 = .ok (.aload_n 0, 1) := dk_42 (dk_at dksX8_readRain_0 13 rfl rfl)
theorem dX8_readRain_14 : decode cX8_readRain 14 = .ok (.iconst 3, 1) := dk_6 (dk_at dksX8_readRain_0 14 rfl rfl)
theorem dX8_readRain_15 : decode cX8_readRain 15 = .ok (.iconst 0, 1) := dk_3 (dk_at dksX8_readRain_0 15 rfl rfl)
theorem dX8_readRain_16 : decode cX8_readRain 16 = .ok (.iconst 0, 1) := dk_3 (dk_at dksX8_readRain_0 16 rfl rfl)
theorem dX8_readRain_17 : decode cX8_readRain 17 = .ok (.invokevirtual 295, 3) := dk_182 1 39 (dk_at dksX8_readRain_0 17 rfl rfl)
theorem dX8_readRain_20 : decode cX8_readRain 20 = .ok (.return_, 1) := dk_177 (dk_at dksX8_readRain_0 20 rfl rfl)
abbrev cX8_readClaims : ByteArray := prog_26_method_40_code
def yX8_readClaims : MethodName := ⟨RX8, "readClaims", "()V"⟩
def dkwX8_readClaims_4 : List UInt8 := [42, 180, 0, 152, 89, 180, 1, 42, 4, 96, 181, 1, 42, 177]
abbrev dktX8_readClaims_4 : List UInt8 := dkwX8_readClaims_4 ++ []
def dkwX8_readClaims_3 : List UInt8 := [180, 0, 152, 180, 1, 42, 28, 79, 42, 180, 0, 152, 180, 1, 50, 42, 180, 0, 152, 180, 1, 42, 29, 79]
abbrev dktX8_readClaims_3 : List UInt8 := dkwX8_readClaims_3 ++ dktX8_readClaims_4
def dkwX8_readClaims_2 : List UInt8 := [180, 0, 152, 180, 1, 44, 42, 180, 0, 152, 180, 1, 42, 27, 79, 42, 180, 0, 152, 180, 1, 47, 42]
abbrev dktX8_readClaims_2 : List UInt8 := dkwX8_readClaims_2 ++ dktX8_readClaims_3
def dkwX8_readClaims_1 : List UInt8 := [61, 42, 19, 1, 29, 3, 16, 40, 182, 0, 222, 62, 42, 180, 0, 77, 8, 160, 0, 4, 177, 42]
abbrev dktX8_readClaims_1 : List UInt8 := dkwX8_readClaims_1 ++ dktX8_readClaims_2
def dkwX8_readClaims_0 : List UInt8 := [42, 42, 180, 0, 152, 180, 1, 42, 16, 6, 182, 0, 234, 42, 3, 182, 1, 11, 60, 42, 4, 182, 1, 11]
abbrev dktX8_readClaims_0 : List UInt8 := dkwX8_readClaims_0 ++ dktX8_readClaims_1
theorem dksX8_readClaims_0 : cX8_readClaims.data.toList.drop 0 = dktX8_readClaims_0 := by decide +kernel
theorem dksX8_readClaims_1 : cX8_readClaims.data.toList.drop 24 = dktX8_readClaims_1 := dk_seg dksX8_readClaims_0 24 rfl rfl
theorem dksX8_readClaims_2 : cX8_readClaims.data.toList.drop 46 = dktX8_readClaims_2 := dk_seg dksX8_readClaims_1 22 rfl rfl
theorem dksX8_readClaims_3 : cX8_readClaims.data.toList.drop 69 = dktX8_readClaims_3 := dk_seg dksX8_readClaims_2 23 rfl rfl
theorem dksX8_readClaims_4 : cX8_readClaims.data.toList.drop 93 = dktX8_readClaims_4 := dk_seg dksX8_readClaims_3 24 rfl rfl
theorem dX8_readClaims_0 : decode cX8_readClaims 0 = .ok (.aload_n 0, 1) := dk_42 (dk_at dksX8_readClaims_0 0 rfl rfl)
theorem dX8_readClaims_1 : decode cX8_readClaims 1 = .ok (.aload_n 0, 1) := dk_42 (dk_at dksX8_readClaims_0 1 rfl rfl)
theorem dX8_readClaims_2 : decode cX8_readClaims 2 = .ok (.getfield 152, 3) := dk_180 0 152 (dk_at dksX8_readClaims_0 2 rfl rfl)
theorem dX8_readClaims_5 : decode cX8_readClaims 5 = .ok (.getfield 298, 3) := dk_180 1 42 (dk_at dksX8_readClaims_0 5 rfl rfl)
theorem dX8_readClaims_8 : decode cX8_readClaims 8 = .ok (.bipush 6, 2) := dk_16 6 (dk_at dksX8_readClaims_0 8 rfl rfl)
theorem dX8_readClaims_10 : decode cX8_readClaims 10 = .ok (.invokevirtual 234, 3) := dk_182 0 234 (dk_at dksX8_readClaims_0 10 rfl rfl)
theorem dX8_readClaims_13 : decode cX8_readClaims 13 = .ok (.aload_n 0, 1) := dk_42 (dk_at dksX8_readClaims_0 13 rfl rfl)
theorem dX8_readClaims_14 : decode cX8_readClaims 14 = .ok (.iconst 0, 1) := dk_3 (dk_at dksX8_readClaims_0 14 rfl rfl)
theorem dX8_readClaims_15 : decode cX8_readClaims 15 = .ok (.invokevirtual 267, 3) := dk_182 1 11 (dk_at dksX8_readClaims_0 15 rfl rfl)
theorem dX8_readClaims_18 : decode cX8_readClaims 18 = .ok (.istore_n 1, 1) := dk_60 (dk_at dksX8_readClaims_0 18 rfl rfl)
theorem dX8_readClaims_19 : decode cX8_readClaims 19 = .ok (.aload_n 0, 1) := dk_42 (dk_at dksX8_readClaims_0 19 rfl rfl)
theorem dX8_readClaims_20 : decode cX8_readClaims 20 = .ok (.iconst 1, 1) := dk_4 (dk_at dksX8_readClaims_0 20 rfl rfl)
theorem dX8_readClaims_21 : decode cX8_readClaims 21 = .ok (.invokevirtual 267, 3) := dk_182 1 11 (dk_at dksX8_readClaims_0 21 rfl rfl)
theorem dX8_readClaims_24 : decode cX8_readClaims 24 = .ok (.istore_n 2, 1) := dk_61 (dk_at dksX8_readClaims_1 0 rfl rfl)
theorem dX8_readClaims_25 : decode cX8_readClaims 25 = .ok (.aload_n 0, 1) := dk_42 (dk_at dksX8_readClaims_1 1 rfl rfl)
theorem dX8_readClaims_26 : decode cX8_readClaims 26 = .ok (.ldc_w 285, 3) := dk_19 1 29 (dk_at dksX8_readClaims_1 2 rfl rfl)
theorem dX8_readClaims_29 : decode cX8_readClaims 29 = .ok (.iconst 0, 1) := dk_3 (dk_at dksX8_readClaims_1 5 rfl rfl)
theorem dX8_readClaims_30 : decode cX8_readClaims 30 = .ok (.bipush 40, 2) := dk_16 40 (dk_at dksX8_readClaims_1 6 rfl rfl)
theorem dX8_readClaims_32 : decode cX8_readClaims 32 = .ok (.invokevirtual 222, 3) := dk_182 0 222 (dk_at dksX8_readClaims_1 8 rfl rfl)
theorem dX8_readClaims_35 : decode cX8_readClaims 35 = .ok (.istore_n 3, 1) := dk_62 (dk_at dksX8_readClaims_1 11 rfl rfl)
theorem dX8_readClaims_36 : decode cX8_readClaims 36 = .ok (.aload_n 0, 1) := dk_42 (dk_at dksX8_readClaims_1 12 rfl rfl)
theorem dX8_readClaims_37 : decode cX8_readClaims 37 = .ok (.getfield 77, 3) := dk_180 0 77 (dk_at dksX8_readClaims_1 13 rfl rfl)
theorem dX8_readClaims_40 : decode cX8_readClaims 40 = .ok (.iconst 5, 1) := dk_8 (dk_at dksX8_readClaims_1 16 rfl rfl)
theorem dX8_readClaims_41 : decode cX8_readClaims 41 = .ok (.if_icmp .ne 4, 3) := dk_160 0 4 (dk_at dksX8_readClaims_1 17 rfl rfl)
theorem dX8_readClaims_44 : decode cX8_readClaims 44 = .ok (.return_, 1) := dk_177 (dk_at dksX8_readClaims_1 20 rfl rfl)
theorem dX8_readClaims_45 : decode cX8_readClaims 45 = .ok (.aload_n 0, 1) := dk_42 (dk_at dksX8_readClaims_1 21 rfl rfl)
theorem dX8_readClaims_46 : decode cX8_readClaims 46 = .ok (.getfield 152, 3) := dk_180 0 152 (dk_at dksX8_readClaims_2 0 rfl rfl)
theorem dX8_readClaims_49 : decode cX8_readClaims 49 = .ok (.getfield 300, 3) := dk_180 1 44 (dk_at dksX8_readClaims_2 3 rfl rfl)
theorem dX8_readClaims_52 : decode cX8_readClaims 52 = .ok (.aload_n 0, 1) := dk_42 (dk_at dksX8_readClaims_2 6 rfl rfl)
theorem dX8_readClaims_53 : decode cX8_readClaims 53 = .ok (.getfield 152, 3) := dk_180 0 152 (dk_at dksX8_readClaims_2 7 rfl rfl)
theorem dX8_readClaims_56 : decode cX8_readClaims 56 = .ok (.getfield 298, 3) := dk_180 1 42 (dk_at dksX8_readClaims_2 10 rfl rfl)
theorem dX8_readClaims_59 : decode cX8_readClaims 59 = .ok (.iload_n 1, 1) := dk_27 (dk_at dksX8_readClaims_2 13 rfl rfl)
theorem dX8_readClaims_60 : decode cX8_readClaims 60 = .ok (.iastore, 1) := dk_79 (dk_at dksX8_readClaims_2 14 rfl rfl)
theorem dX8_readClaims_61 : decode cX8_readClaims 61 = .ok (.aload_n 0, 1) := dk_42 (dk_at dksX8_readClaims_2 15 rfl rfl)
theorem dX8_readClaims_62 : decode cX8_readClaims 62 = .ok (.getfield 152, 3) := dk_180 0 152 (dk_at dksX8_readClaims_2 16 rfl rfl)
theorem dX8_readClaims_65 : decode cX8_readClaims 65 = .ok (.getfield 303, 3) := dk_180 1 47 (dk_at dksX8_readClaims_2 19 rfl rfl)
theorem dX8_readClaims_68 : decode cX8_readClaims 68 = .ok (.aload_n 0, 1) := dk_42 (dk_at dksX8_readClaims_2 22 rfl rfl)
theorem dX8_readClaims_69 : decode cX8_readClaims 69 = .ok (.getfield 152, 3) := dk_180 0 152 (dk_at dksX8_readClaims_3 0 rfl rfl)
theorem dX8_readClaims_72 : decode cX8_readClaims 72 = .ok (.getfield 298, 3) := dk_180 1 42 (dk_at dksX8_readClaims_3 3 rfl rfl)
theorem dX8_readClaims_75 : decode cX8_readClaims 75 = .ok (.iload_n 2, 1) := dk_28 (dk_at dksX8_readClaims_3 6 rfl rfl)
theorem dX8_readClaims_76 : decode cX8_readClaims 76 = .ok (.iastore, 1) := dk_79 (dk_at dksX8_readClaims_3 7 rfl rfl)
theorem dX8_readClaims_77 : decode cX8_readClaims 77 = .ok (.aload_n 0, 1) := dk_42 (dk_at dksX8_readClaims_3 8 rfl rfl)
theorem dX8_readClaims_78 : decode cX8_readClaims 78 = .ok (.getfield 152, 3) := dk_180 0 152 (dk_at dksX8_readClaims_3 9 rfl rfl)
theorem dX8_readClaims_81 : decode cX8_readClaims 81 = .ok (.getfield 306, 3) := dk_180 1 50 (dk_at dksX8_readClaims_3 12 rfl rfl)
theorem dX8_readClaims_84 : decode cX8_readClaims 84 = .ok (.aload_n 0, 1) := dk_42 (dk_at dksX8_readClaims_3 15 rfl rfl)
theorem dX8_readClaims_85 : decode cX8_readClaims 85 = .ok (.getfield 152, 3) := dk_180 0 152 (dk_at dksX8_readClaims_3 16 rfl rfl)
theorem dX8_readClaims_88 : decode cX8_readClaims 88 = .ok (.getfield 298, 3) := dk_180 1 42 (dk_at dksX8_readClaims_3 19 rfl rfl)
theorem dX8_readClaims_91 : decode cX8_readClaims 91 = .ok (.iload_n 3, 1) := dk_29 (dk_at dksX8_readClaims_3 22 rfl rfl)
theorem dX8_readClaims_92 : decode cX8_readClaims 92 = .ok (.iastore, 1) := dk_79 (dk_at dksX8_readClaims_3 23 rfl rfl)
theorem dX8_readClaims_93 : decode cX8_readClaims 93 = .ok (.aload_n 0, 1) := dk_42 (dk_at dksX8_readClaims_4 0 rfl rfl)
theorem dX8_readClaims_94 : decode cX8_readClaims 94 = .ok (.getfield 152, 3) := dk_180 0 152 (dk_at dksX8_readClaims_4 1 rfl rfl)
theorem dX8_readClaims_97 : decode cX8_readClaims 97 = .ok (.dup, 1) := dk_89 (dk_at dksX8_readClaims_4 4 rfl rfl)
theorem dX8_readClaims_98 : decode cX8_readClaims 98 = .ok (.getfield 298, 3) := dk_180 1 42 (dk_at dksX8_readClaims_4 5 rfl rfl)
theorem dX8_readClaims_101 : decode cX8_readClaims 101 = .ok (.iconst 1, 1) := dk_4 (dk_at dksX8_readClaims_4 8 rfl rfl)
theorem dX8_readClaims_102 : decode cX8_readClaims 102 = .ok (.iadd, 1) := dk_96 (dk_at dksX8_readClaims_4 9 rfl rfl)
theorem dX8_readClaims_103 : decode cX8_readClaims 103 = .ok (.putfield 298, 3) := dk_181 1 42 (dk_at dksX8_readClaims_4 10 rfl rfl)
theorem dX8_readClaims_106 : decode cX8_readClaims 106 = .ok (.return_, 1) := dk_177 (dk_at dksX8_readClaims_4 13 rfl rfl)
abbrev cX8_eatsSemicolon : ByteArray := prog_26_method_20_code
def yX8_eatsSemicolon : MethodName := ⟨RX8, "eatsSemicolon", "()Z"⟩
def dkwX8_eatsSemicolon_0 : List UInt8 := [42, 180, 0, 77, 7, 160, 0, 7, 4, 167, 0, 4, 3, 60, 27, 153, 0, 7, 42, 182, 0, 113, 27, 172]
abbrev dktX8_eatsSemicolon_0 : List UInt8 := dkwX8_eatsSemicolon_0 ++ []
theorem dksX8_eatsSemicolon_0 : cX8_eatsSemicolon.data.toList.drop 0 = dktX8_eatsSemicolon_0 := by decide +kernel
theorem dX8_eatsSemicolon_0 : decode cX8_eatsSemicolon 0 = .ok (.aload_n 0, 1) := dk_42 (dk_at dksX8_eatsSemicolon_0 0 rfl rfl)
theorem dX8_eatsSemicolon_1 : decode cX8_eatsSemicolon 1 = .ok (.getfield 77, 3) := dk_180 0 77 (dk_at dksX8_eatsSemicolon_0 1 rfl rfl)
theorem dX8_eatsSemicolon_4 : decode cX8_eatsSemicolon 4 = .ok (.iconst 4, 1) := dk_7 (dk_at dksX8_eatsSemicolon_0 4 rfl rfl)
theorem dX8_eatsSemicolon_5 : decode cX8_eatsSemicolon 5 = .ok (.if_icmp .ne 7, 3) := dk_160 0 7 (dk_at dksX8_eatsSemicolon_0 5 rfl rfl)
theorem dX8_eatsSemicolon_8 : decode cX8_eatsSemicolon 8 = .ok (.iconst 1, 1) := dk_4 (dk_at dksX8_eatsSemicolon_0 8 rfl rfl)
theorem dX8_eatsSemicolon_9 : decode cX8_eatsSemicolon 9 = .ok (.goto 4, 3) := dk_167 0 4 (dk_at dksX8_eatsSemicolon_0 9 rfl rfl)
theorem dX8_eatsSemicolon_12 : decode cX8_eatsSemicolon 12 = .ok (.iconst 0, 1) := dk_3 (dk_at dksX8_eatsSemicolon_0 12 rfl rfl)
theorem dX8_eatsSemicolon_13 : decode cX8_eatsSemicolon 13 = .ok (.istore_n 1, 1) := dk_60 (dk_at dksX8_eatsSemicolon_0 13 rfl rfl)
theorem dX8_eatsSemicolon_14 : decode cX8_eatsSemicolon 14 = .ok (.iload_n 1, 1) := dk_27 (dk_at dksX8_eatsSemicolon_0 14 rfl rfl)
theorem dX8_eatsSemicolon_15 : decode cX8_eatsSemicolon 15 = .ok (.ifCond .eq 7, 3) := dk_153 0 7 (dk_at dksX8_eatsSemicolon_0 15 rfl rfl)
theorem dX8_eatsSemicolon_18 : decode cX8_eatsSemicolon 18 = .ok (.aload_n 0, 1) := dk_42 (dk_at dksX8_eatsSemicolon_0 18 rfl rfl)
theorem dX8_eatsSemicolon_19 : decode cX8_eatsSemicolon 19 = .ok (.invokevirtual 113, 3) := dk_182 0 113 (dk_at dksX8_eatsSemicolon_0 19 rfl rfl)
theorem dX8_eatsSemicolon_22 : decode cX8_eatsSemicolon 22 = .ok (.iload_n 1, 1) := dk_27 (dk_at dksX8_eatsSemicolon_0 22 rfl rfl)
theorem dX8_eatsSemicolon_23 : decode cX8_eatsSemicolon 23 = .ok (.ireturn, 1) := dk_172 (dk_at dksX8_eatsSemicolon_0 23 rfl rfl)
abbrev cX8_starts : ByteArray := prog_26_method_46_code
def yX8_starts : MethodName := ⟨RX8, "starts", "([I)V"⟩
def dkwX8_starts_3 : List UInt8 := [153, 0, 8, 16, 254, 167, 0, 4, 29, 79, 132, 2, 1, 167, 255, 178, 177]
abbrev dktX8_starts_3 : List UInt8 := dkwX8_starts_3 ++ []
def dkwX8_starts_2 : List UInt8 := [29, 16, 254, 159, 0, 24, 42, 180, 1, 60, 180, 1, 14, 28, 46, 5, 159, 0, 11, 42, 29, 182, 1, 72]
abbrev dktX8_starts_2 : List UInt8 := dkwX8_starts_2 ++ dktX8_starts_3
def dkwX8_starts_1 : List UInt8 := [180, 1, 60, 180, 1, 21, 28, 46, 167, 0, 5, 16, 254, 62, 43, 3, 28, 96, 29, 79, 43, 8, 28, 96]
abbrev dktX8_starts_1 : List UInt8 := dkwX8_starts_1 ++ dktX8_starts_2
def dkwX8_starts_0 : List UInt8 := [43, 16, 10, 3, 79, 3, 61, 28, 8, 162, 0, 79, 28, 42, 180, 1, 60, 180, 0, 194, 162, 0, 15, 42]
abbrev dktX8_starts_0 : List UInt8 := dkwX8_starts_0 ++ dktX8_starts_1
theorem dksX8_starts_0 : cX8_starts.data.toList.drop 0 = dktX8_starts_0 := by decide +kernel
theorem dksX8_starts_1 : cX8_starts.data.toList.drop 24 = dktX8_starts_1 := dk_seg dksX8_starts_0 24 rfl rfl
theorem dksX8_starts_2 : cX8_starts.data.toList.drop 48 = dktX8_starts_2 := dk_seg dksX8_starts_1 24 rfl rfl
theorem dksX8_starts_3 : cX8_starts.data.toList.drop 72 = dktX8_starts_3 := dk_seg dksX8_starts_2 24 rfl rfl
theorem dX8_starts_0 : decode cX8_starts 0 = .ok (.aload_n 1, 1) := dk_43 (dk_at dksX8_starts_0 0 rfl rfl)
theorem dX8_starts_1 : decode cX8_starts 1 = .ok (.bipush 10, 2) := dk_16 10 (dk_at dksX8_starts_0 1 rfl rfl)
theorem dX8_starts_3 : decode cX8_starts 3 = .ok (.iconst 0, 1) := dk_3 (dk_at dksX8_starts_0 3 rfl rfl)
theorem dX8_starts_4 : decode cX8_starts 4 = .ok (.iastore, 1) := dk_79 (dk_at dksX8_starts_0 4 rfl rfl)
theorem dX8_starts_5 : decode cX8_starts 5 = .ok (.iconst 0, 1) := dk_3 (dk_at dksX8_starts_0 5 rfl rfl)
theorem dX8_starts_6 : decode cX8_starts 6 = .ok (.istore_n 2, 1) := dk_61 (dk_at dksX8_starts_0 6 rfl rfl)
theorem dX8_starts_7 : decode cX8_starts 7 = .ok (.iload_n 2, 1) := dk_28 (dk_at dksX8_starts_0 7 rfl rfl)
theorem dX8_starts_8 : decode cX8_starts 8 = .ok (.iconst 5, 1) := dk_8 (dk_at dksX8_starts_0 8 rfl rfl)
theorem dX8_starts_9 : decode cX8_starts 9 = .ok (.if_icmp .ge 79, 3) := dk_162 0 79 (dk_at dksX8_starts_0 9 rfl rfl)
theorem dX8_starts_12 : decode cX8_starts 12 = .ok (.iload_n 2, 1) := dk_28 (dk_at dksX8_starts_0 12 rfl rfl)
theorem dX8_starts_13 : decode cX8_starts 13 = .ok (.aload_n 0, 1) := dk_42 (dk_at dksX8_starts_0 13 rfl rfl)
theorem dX8_starts_14 : decode cX8_starts 14 = .ok (.getfield 316, 3) := dk_180 1 60 (dk_at dksX8_starts_0 14 rfl rfl)
theorem dX8_starts_17 : decode cX8_starts 17 = .ok (.getfield 194, 3) := dk_180 0 194 (dk_at dksX8_starts_0 17 rfl rfl)
theorem dX8_starts_20 : decode cX8_starts 20 = .ok (.if_icmp .ge 15, 3) := dk_162 0 15 (dk_at dksX8_starts_0 20 rfl rfl)
theorem dX8_starts_23 : decode cX8_starts 23 = .ok (.aload_n 0, 1) := dk_42 (dk_at dksX8_starts_0 23 rfl rfl)
theorem dX8_starts_24 : decode cX8_starts 24 = .ok (.getfield 316, 3) := dk_180 1 60 (dk_at dksX8_starts_1 0 rfl rfl)
theorem dX8_starts_27 : decode cX8_starts 27 = .ok (.getfield 277, 3) := dk_180 1 21 (dk_at dksX8_starts_1 3 rfl rfl)
theorem dX8_starts_30 : decode cX8_starts 30 = .ok (.iload_n 2, 1) := dk_28 (dk_at dksX8_starts_1 6 rfl rfl)
theorem dX8_starts_31 : decode cX8_starts 31 = .ok (.iaload, 1) := dk_46 (dk_at dksX8_starts_1 7 rfl rfl)
theorem dX8_starts_32 : decode cX8_starts 32 = .ok (.goto 5, 3) := dk_167 0 5 (dk_at dksX8_starts_1 8 rfl rfl)
theorem dX8_starts_35 : decode cX8_starts 35 = .ok (.bipush (-2), 2) := dk_16 254 (dk_at dksX8_starts_1 11 rfl rfl)
theorem dX8_starts_37 : decode cX8_starts 37 = .ok (.istore_n 3, 1) := dk_62 (dk_at dksX8_starts_1 13 rfl rfl)
theorem dX8_starts_38 : decode cX8_starts 38 = .ok (.aload_n 1, 1) := dk_43 (dk_at dksX8_starts_1 14 rfl rfl)
theorem dX8_starts_39 : decode cX8_starts 39 = .ok (.iconst 0, 1) := dk_3 (dk_at dksX8_starts_1 15 rfl rfl)
theorem dX8_starts_40 : decode cX8_starts 40 = .ok (.iload_n 2, 1) := dk_28 (dk_at dksX8_starts_1 16 rfl rfl)
theorem dX8_starts_41 : decode cX8_starts 41 = .ok (.iadd, 1) := dk_96 (dk_at dksX8_starts_1 17 rfl rfl)
theorem dX8_starts_42 : decode cX8_starts 42 = .ok (.iload_n 3, 1) := dk_29 (dk_at dksX8_starts_1 18 rfl rfl)
theorem dX8_starts_43 : decode cX8_starts 43 = .ok (.iastore, 1) := dk_79 (dk_at dksX8_starts_1 19 rfl rfl)
theorem dX8_starts_44 : decode cX8_starts 44 = .ok (.aload_n 1, 1) := dk_43 (dk_at dksX8_starts_1 20 rfl rfl)
theorem dX8_starts_45 : decode cX8_starts 45 = .ok (.iconst 5, 1) := dk_8 (dk_at dksX8_starts_1 21 rfl rfl)
theorem dX8_starts_46 : decode cX8_starts 46 = .ok (.iload_n 2, 1) := dk_28 (dk_at dksX8_starts_1 22 rfl rfl)
theorem dX8_starts_47 : decode cX8_starts 47 = .ok (.iadd, 1) := dk_96 (dk_at dksX8_starts_1 23 rfl rfl)
theorem dX8_starts_48 : decode cX8_starts 48 = .ok (.iload_n 3, 1) := dk_29 (dk_at dksX8_starts_2 0 rfl rfl)
theorem dX8_starts_49 : decode cX8_starts 49 = .ok (.bipush (-2), 2) := dk_16 254 (dk_at dksX8_starts_2 1 rfl rfl)
theorem dX8_starts_51 : decode cX8_starts 51 = .ok (.if_icmp .eq 24, 3) := dk_159 0 24 (dk_at dksX8_starts_2 3 rfl rfl)
theorem dX8_starts_54 : decode cX8_starts 54 = .ok (.aload_n 0, 1) := dk_42 (dk_at dksX8_starts_2 6 rfl rfl)
theorem dX8_starts_55 : decode cX8_starts 55 = .ok (.getfield 316, 3) := dk_180 1 60 (dk_at dksX8_starts_2 7 rfl rfl)
theorem dX8_starts_58 : decode cX8_starts 58 = .ok (.getfield 270, 3) := dk_180 1 14 (dk_at dksX8_starts_2 10 rfl rfl)
theorem dX8_starts_61 : decode cX8_starts 61 = .ok (.iload_n 2, 1) := dk_28 (dk_at dksX8_starts_2 13 rfl rfl)
theorem dX8_starts_62 : decode cX8_starts 62 = .ok (.iaload, 1) := dk_46 (dk_at dksX8_starts_2 14 rfl rfl)
theorem dX8_starts_63 : decode cX8_starts 63 = .ok (.iconst 2, 1) := dk_5 (dk_at dksX8_starts_2 15 rfl rfl)
theorem dX8_starts_64 : decode cX8_starts 64 = .ok (.if_icmp .eq 11, 3) := dk_159 0 11 (dk_at dksX8_starts_2 16 rfl rfl)
theorem dX8_starts_67 : decode cX8_starts 67 = .ok (.aload_n 0, 1) := dk_42 (dk_at dksX8_starts_2 19 rfl rfl)
theorem dX8_starts_68 : decode cX8_starts 68 = .ok (.iload_n 3, 1) := dk_29 (dk_at dksX8_starts_2 20 rfl rfl)
theorem dX8_starts_69 : decode cX8_starts 69 = .ok (.invokevirtual 328, 3) := dk_182 1 72 (dk_at dksX8_starts_2 21 rfl rfl)
theorem dX8_starts_72 : decode cX8_starts 72 = .ok (.ifCond .eq 8, 3) := dk_153 0 8 (dk_at dksX8_starts_3 0 rfl rfl)
theorem dX8_starts_75 : decode cX8_starts 75 = .ok (.bipush (-2), 2) := dk_16 254 (dk_at dksX8_starts_3 3 rfl rfl)
theorem dX8_starts_77 : decode cX8_starts 77 = .ok (.goto 4, 3) := dk_167 0 4 (dk_at dksX8_starts_3 5 rfl rfl)
theorem dX8_starts_80 : decode cX8_starts 80 = .ok (.iload_n 3, 1) := dk_29 (dk_at dksX8_starts_3 8 rfl rfl)
theorem dX8_starts_81 : decode cX8_starts 81 = .ok (.iastore, 1) := dk_79 (dk_at dksX8_starts_3 9 rfl rfl)
theorem dX8_starts_82 : decode cX8_starts 82 = .ok (.iinc 2 1, 3) := dk_132 2 1 (dk_at dksX8_starts_3 10 rfl rfl)
theorem dX8_starts_85 : decode cX8_starts 85 = .ok (.goto (-78), 3) := dk_167 255 178 (dk_at dksX8_starts_3 13 rfl rfl)
theorem dX8_starts_88 : decode cX8_starts 88 = .ok (.return_, 1) := dk_177 (dk_at dksX8_starts_3 16 rfl rfl)
abbrev cX8_isChild : ByteArray := prog_26_method_45_code
def yX8_isChild : MethodName := ⟨RX8, "isChild", "(I)Z"⟩
def dkwX8_isChild_0 : List UInt8 := [42, 180, 1, 60, 180, 0, 251, 27, 46, 4, 160, 0, 7, 4, 167, 0, 4, 3, 172]
abbrev dktX8_isChild_0 : List UInt8 := dkwX8_isChild_0 ++ []
theorem dksX8_isChild_0 : cX8_isChild.data.toList.drop 0 = dktX8_isChild_0 := by decide +kernel
theorem dX8_isChild_0 : decode cX8_isChild 0 = .ok (.aload_n 0, 1) := dk_42 (dk_at dksX8_isChild_0 0 rfl rfl)
theorem dX8_isChild_1 : decode cX8_isChild 1 = .ok (.getfield 316, 3) := dk_180 1 60 (dk_at dksX8_isChild_0 1 rfl rfl)
theorem dX8_isChild_4 : decode cX8_isChild 4 = .ok (.getfield 251, 3) := dk_180 0 251 (dk_at dksX8_isChild_0 4 rfl rfl)
theorem dX8_isChild_7 : decode cX8_isChild 7 = .ok (.iload_n 1, 1) := dk_27 (dk_at dksX8_isChild_0 7 rfl rfl)
theorem dX8_isChild_8 : decode cX8_isChild 8 = .ok (.iaload, 1) := dk_46 (dk_at dksX8_isChild_0 8 rfl rfl)
theorem dX8_isChild_9 : decode cX8_isChild 9 = .ok (.iconst 1, 1) := dk_4 (dk_at dksX8_isChild_0 9 rfl rfl)
theorem dX8_isChild_10 : decode cX8_isChild 10 = .ok (.if_icmp .ne 7, 3) := dk_160 0 7 (dk_at dksX8_isChild_0 10 rfl rfl)
theorem dX8_isChild_13 : decode cX8_isChild 13 = .ok (.iconst 1, 1) := dk_4 (dk_at dksX8_isChild_0 13 rfl rfl)
theorem dX8_isChild_14 : decode cX8_isChild 14 = .ok (.goto 4, 3) := dk_167 0 4 (dk_at dksX8_isChild_0 14 rfl rfl)
theorem dX8_isChild_17 : decode cX8_isChild 17 = .ok (.iconst 0, 1) := dk_3 (dk_at dksX8_isChild_0 17 rfl rfl)
theorem dX8_isChild_18 : decode cX8_isChild 18 = .ok (.ireturn, 1) := dk_172 (dk_at dksX8_isChild_0 18 rfl rfl)
abbrev cX8_good : ByteArray := prog_26_method_6_code
def yX8_good : MethodName := ⟨RX8, "good", "(I)I"⟩
def dkwX8_good_0 : List UInt8 := [42, 3, 181, 0, 48, 42, 2, 181, 0, 9, 27, 172]
abbrev dktX8_good_0 : List UInt8 := dkwX8_good_0 ++ []
theorem dksX8_good_0 : cX8_good.data.toList.drop 0 = dktX8_good_0 := by decide +kernel
theorem dX8_good_0 : decode cX8_good 0 = .ok (.aload_n 0, 1) := dk_42 (dk_at dksX8_good_0 0 rfl rfl)
theorem dX8_good_1 : decode cX8_good 1 = .ok (.iconst 0, 1) := dk_3 (dk_at dksX8_good_0 1 rfl rfl)
theorem dX8_good_2 : decode cX8_good 2 = .ok (.putfield 48, 3) := dk_181 0 48 (dk_at dksX8_good_0 2 rfl rfl)
theorem dX8_good_5 : decode cX8_good 5 = .ok (.aload_n 0, 1) := dk_42 (dk_at dksX8_good_0 5 rfl rfl)
theorem dX8_good_6 : decode cX8_good 6 = .ok (.iconst (-1), 1) := dk_2 (dk_at dksX8_good_0 6 rfl rfl)
theorem dX8_good_7 : decode cX8_good 7 = .ok (.putfield 9, 3) := dk_181 0 9 (dk_at dksX8_good_0 7 rfl rfl)
theorem dX8_good_10 : decode cX8_good 10 = .ok (.iload_n 1, 1) := dk_27 (dk_at dksX8_good_0 10 rfl rfl)
theorem dX8_good_11 : decode cX8_good 11 = .ok (.ireturn, 1) := dk_172 (dk_at dksX8_good_0 11 rfl rfl)
abbrev cX8_fault : ByteArray := prog_26_method_43_code
def yX8_fault : MethodName := ⟨RX8, "fault", "()I"⟩
def dkwX8_fault_0 : List UInt8 := [42, 3, 181, 0, 45, 42, 180, 0, 103, 172]
abbrev dktX8_fault_0 : List UInt8 := dkwX8_fault_0 ++ []
theorem dksX8_fault_0 : cX8_fault.data.toList.drop 0 = dktX8_fault_0 := by decide +kernel
theorem dX8_fault_0 : decode cX8_fault 0 = .ok (.aload_n 0, 1) := dk_42 (dk_at dksX8_fault_0 0 rfl rfl)
theorem dX8_fault_1 : decode cX8_fault 1 = .ok (.iconst 0, 1) := dk_3 (dk_at dksX8_fault_0 1 rfl rfl)
theorem dX8_fault_2 : decode cX8_fault 2 = .ok (.putfield 45, 3) := dk_181 0 45 (dk_at dksX8_fault_0 2 rfl rfl)
theorem dX8_fault_5 : decode cX8_fault 5 = .ok (.aload_n 0, 1) := dk_42 (dk_at dksX8_fault_0 5 rfl rfl)
theorem dX8_fault_6 : decode cX8_fault 6 = .ok (.getfield 103, 3) := dk_180 0 103 (dk_at dksX8_fault_0 6 rfl rfl)
theorem dX8_fault_9 : decode cX8_fault 9 = .ok (.ireturn, 1) := dk_172 (dk_at dksX8_fault_0 9 rfl rfl)
abbrev cX8_where : ByteArray := prog_26_method_44_code
def yX8_where : MethodName := ⟨RX8, "where", "()I"⟩
def dkwX8_where_0 : List UInt8 := [42, 3, 181, 0, 45, 42, 180, 0, 9, 172]
abbrev dktX8_where_0 : List UInt8 := dkwX8_where_0 ++ []
theorem dksX8_where_0 : cX8_where.data.toList.drop 0 = dktX8_where_0 := by decide +kernel
theorem dX8_where_0 : decode cX8_where 0 = .ok (.aload_n 0, 1) := dk_42 (dk_at dksX8_where_0 0 rfl rfl)
theorem dX8_where_1 : decode cX8_where 1 = .ok (.iconst 0, 1) := dk_3 (dk_at dksX8_where_0 1 rfl rfl)
theorem dX8_where_2 : decode cX8_where 2 = .ok (.putfield 45, 3) := dk_181 0 45 (dk_at dksX8_where_0 2 rfl rfl)
theorem dX8_where_5 : decode cX8_where 5 = .ok (.aload_n 0, 1) := dk_42 (dk_at dksX8_where_0 5 rfl rfl)
theorem dX8_where_6 : decode cX8_where 6 = .ok (.getfield 9, 3) := dk_180 0 9 (dk_at dksX8_where_0 6 rfl rfl)
theorem dX8_where_9 : decode cX8_where 9 = .ok (.ireturn, 1) := dk_172 (dk_at dksX8_where_0 9 rfl rfl)
abbrev cX8_umbrella : ByteArray := prog_26_method_59_code
def yX8_umbrella : MethodName := ⟨RX8, "umbrella", "(II)I"⟩
def dkwX8_umbrella_5 : List UInt8 := [27, 96, 46, 182, 0, 55, 172, 42, 42, 180, 0, 17, 8, 27, 96, 46, 182, 0, 55, 172]
abbrev dktX8_umbrella_5 : List UInt8 := dkwX8_umbrella_5 ++ []
def dkwX8_umbrella_4 : List UInt8 := [182, 0, 55, 172, 42, 42, 180, 1, 60, 180, 1, 19, 27, 46, 182, 0, 55, 172, 42, 42, 180, 0, 17, 3]
abbrev dktX8_umbrella_4 : List UInt8 := dkwX8_umbrella_4 ++ dktX8_umbrella_5
def dkwX8_umbrella_3 : List UInt8 := [42, 42, 180, 1, 60, 180, 1, 14, 27, 46, 182, 0, 55, 172, 42, 42, 180, 1, 60, 180, 1, 17, 27, 46]
abbrev dktX8_umbrella_3 : List UInt8 := dkwX8_umbrella_3 ++ dktX8_umbrella_4
def dkwX8_umbrella_2 : List UInt8 := [170, 0, 0, 0, 0, 0, 86, 0, 0, 0, 0, 0, 0, 0, 3, 0, 0, 0, 31, 0, 0, 0, 45, 0, 0, 0, 59, 0, 0, 0, 73]
abbrev dktX8_umbrella_2 : List UInt8 := dkwX8_umbrella_2 ++ dktX8_umbrella_3
def dkwX8_umbrella_1 : List UInt8 := [182, 0, 51, 172, 28]
abbrev dktX8_umbrella_1 : List UInt8 := dkwX8_umbrella_1 ++ dktX8_umbrella_2
def dkwX8_umbrella_0 : List UInt8 := [42, 3, 181, 0, 45, 42, 27, 182, 1, 103, 153, 0, 12, 28, 3, 7, 184, 0, 124, 154, 0, 9, 42, 4]
abbrev dktX8_umbrella_0 : List UInt8 := dkwX8_umbrella_0 ++ dktX8_umbrella_1
theorem dksX8_umbrella_0 : cX8_umbrella.data.toList.drop 0 = dktX8_umbrella_0 := by decide +kernel
theorem dksX8_umbrella_1 : cX8_umbrella.data.toList.drop 24 = dktX8_umbrella_1 := dk_seg dksX8_umbrella_0 24 rfl rfl
theorem dksX8_umbrella_2 : cX8_umbrella.data.toList.drop 29 = dktX8_umbrella_2 := dk_seg dksX8_umbrella_1 5 rfl rfl
theorem dksX8_umbrella_3 : cX8_umbrella.data.toList.drop 60 = dktX8_umbrella_3 := dk_seg dksX8_umbrella_2 31 rfl rfl
theorem dksX8_umbrella_4 : cX8_umbrella.data.toList.drop 84 = dktX8_umbrella_4 := dk_seg dksX8_umbrella_3 24 rfl rfl
theorem dksX8_umbrella_5 : cX8_umbrella.data.toList.drop 108 = dktX8_umbrella_5 := dk_seg dksX8_umbrella_4 24 rfl rfl
theorem dX8_umbrella_0 : decode cX8_umbrella 0 = .ok (.aload_n 0, 1) := dk_42 (dk_at dksX8_umbrella_0 0 rfl rfl)
theorem dX8_umbrella_1 : decode cX8_umbrella 1 = .ok (.iconst 0, 1) := dk_3 (dk_at dksX8_umbrella_0 1 rfl rfl)
theorem dX8_umbrella_2 : decode cX8_umbrella 2 = .ok (.putfield 45, 3) := dk_181 0 45 (dk_at dksX8_umbrella_0 2 rfl rfl)
theorem dX8_umbrella_5 : decode cX8_umbrella 5 = .ok (.aload_n 0, 1) := dk_42 (dk_at dksX8_umbrella_0 5 rfl rfl)
theorem dX8_umbrella_6 : decode cX8_umbrella 6 = .ok (.iload_n 1, 1) := dk_27 (dk_at dksX8_umbrella_0 6 rfl rfl)
theorem dX8_umbrella_7 : decode cX8_umbrella 7 = .ok (.invokevirtual 359, 3) := dk_182 1 103 (dk_at dksX8_umbrella_0 7 rfl rfl)
theorem dX8_umbrella_10 : decode cX8_umbrella 10 = .ok (.ifCond .eq 12, 3) := dk_153 0 12 (dk_at dksX8_umbrella_0 10 rfl rfl)
theorem dX8_umbrella_13 : decode cX8_umbrella 13 = .ok (.iload_n 2, 1) := dk_28 (dk_at dksX8_umbrella_0 13 rfl rfl)
theorem dX8_umbrella_14 : decode cX8_umbrella 14 = .ok (.iconst 0, 1) := dk_3 (dk_at dksX8_umbrella_0 14 rfl rfl)
theorem dX8_umbrella_15 : decode cX8_umbrella 15 = .ok (.iconst 4, 1) := dk_7 (dk_at dksX8_umbrella_0 15 rfl rfl)
theorem dX8_umbrella_16 : decode cX8_umbrella 16 = .ok (.invokestatic 124, 3) := dk_184 0 124 (dk_at dksX8_umbrella_0 16 rfl rfl)
theorem dX8_umbrella_19 : decode cX8_umbrella 19 = .ok (.ifCond .ne 9, 3) := dk_154 0 9 (dk_at dksX8_umbrella_0 19 rfl rfl)
theorem dX8_umbrella_22 : decode cX8_umbrella 22 = .ok (.aload_n 0, 1) := dk_42 (dk_at dksX8_umbrella_0 22 rfl rfl)
theorem dX8_umbrella_23 : decode cX8_umbrella 23 = .ok (.iconst 1, 1) := dk_4 (dk_at dksX8_umbrella_0 23 rfl rfl)
theorem dX8_umbrella_24 : decode cX8_umbrella 24 = .ok (.invokevirtual 51, 3) := dk_182 0 51 (dk_at dksX8_umbrella_1 0 rfl rfl)
theorem dX8_umbrella_27 : decode cX8_umbrella 27 = .ok (.ireturn, 1) := dk_172 (dk_at dksX8_umbrella_1 3 rfl rfl)
theorem dX8_umbrella_28 : decode cX8_umbrella 28 = .ok (.iload_n 2, 1) := dk_28 (dk_at dksX8_umbrella_1 4 rfl rfl)
theorem dX8_umbrella_29 : decode cX8_umbrella 29 = .ok (.tableswitch 86 0 3 #[31, 45, 59, 73], 31) := by decide +kernel
theorem dX8_umbrella_60 : decode cX8_umbrella 60 = .ok (.aload_n 0, 1) := dk_42 (dk_at dksX8_umbrella_3 0 rfl rfl)
theorem dX8_umbrella_61 : decode cX8_umbrella 61 = .ok (.aload_n 0, 1) := dk_42 (dk_at dksX8_umbrella_3 1 rfl rfl)
theorem dX8_umbrella_62 : decode cX8_umbrella 62 = .ok (.getfield 316, 3) := dk_180 1 60 (dk_at dksX8_umbrella_3 2 rfl rfl)
theorem dX8_umbrella_65 : decode cX8_umbrella 65 = .ok (.getfield 270, 3) := dk_180 1 14 (dk_at dksX8_umbrella_3 5 rfl rfl)
theorem dX8_umbrella_68 : decode cX8_umbrella 68 = .ok (.iload_n 1, 1) := dk_27 (dk_at dksX8_umbrella_3 8 rfl rfl)
theorem dX8_umbrella_69 : decode cX8_umbrella 69 = .ok (.iaload, 1) := dk_46 (dk_at dksX8_umbrella_3 9 rfl rfl)
theorem dX8_umbrella_70 : decode cX8_umbrella 70 = .ok (.invokevirtual 55, 3) := dk_182 0 55 (dk_at dksX8_umbrella_3 10 rfl rfl)
theorem dX8_umbrella_73 : decode cX8_umbrella 73 = .ok (.ireturn, 1) := dk_172 (dk_at dksX8_umbrella_3 13 rfl rfl)
theorem dX8_umbrella_74 : decode cX8_umbrella 74 = .ok (.aload_n 0, 1) := dk_42 (dk_at dksX8_umbrella_3 14 rfl rfl)
theorem dX8_umbrella_75 : decode cX8_umbrella 75 = .ok (.aload_n 0, 1) := dk_42 (dk_at dksX8_umbrella_3 15 rfl rfl)
theorem dX8_umbrella_76 : decode cX8_umbrella 76 = .ok (.getfield 316, 3) := dk_180 1 60 (dk_at dksX8_umbrella_3 16 rfl rfl)
theorem dX8_umbrella_79 : decode cX8_umbrella 79 = .ok (.getfield 273, 3) := dk_180 1 17 (dk_at dksX8_umbrella_3 19 rfl rfl)
theorem dX8_umbrella_82 : decode cX8_umbrella 82 = .ok (.iload_n 1, 1) := dk_27 (dk_at dksX8_umbrella_3 22 rfl rfl)
theorem dX8_umbrella_83 : decode cX8_umbrella 83 = .ok (.iaload, 1) := dk_46 (dk_at dksX8_umbrella_3 23 rfl rfl)
theorem dX8_umbrella_84 : decode cX8_umbrella 84 = .ok (.invokevirtual 55, 3) := dk_182 0 55 (dk_at dksX8_umbrella_4 0 rfl rfl)
theorem dX8_umbrella_87 : decode cX8_umbrella 87 = .ok (.ireturn, 1) := dk_172 (dk_at dksX8_umbrella_4 3 rfl rfl)
theorem dX8_umbrella_88 : decode cX8_umbrella 88 = .ok (.aload_n 0, 1) := dk_42 (dk_at dksX8_umbrella_4 4 rfl rfl)
theorem dX8_umbrella_89 : decode cX8_umbrella 89 = .ok (.aload_n 0, 1) := dk_42 (dk_at dksX8_umbrella_4 5 rfl rfl)
theorem dX8_umbrella_90 : decode cX8_umbrella 90 = .ok (.getfield 316, 3) := dk_180 1 60 (dk_at dksX8_umbrella_4 6 rfl rfl)
theorem dX8_umbrella_93 : decode cX8_umbrella 93 = .ok (.getfield 275, 3) := dk_180 1 19 (dk_at dksX8_umbrella_4 9 rfl rfl)
theorem dX8_umbrella_96 : decode cX8_umbrella 96 = .ok (.iload_n 1, 1) := dk_27 (dk_at dksX8_umbrella_4 12 rfl rfl)
theorem dX8_umbrella_97 : decode cX8_umbrella 97 = .ok (.iaload, 1) := dk_46 (dk_at dksX8_umbrella_4 13 rfl rfl)
theorem dX8_umbrella_98 : decode cX8_umbrella 98 = .ok (.invokevirtual 55, 3) := dk_182 0 55 (dk_at dksX8_umbrella_4 14 rfl rfl)
theorem dX8_umbrella_101 : decode cX8_umbrella 101 = .ok (.ireturn, 1) := dk_172 (dk_at dksX8_umbrella_4 17 rfl rfl)
theorem dX8_umbrella_102 : decode cX8_umbrella 102 = .ok (.aload_n 0, 1) := dk_42 (dk_at dksX8_umbrella_4 18 rfl rfl)
theorem dX8_umbrella_103 : decode cX8_umbrella 103 = .ok (.aload_n 0, 1) := dk_42 (dk_at dksX8_umbrella_4 19 rfl rfl)
theorem dX8_umbrella_104 : decode cX8_umbrella 104 = .ok (.getfield 17, 3) := dk_180 0 17 (dk_at dksX8_umbrella_4 20 rfl rfl)
theorem dX8_umbrella_107 : decode cX8_umbrella 107 = .ok (.iconst 0, 1) := dk_3 (dk_at dksX8_umbrella_4 23 rfl rfl)
theorem dX8_umbrella_108 : decode cX8_umbrella 108 = .ok (.iload_n 1, 1) := dk_27 (dk_at dksX8_umbrella_5 0 rfl rfl)
theorem dX8_umbrella_109 : decode cX8_umbrella 109 = .ok (.iadd, 1) := dk_96 (dk_at dksX8_umbrella_5 1 rfl rfl)
theorem dX8_umbrella_110 : decode cX8_umbrella 110 = .ok (.iaload, 1) := dk_46 (dk_at dksX8_umbrella_5 2 rfl rfl)
theorem dX8_umbrella_111 : decode cX8_umbrella 111 = .ok (.invokevirtual 55, 3) := dk_182 0 55 (dk_at dksX8_umbrella_5 3 rfl rfl)
theorem dX8_umbrella_114 : decode cX8_umbrella 114 = .ok (.ireturn, 1) := dk_172 (dk_at dksX8_umbrella_5 6 rfl rfl)
theorem dX8_umbrella_115 : decode cX8_umbrella 115 = .ok (.aload_n 0, 1) := dk_42 (dk_at dksX8_umbrella_5 7 rfl rfl)
theorem dX8_umbrella_116 : decode cX8_umbrella 116 = .ok (.aload_n 0, 1) := dk_42 (dk_at dksX8_umbrella_5 8 rfl rfl)
theorem dX8_umbrella_117 : decode cX8_umbrella 117 = .ok (.getfield 17, 3) := dk_180 0 17 (dk_at dksX8_umbrella_5 9 rfl rfl)
theorem dX8_umbrella_120 : decode cX8_umbrella 120 = .ok (.iconst 5, 1) := dk_8 (dk_at dksX8_umbrella_5 12 rfl rfl)
theorem dX8_umbrella_121 : decode cX8_umbrella 121 = .ok (.iload_n 1, 1) := dk_27 (dk_at dksX8_umbrella_5 13 rfl rfl)
theorem dX8_umbrella_122 : decode cX8_umbrella 122 = .ok (.iadd, 1) := dk_96 (dk_at dksX8_umbrella_5 14 rfl rfl)
theorem dX8_umbrella_123 : decode cX8_umbrella 123 = .ok (.iaload, 1) := dk_46 (dk_at dksX8_umbrella_5 15 rfl rfl)
theorem dX8_umbrella_124 : decode cX8_umbrella 124 = .ok (.invokevirtual 55, 3) := dk_182 0 55 (dk_at dksX8_umbrella_5 16 rfl rfl)
theorem dX8_umbrella_127 : decode cX8_umbrella 127 = .ok (.ireturn, 1) := dk_172 (dk_at dksX8_umbrella_5 19 rfl rfl)
abbrev cX8_isUmbrella : ByteArray := prog_26_method_49_code
def yX8_isUmbrella : MethodName := ⟨RX8, "isUmbrella", "(I)Z"⟩
def dkwX8_isUmbrella_1 : List UInt8 := [167, 0, 4, 3, 172]
abbrev dktX8_isUmbrella_1 : List UInt8 := dkwX8_isUmbrella_1 ++ []
def dkwX8_isUmbrella_0 : List UInt8 := [42, 180, 1, 60, 198, 0, 22, 27, 155, 0, 18, 27, 42, 180, 1, 60, 180, 0, 194, 162, 0, 7, 4]
abbrev dktX8_isUmbrella_0 : List UInt8 := dkwX8_isUmbrella_0 ++ dktX8_isUmbrella_1
theorem dksX8_isUmbrella_0 : cX8_isUmbrella.data.toList.drop 0 = dktX8_isUmbrella_0 := by decide +kernel
theorem dksX8_isUmbrella_1 : cX8_isUmbrella.data.toList.drop 23 = dktX8_isUmbrella_1 := dk_seg dksX8_isUmbrella_0 23 rfl rfl
theorem dX8_isUmbrella_0 : decode cX8_isUmbrella 0 = .ok (.aload_n 0, 1) := dk_42 (dk_at dksX8_isUmbrella_0 0 rfl rfl)
theorem dX8_isUmbrella_1 : decode cX8_isUmbrella 1 = .ok (.getfield 316, 3) := dk_180 1 60 (dk_at dksX8_isUmbrella_0 1 rfl rfl)
theorem dX8_isUmbrella_4 : decode cX8_isUmbrella 4 = .ok (.ifnull 22, 3) := dk_198 0 22 (dk_at dksX8_isUmbrella_0 4 rfl rfl)
theorem dX8_isUmbrella_7 : decode cX8_isUmbrella 7 = .ok (.iload_n 1, 1) := dk_27 (dk_at dksX8_isUmbrella_0 7 rfl rfl)
theorem dX8_isUmbrella_8 : decode cX8_isUmbrella 8 = .ok (.ifCond .lt 18, 3) := dk_155 0 18 (dk_at dksX8_isUmbrella_0 8 rfl rfl)
theorem dX8_isUmbrella_11 : decode cX8_isUmbrella 11 = .ok (.iload_n 1, 1) := dk_27 (dk_at dksX8_isUmbrella_0 11 rfl rfl)
theorem dX8_isUmbrella_12 : decode cX8_isUmbrella 12 = .ok (.aload_n 0, 1) := dk_42 (dk_at dksX8_isUmbrella_0 12 rfl rfl)
theorem dX8_isUmbrella_13 : decode cX8_isUmbrella 13 = .ok (.getfield 316, 3) := dk_180 1 60 (dk_at dksX8_isUmbrella_0 13 rfl rfl)
theorem dX8_isUmbrella_16 : decode cX8_isUmbrella 16 = .ok (.getfield 194, 3) := dk_180 0 194 (dk_at dksX8_isUmbrella_0 16 rfl rfl)
theorem dX8_isUmbrella_19 : decode cX8_isUmbrella 19 = .ok (.if_icmp .ge 7, 3) := dk_162 0 7 (dk_at dksX8_isUmbrella_0 19 rfl rfl)
theorem dX8_isUmbrella_22 : decode cX8_isUmbrella 22 = .ok (.iconst 1, 1) := dk_4 (dk_at dksX8_isUmbrella_0 22 rfl rfl)
theorem dX8_isUmbrella_23 : decode cX8_isUmbrella 23 = .ok (.goto 4, 3) := dk_167 0 4 (dk_at dksX8_isUmbrella_1 0 rfl rfl)
theorem dX8_isUmbrella_26 : decode cX8_isUmbrella 26 = .ok (.iconst 0, 1) := dk_3 (dk_at dksX8_isUmbrella_1 3 rfl rfl)
theorem dX8_isUmbrella_27 : decode cX8_isUmbrella 27 = .ok (.ireturn, 1) := dk_172 (dk_at dksX8_isUmbrella_1 4 rfl rfl)
abbrev cX8_person : ByteArray := prog_26_method_60_code
def yX8_person : MethodName := ⟨RX8, "person", "(II)I"⟩
def dkwX8_person_3 : List UInt8 := [182, 0, 55, 172]
abbrev dktX8_person_3 : List UInt8 := dkwX8_person_3 ++ []
def dkwX8_person_2 : List UInt8 := [160, 0, 15, 42, 42, 180, 0, 17, 27, 182, 1, 82, 167, 0, 12, 42, 42, 180, 0, 17, 27, 182, 1, 109]
abbrev dktX8_person_2 : List UInt8 := dkwX8_person_2 ++ dktX8_person_3
def dkwX8_person_1 : List UInt8 := [182, 0, 51, 172, 42, 28, 154, 0, 15, 42, 180, 1, 60, 180, 0, 251, 27, 46, 167, 0, 29, 28, 4]
abbrev dktX8_person_1 : List UInt8 := dkwX8_person_1 ++ dktX8_person_2
def dkwX8_person_0 : List UInt8 := [42, 3, 181, 0, 45, 42, 27, 182, 1, 106, 153, 0, 12, 28, 3, 5, 184, 0, 124, 154, 0, 9, 42, 4]
abbrev dktX8_person_0 : List UInt8 := dkwX8_person_0 ++ dktX8_person_1
theorem dksX8_person_0 : cX8_person.data.toList.drop 0 = dktX8_person_0 := by decide +kernel
theorem dksX8_person_1 : cX8_person.data.toList.drop 24 = dktX8_person_1 := dk_seg dksX8_person_0 24 rfl rfl
theorem dksX8_person_2 : cX8_person.data.toList.drop 47 = dktX8_person_2 := dk_seg dksX8_person_1 23 rfl rfl
theorem dksX8_person_3 : cX8_person.data.toList.drop 71 = dktX8_person_3 := dk_seg dksX8_person_2 24 rfl rfl
theorem dX8_person_0 : decode cX8_person 0 = .ok (.aload_n 0, 1) := dk_42 (dk_at dksX8_person_0 0 rfl rfl)
theorem dX8_person_1 : decode cX8_person 1 = .ok (.iconst 0, 1) := dk_3 (dk_at dksX8_person_0 1 rfl rfl)
theorem dX8_person_2 : decode cX8_person 2 = .ok (.putfield 45, 3) := dk_181 0 45 (dk_at dksX8_person_0 2 rfl rfl)
theorem dX8_person_5 : decode cX8_person 5 = .ok (.aload_n 0, 1) := dk_42 (dk_at dksX8_person_0 5 rfl rfl)
theorem dX8_person_6 : decode cX8_person 6 = .ok (.iload_n 1, 1) := dk_27 (dk_at dksX8_person_0 6 rfl rfl)
theorem dX8_person_7 : decode cX8_person 7 = .ok (.invokevirtual 362, 3) := dk_182 1 106 (dk_at dksX8_person_0 7 rfl rfl)
theorem dX8_person_10 : decode cX8_person 10 = .ok (.ifCond .eq 12, 3) := dk_153 0 12 (dk_at dksX8_person_0 10 rfl rfl)
theorem dX8_person_13 : decode cX8_person 13 = .ok (.iload_n 2, 1) := dk_28 (dk_at dksX8_person_0 13 rfl rfl)
theorem dX8_person_14 : decode cX8_person 14 = .ok (.iconst 0, 1) := dk_3 (dk_at dksX8_person_0 14 rfl rfl)
theorem dX8_person_15 : decode cX8_person 15 = .ok (.iconst 2, 1) := dk_5 (dk_at dksX8_person_0 15 rfl rfl)
theorem dX8_person_16 : decode cX8_person 16 = .ok (.invokestatic 124, 3) := dk_184 0 124 (dk_at dksX8_person_0 16 rfl rfl)
theorem dX8_person_19 : decode cX8_person 19 = .ok (.ifCond .ne 9, 3) := dk_154 0 9 (dk_at dksX8_person_0 19 rfl rfl)
theorem dX8_person_22 : decode cX8_person 22 = .ok (.aload_n 0, 1) := dk_42 (dk_at dksX8_person_0 22 rfl rfl)
theorem dX8_person_23 : decode cX8_person 23 = .ok (.iconst 1, 1) := dk_4 (dk_at dksX8_person_0 23 rfl rfl)
theorem dX8_person_24 : decode cX8_person 24 = .ok (.invokevirtual 51, 3) := dk_182 0 51 (dk_at dksX8_person_1 0 rfl rfl)
theorem dX8_person_27 : decode cX8_person 27 = .ok (.ireturn, 1) := dk_172 (dk_at dksX8_person_1 3 rfl rfl)
theorem dX8_person_28 : decode cX8_person 28 = .ok (.aload_n 0, 1) := dk_42 (dk_at dksX8_person_1 4 rfl rfl)
theorem dX8_person_29 : decode cX8_person 29 = .ok (.iload_n 2, 1) := dk_28 (dk_at dksX8_person_1 5 rfl rfl)
theorem dX8_person_30 : decode cX8_person 30 = .ok (.ifCond .ne 15, 3) := dk_154 0 15 (dk_at dksX8_person_1 6 rfl rfl)
theorem dX8_person_33 : decode cX8_person 33 = .ok (.aload_n 0, 1) := dk_42 (dk_at dksX8_person_1 9 rfl rfl)
theorem dX8_person_34 : decode cX8_person 34 = .ok (.getfield 316, 3) := dk_180 1 60 (dk_at dksX8_person_1 10 rfl rfl)
theorem dX8_person_37 : decode cX8_person 37 = .ok (.getfield 251, 3) := dk_180 0 251 (dk_at dksX8_person_1 13 rfl rfl)
theorem dX8_person_40 : decode cX8_person 40 = .ok (.iload_n 1, 1) := dk_27 (dk_at dksX8_person_1 16 rfl rfl)
theorem dX8_person_41 : decode cX8_person 41 = .ok (.iaload, 1) := dk_46 (dk_at dksX8_person_1 17 rfl rfl)
theorem dX8_person_42 : decode cX8_person 42 = .ok (.goto 29, 3) := dk_167 0 29 (dk_at dksX8_person_1 18 rfl rfl)
theorem dX8_person_45 : decode cX8_person 45 = .ok (.iload_n 2, 1) := dk_28 (dk_at dksX8_person_1 21 rfl rfl)
theorem dX8_person_46 : decode cX8_person 46 = .ok (.iconst 1, 1) := dk_4 (dk_at dksX8_person_1 22 rfl rfl)
theorem dX8_person_47 : decode cX8_person 47 = .ok (.if_icmp .ne 15, 3) := dk_160 0 15 (dk_at dksX8_person_2 0 rfl rfl)
theorem dX8_person_50 : decode cX8_person 50 = .ok (.aload_n 0, 1) := dk_42 (dk_at dksX8_person_2 3 rfl rfl)
theorem dX8_person_51 : decode cX8_person 51 = .ok (.aload_n 0, 1) := dk_42 (dk_at dksX8_person_2 4 rfl rfl)
theorem dX8_person_52 : decode cX8_person 52 = .ok (.getfield 17, 3) := dk_180 0 17 (dk_at dksX8_person_2 5 rfl rfl)
theorem dX8_person_55 : decode cX8_person 55 = .ok (.iload_n 1, 1) := dk_27 (dk_at dksX8_person_2 8 rfl rfl)
theorem dX8_person_56 : decode cX8_person 56 = .ok (.invokevirtual 338, 3) := dk_182 1 82 (dk_at dksX8_person_2 9 rfl rfl)
theorem dX8_person_59 : decode cX8_person 59 = .ok (.goto 12, 3) := dk_167 0 12 (dk_at dksX8_person_2 12 rfl rfl)
theorem dX8_person_62 : decode cX8_person 62 = .ok (.aload_n 0, 1) := dk_42 (dk_at dksX8_person_2 15 rfl rfl)
theorem dX8_person_63 : decode cX8_person 63 = .ok (.aload_n 0, 1) := dk_42 (dk_at dksX8_person_2 16 rfl rfl)
theorem dX8_person_64 : decode cX8_person 64 = .ok (.getfield 17, 3) := dk_180 0 17 (dk_at dksX8_person_2 17 rfl rfl)
theorem dX8_person_67 : decode cX8_person 67 = .ok (.iload_n 1, 1) := dk_27 (dk_at dksX8_person_2 20 rfl rfl)
theorem dX8_person_68 : decode cX8_person 68 = .ok (.invokevirtual 365, 3) := dk_182 1 109 (dk_at dksX8_person_2 21 rfl rfl)
theorem dX8_person_71 : decode cX8_person 71 = .ok (.invokevirtual 55, 3) := dk_182 0 55 (dk_at dksX8_person_3 0 rfl rfl)
theorem dX8_person_74 : decode cX8_person 74 = .ok (.ireturn, 1) := dk_172 (dk_at dksX8_person_3 3 rfl rfl)
abbrev cX8_isPerson : ByteArray := prog_26_method_48_code
def yX8_isPerson : MethodName := ⟨RX8, "isPerson", "(I)Z"⟩
def dkwX8_isPerson_1 : List UInt8 := [167, 0, 4, 3, 172]
abbrev dktX8_isPerson_1 : List UInt8 := dkwX8_isPerson_1 ++ []
def dkwX8_isPerson_0 : List UInt8 := [42, 180, 1, 60, 198, 0, 22, 27, 155, 0, 18, 27, 42, 180, 1, 60, 180, 0, 191, 162, 0, 7, 4]
abbrev dktX8_isPerson_0 : List UInt8 := dkwX8_isPerson_0 ++ dktX8_isPerson_1
theorem dksX8_isPerson_0 : cX8_isPerson.data.toList.drop 0 = dktX8_isPerson_0 := by decide +kernel
theorem dksX8_isPerson_1 : cX8_isPerson.data.toList.drop 23 = dktX8_isPerson_1 := dk_seg dksX8_isPerson_0 23 rfl rfl
theorem dX8_isPerson_0 : decode cX8_isPerson 0 = .ok (.aload_n 0, 1) := dk_42 (dk_at dksX8_isPerson_0 0 rfl rfl)
theorem dX8_isPerson_1 : decode cX8_isPerson 1 = .ok (.getfield 316, 3) := dk_180 1 60 (dk_at dksX8_isPerson_0 1 rfl rfl)
theorem dX8_isPerson_4 : decode cX8_isPerson 4 = .ok (.ifnull 22, 3) := dk_198 0 22 (dk_at dksX8_isPerson_0 4 rfl rfl)
theorem dX8_isPerson_7 : decode cX8_isPerson 7 = .ok (.iload_n 1, 1) := dk_27 (dk_at dksX8_isPerson_0 7 rfl rfl)
theorem dX8_isPerson_8 : decode cX8_isPerson 8 = .ok (.ifCond .lt 18, 3) := dk_155 0 18 (dk_at dksX8_isPerson_0 8 rfl rfl)
theorem dX8_isPerson_11 : decode cX8_isPerson 11 = .ok (.iload_n 1, 1) := dk_27 (dk_at dksX8_isPerson_0 11 rfl rfl)
theorem dX8_isPerson_12 : decode cX8_isPerson 12 = .ok (.aload_n 0, 1) := dk_42 (dk_at dksX8_isPerson_0 12 rfl rfl)
theorem dX8_isPerson_13 : decode cX8_isPerson 13 = .ok (.getfield 316, 3) := dk_180 1 60 (dk_at dksX8_isPerson_0 13 rfl rfl)
theorem dX8_isPerson_16 : decode cX8_isPerson 16 = .ok (.getfield 191, 3) := dk_180 0 191 (dk_at dksX8_isPerson_0 16 rfl rfl)
theorem dX8_isPerson_19 : decode cX8_isPerson 19 = .ok (.if_icmp .ge 7, 3) := dk_162 0 7 (dk_at dksX8_isPerson_0 19 rfl rfl)
theorem dX8_isPerson_22 : decode cX8_isPerson 22 = .ok (.iconst 1, 1) := dk_4 (dk_at dksX8_isPerson_0 22 rfl rfl)
theorem dX8_isPerson_23 : decode cX8_isPerson 23 = .ok (.goto 4, 3) := dk_167 0 4 (dk_at dksX8_isPerson_1 0 rfl rfl)
theorem dX8_isPerson_26 : decode cX8_isPerson 26 = .ok (.iconst 0, 1) := dk_3 (dk_at dksX8_isPerson_1 3 rfl rfl)
theorem dX8_isPerson_27 : decode cX8_isPerson 27 = .ok (.ireturn, 1) := dk_172 (dk_at dksX8_isPerson_1 4 rfl rfl)
abbrev cX8_hadBy : ByteArray := prog_26_method_51_code
def yX8_hadBy : MethodName := ⟨RX8, "hadBy", "([II)I"⟩
def dkwX8_hadBy_1 : List UInt8 := [28, 160, 0, 10, 4, 21, 4, 120, 167, 0, 4, 3, 128, 62, 132, 4, 1, 167, 255, 220, 29, 172]
abbrev dktX8_hadBy_1 : List UInt8 := dkwX8_hadBy_1 ++ []
def dkwX8_hadBy_0 : List UInt8 := [3, 62, 3, 54, 4, 21, 4, 42, 180, 1, 60, 180, 0, 194, 162, 0, 30, 29, 43, 3, 21, 4, 96, 46]
abbrev dktX8_hadBy_0 : List UInt8 := dkwX8_hadBy_0 ++ dktX8_hadBy_1
theorem dksX8_hadBy_0 : cX8_hadBy.data.toList.drop 0 = dktX8_hadBy_0 := by decide +kernel
theorem dksX8_hadBy_1 : cX8_hadBy.data.toList.drop 24 = dktX8_hadBy_1 := dk_seg dksX8_hadBy_0 24 rfl rfl
theorem dX8_hadBy_0 : decode cX8_hadBy 0 = .ok (.iconst 0, 1) := dk_3 (dk_at dksX8_hadBy_0 0 rfl rfl)
theorem dX8_hadBy_1 : decode cX8_hadBy 1 = .ok (.istore_n 3, 1) := dk_62 (dk_at dksX8_hadBy_0 1 rfl rfl)
theorem dX8_hadBy_2 : decode cX8_hadBy 2 = .ok (.iconst 0, 1) := dk_3 (dk_at dksX8_hadBy_0 2 rfl rfl)
theorem dX8_hadBy_3 : decode cX8_hadBy 3 = .ok (.istore 4, 2) := dk_54 4 (dk_at dksX8_hadBy_0 3 rfl rfl)
theorem dX8_hadBy_5 : decode cX8_hadBy 5 = .ok (.iload 4, 2) := dk_21 4 (dk_at dksX8_hadBy_0 5 rfl rfl)
theorem dX8_hadBy_7 : decode cX8_hadBy 7 = .ok (.aload_n 0, 1) := dk_42 (dk_at dksX8_hadBy_0 7 rfl rfl)
theorem dX8_hadBy_8 : decode cX8_hadBy 8 = .ok (.getfield 316, 3) := dk_180 1 60 (dk_at dksX8_hadBy_0 8 rfl rfl)
theorem dX8_hadBy_11 : decode cX8_hadBy 11 = .ok (.getfield 194, 3) := dk_180 0 194 (dk_at dksX8_hadBy_0 11 rfl rfl)
theorem dX8_hadBy_14 : decode cX8_hadBy 14 = .ok (.if_icmp .ge 30, 3) := dk_162 0 30 (dk_at dksX8_hadBy_0 14 rfl rfl)
theorem dX8_hadBy_17 : decode cX8_hadBy 17 = .ok (.iload_n 3, 1) := dk_29 (dk_at dksX8_hadBy_0 17 rfl rfl)
theorem dX8_hadBy_18 : decode cX8_hadBy 18 = .ok (.aload_n 1, 1) := dk_43 (dk_at dksX8_hadBy_0 18 rfl rfl)
theorem dX8_hadBy_19 : decode cX8_hadBy 19 = .ok (.iconst 0, 1) := dk_3 (dk_at dksX8_hadBy_0 19 rfl rfl)
theorem dX8_hadBy_20 : decode cX8_hadBy 20 = .ok (.iload 4, 2) := dk_21 4 (dk_at dksX8_hadBy_0 20 rfl rfl)
theorem dX8_hadBy_22 : decode cX8_hadBy 22 = .ok (.iadd, 1) := dk_96 (dk_at dksX8_hadBy_0 22 rfl rfl)
theorem dX8_hadBy_23 : decode cX8_hadBy 23 = .ok (.iaload, 1) := dk_46 (dk_at dksX8_hadBy_0 23 rfl rfl)
theorem dX8_hadBy_24 : decode cX8_hadBy 24 = .ok (.iload_n 2, 1) := dk_28 (dk_at dksX8_hadBy_1 0 rfl rfl)
theorem dX8_hadBy_25 : decode cX8_hadBy 25 = .ok (.if_icmp .ne 10, 3) := dk_160 0 10 (dk_at dksX8_hadBy_1 1 rfl rfl)
theorem dX8_hadBy_28 : decode cX8_hadBy 28 = .ok (.iconst 1, 1) := dk_4 (dk_at dksX8_hadBy_1 4 rfl rfl)
theorem dX8_hadBy_29 : decode cX8_hadBy 29 = .ok (.iload 4, 2) := dk_21 4 (dk_at dksX8_hadBy_1 5 rfl rfl)
theorem dX8_hadBy_31 : decode cX8_hadBy 31 = .ok (.ishl, 1) := dk_120 (dk_at dksX8_hadBy_1 7 rfl rfl)
theorem dX8_hadBy_32 : decode cX8_hadBy 32 = .ok (.goto 4, 3) := dk_167 0 4 (dk_at dksX8_hadBy_1 8 rfl rfl)
theorem dX8_hadBy_35 : decode cX8_hadBy 35 = .ok (.iconst 0, 1) := dk_3 (dk_at dksX8_hadBy_1 11 rfl rfl)
theorem dX8_hadBy_36 : decode cX8_hadBy 36 = .ok (.ior, 1) := dk_128 (dk_at dksX8_hadBy_1 12 rfl rfl)
theorem dX8_hadBy_37 : decode cX8_hadBy 37 = .ok (.istore_n 3, 1) := dk_62 (dk_at dksX8_hadBy_1 13 rfl rfl)
theorem dX8_hadBy_38 : decode cX8_hadBy 38 = .ok (.iinc 4 1, 3) := dk_132 4 1 (dk_at dksX8_hadBy_1 14 rfl rfl)
theorem dX8_hadBy_41 : decode cX8_hadBy 41 = .ok (.goto (-36), 3) := dk_167 255 220 (dk_at dksX8_hadBy_1 17 rfl rfl)
theorem dX8_hadBy_44 : decode cX8_hadBy 44 = .ok (.iload_n 3, 1) := dk_29 (dk_at dksX8_hadBy_1 20 rfl rfl)
theorem dX8_hadBy_45 : decode cX8_hadBy 45 = .ok (.ireturn, 1) := dk_172 (dk_at dksX8_hadBy_1 21 rfl rfl)
abbrev cX8_landsIn : ByteArray := prog_26_method_52_code
def yX8_landsIn : MethodName := ⟨RX8, "landsIn", "([II)I"⟩
def dkwX8_landsIn_2 : List UInt8 := [167, 255, 214, 29, 172]
abbrev dktX8_landsIn_2 : List UInt8 := dkwX8_landsIn_2 ++ []
def dkwX8_landsIn_1 : List UInt8 := [28, 160, 0, 16, 42, 180, 1, 60, 180, 1, 17, 21, 4, 46, 167, 0, 4, 3, 96, 62, 132, 4, 1]
abbrev dktX8_landsIn_1 : List UInt8 := dkwX8_landsIn_1 ++ dktX8_landsIn_2
def dkwX8_landsIn_0 : List UInt8 := [3, 62, 3, 54, 4, 21, 4, 42, 180, 1, 60, 180, 0, 194, 162, 0, 36, 29, 43, 8, 21, 4, 96, 46]
abbrev dktX8_landsIn_0 : List UInt8 := dkwX8_landsIn_0 ++ dktX8_landsIn_1
theorem dksX8_landsIn_0 : cX8_landsIn.data.toList.drop 0 = dktX8_landsIn_0 := by decide +kernel
theorem dksX8_landsIn_1 : cX8_landsIn.data.toList.drop 24 = dktX8_landsIn_1 := dk_seg dksX8_landsIn_0 24 rfl rfl
theorem dksX8_landsIn_2 : cX8_landsIn.data.toList.drop 47 = dktX8_landsIn_2 := dk_seg dksX8_landsIn_1 23 rfl rfl
theorem dX8_landsIn_0 : decode cX8_landsIn 0 = .ok (.iconst 0, 1) := dk_3 (dk_at dksX8_landsIn_0 0 rfl rfl)
theorem dX8_landsIn_1 : decode cX8_landsIn 1 = .ok (.istore_n 3, 1) := dk_62 (dk_at dksX8_landsIn_0 1 rfl rfl)
theorem dX8_landsIn_2 : decode cX8_landsIn 2 = .ok (.iconst 0, 1) := dk_3 (dk_at dksX8_landsIn_0 2 rfl rfl)
theorem dX8_landsIn_3 : decode cX8_landsIn 3 = .ok (.istore 4, 2) := dk_54 4 (dk_at dksX8_landsIn_0 3 rfl rfl)
theorem dX8_landsIn_5 : decode cX8_landsIn 5 = .ok (.iload 4, 2) := dk_21 4 (dk_at dksX8_landsIn_0 5 rfl rfl)
theorem dX8_landsIn_7 : decode cX8_landsIn 7 = .ok (.aload_n 0, 1) := dk_42 (dk_at dksX8_landsIn_0 7 rfl rfl)
theorem dX8_landsIn_8 : decode cX8_landsIn 8 = .ok (.getfield 316, 3) := dk_180 1 60 (dk_at dksX8_landsIn_0 8 rfl rfl)
theorem dX8_landsIn_11 : decode cX8_landsIn 11 = .ok (.getfield 194, 3) := dk_180 0 194 (dk_at dksX8_landsIn_0 11 rfl rfl)
theorem dX8_landsIn_14 : decode cX8_landsIn 14 = .ok (.if_icmp .ge 36, 3) := dk_162 0 36 (dk_at dksX8_landsIn_0 14 rfl rfl)
theorem dX8_landsIn_17 : decode cX8_landsIn 17 = .ok (.iload_n 3, 1) := dk_29 (dk_at dksX8_landsIn_0 17 rfl rfl)
theorem dX8_landsIn_18 : decode cX8_landsIn 18 = .ok (.aload_n 1, 1) := dk_43 (dk_at dksX8_landsIn_0 18 rfl rfl)
theorem dX8_landsIn_19 : decode cX8_landsIn 19 = .ok (.iconst 5, 1) := dk_8 (dk_at dksX8_landsIn_0 19 rfl rfl)
theorem dX8_landsIn_20 : decode cX8_landsIn 20 = .ok (.iload 4, 2) := dk_21 4 (dk_at dksX8_landsIn_0 20 rfl rfl)
theorem dX8_landsIn_22 : decode cX8_landsIn 22 = .ok (.iadd, 1) := dk_96 (dk_at dksX8_landsIn_0 22 rfl rfl)
theorem dX8_landsIn_23 : decode cX8_landsIn 23 = .ok (.iaload, 1) := dk_46 (dk_at dksX8_landsIn_0 23 rfl rfl)
theorem dX8_landsIn_24 : decode cX8_landsIn 24 = .ok (.iload_n 2, 1) := dk_28 (dk_at dksX8_landsIn_1 0 rfl rfl)
theorem dX8_landsIn_25 : decode cX8_landsIn 25 = .ok (.if_icmp .ne 16, 3) := dk_160 0 16 (dk_at dksX8_landsIn_1 1 rfl rfl)
theorem dX8_landsIn_28 : decode cX8_landsIn 28 = .ok (.aload_n 0, 1) := dk_42 (dk_at dksX8_landsIn_1 4 rfl rfl)
theorem dX8_landsIn_29 : decode cX8_landsIn 29 = .ok (.getfield 316, 3) := dk_180 1 60 (dk_at dksX8_landsIn_1 5 rfl rfl)
theorem dX8_landsIn_32 : decode cX8_landsIn 32 = .ok (.getfield 273, 3) := dk_180 1 17 (dk_at dksX8_landsIn_1 8 rfl rfl)
theorem dX8_landsIn_35 : decode cX8_landsIn 35 = .ok (.iload 4, 2) := dk_21 4 (dk_at dksX8_landsIn_1 11 rfl rfl)
theorem dX8_landsIn_37 : decode cX8_landsIn 37 = .ok (.iaload, 1) := dk_46 (dk_at dksX8_landsIn_1 13 rfl rfl)
theorem dX8_landsIn_38 : decode cX8_landsIn 38 = .ok (.goto 4, 3) := dk_167 0 4 (dk_at dksX8_landsIn_1 14 rfl rfl)
theorem dX8_landsIn_41 : decode cX8_landsIn 41 = .ok (.iconst 0, 1) := dk_3 (dk_at dksX8_landsIn_1 17 rfl rfl)
theorem dX8_landsIn_42 : decode cX8_landsIn 42 = .ok (.iadd, 1) := dk_96 (dk_at dksX8_landsIn_1 18 rfl rfl)
theorem dX8_landsIn_43 : decode cX8_landsIn 43 = .ok (.istore_n 3, 1) := dk_62 (dk_at dksX8_landsIn_1 19 rfl rfl)
theorem dX8_landsIn_44 : decode cX8_landsIn 44 = .ok (.iinc 4 1, 3) := dk_132 4 1 (dk_at dksX8_landsIn_1 20 rfl rfl)
theorem dX8_landsIn_47 : decode cX8_landsIn 47 = .ok (.goto (-42), 3) := dk_167 255 214 (dk_at dksX8_landsIn_2 0 rfl rfl)
theorem dX8_landsIn_50 : decode cX8_landsIn 50 = .ok (.iload_n 3, 1) := dk_29 (dk_at dksX8_landsIn_2 3 rfl rfl)
theorem dX8_landsIn_51 : decode cX8_landsIn 51 = .ok (.ireturn, 1) := dk_172 (dk_at dksX8_landsIn_2 4 rfl rfl)
abbrev cX8_alike : ByteArray := prog_26_method_61_code
def yX8_alike : MethodName := ⟨RX8, "alike", "(I)I"⟩
def dkwX8_alike_2 : List UInt8 := [29, 120, 167, 0, 4, 3, 128, 61, 132, 3, 1, 167, 255, 220, 42, 28, 182, 0, 55, 172]
abbrev dktX8_alike_2 : List UInt8 := dkwX8_alike_2 ++ []
def dkwX8_alike_1 : List UInt8 := [42, 180, 1, 60, 180, 0, 194, 162, 0, 31, 28, 42, 180, 1, 60, 27, 29, 182, 1, 112, 153, 0, 9, 4]
abbrev dktX8_alike_1 : List UInt8 := dkwX8_alike_1 ++ dktX8_alike_2
def dkwX8_alike_0 : List UInt8 := [42, 3, 181, 0, 45, 42, 27, 182, 1, 103, 154, 0, 9, 42, 4, 182, 0, 51, 172, 3, 61, 3, 62, 29]
abbrev dktX8_alike_0 : List UInt8 := dkwX8_alike_0 ++ dktX8_alike_1
theorem dksX8_alike_0 : cX8_alike.data.toList.drop 0 = dktX8_alike_0 := by decide +kernel
theorem dksX8_alike_1 : cX8_alike.data.toList.drop 24 = dktX8_alike_1 := dk_seg dksX8_alike_0 24 rfl rfl
theorem dksX8_alike_2 : cX8_alike.data.toList.drop 48 = dktX8_alike_2 := dk_seg dksX8_alike_1 24 rfl rfl
theorem dX8_alike_0 : decode cX8_alike 0 = .ok (.aload_n 0, 1) := dk_42 (dk_at dksX8_alike_0 0 rfl rfl)
theorem dX8_alike_1 : decode cX8_alike 1 = .ok (.iconst 0, 1) := dk_3 (dk_at dksX8_alike_0 1 rfl rfl)
theorem dX8_alike_2 : decode cX8_alike 2 = .ok (.putfield 45, 3) := dk_181 0 45 (dk_at dksX8_alike_0 2 rfl rfl)
theorem dX8_alike_5 : decode cX8_alike 5 = .ok (.aload_n 0, 1) := dk_42 (dk_at dksX8_alike_0 5 rfl rfl)
theorem dX8_alike_6 : decode cX8_alike 6 = .ok (.iload_n 1, 1) := dk_27 (dk_at dksX8_alike_0 6 rfl rfl)
theorem dX8_alike_7 : decode cX8_alike 7 = .ok (.invokevirtual 359, 3) := dk_182 1 103 (dk_at dksX8_alike_0 7 rfl rfl)
theorem dX8_alike_10 : decode cX8_alike 10 = .ok (.ifCond .ne 9, 3) := dk_154 0 9 (dk_at dksX8_alike_0 10 rfl rfl)
theorem dX8_alike_13 : decode cX8_alike 13 = .ok (.aload_n 0, 1) := dk_42 (dk_at dksX8_alike_0 13 rfl rfl)
theorem dX8_alike_14 : decode cX8_alike 14 = .ok (.iconst 1, 1) := dk_4 (dk_at dksX8_alike_0 14 rfl rfl)
theorem dX8_alike_15 : decode cX8_alike 15 = .ok (.invokevirtual 51, 3) := dk_182 0 51 (dk_at dksX8_alike_0 15 rfl rfl)
theorem dX8_alike_18 : decode cX8_alike 18 = .ok (.ireturn, 1) := dk_172 (dk_at dksX8_alike_0 18 rfl rfl)
theorem dX8_alike_19 : decode cX8_alike 19 = .ok (.iconst 0, 1) := dk_3 (dk_at dksX8_alike_0 19 rfl rfl)
theorem dX8_alike_20 : decode cX8_alike 20 = .ok (.istore_n 2, 1) := dk_61 (dk_at dksX8_alike_0 20 rfl rfl)
theorem dX8_alike_21 : decode cX8_alike 21 = .ok (.iconst 0, 1) := dk_3 (dk_at dksX8_alike_0 21 rfl rfl)
theorem dX8_alike_22 : decode cX8_alike 22 = .ok (.istore_n 3, 1) := dk_62 (dk_at dksX8_alike_0 22 rfl rfl)
theorem dX8_alike_23 : decode cX8_alike 23 = .ok (.iload_n 3, 1) := dk_29 (dk_at dksX8_alike_0 23 rfl rfl)
theorem dX8_alike_24 : decode cX8_alike 24 = .ok (.aload_n 0, 1) := dk_42 (dk_at dksX8_alike_1 0 rfl rfl)
theorem dX8_alike_25 : decode cX8_alike 25 = .ok (.getfield 316, 3) := dk_180 1 60 (dk_at dksX8_alike_1 1 rfl rfl)
theorem dX8_alike_28 : decode cX8_alike 28 = .ok (.getfield 194, 3) := dk_180 0 194 (dk_at dksX8_alike_1 4 rfl rfl)
theorem dX8_alike_31 : decode cX8_alike 31 = .ok (.if_icmp .ge 31, 3) := dk_162 0 31 (dk_at dksX8_alike_1 7 rfl rfl)
theorem dX8_alike_34 : decode cX8_alike 34 = .ok (.iload_n 2, 1) := dk_28 (dk_at dksX8_alike_1 10 rfl rfl)
theorem dX8_alike_35 : decode cX8_alike 35 = .ok (.aload_n 0, 1) := dk_42 (dk_at dksX8_alike_1 11 rfl rfl)
theorem dX8_alike_36 : decode cX8_alike 36 = .ok (.getfield 316, 3) := dk_180 1 60 (dk_at dksX8_alike_1 12 rfl rfl)
theorem dX8_alike_39 : decode cX8_alike 39 = .ok (.iload_n 1, 1) := dk_27 (dk_at dksX8_alike_1 15 rfl rfl)
theorem dX8_alike_40 : decode cX8_alike 40 = .ok (.iload_n 3, 1) := dk_29 (dk_at dksX8_alike_1 16 rfl rfl)
theorem dX8_alike_41 : decode cX8_alike 41 = .ok (.invokevirtual 368, 3) := dk_182 1 112 (dk_at dksX8_alike_1 17 rfl rfl)
theorem dX8_alike_44 : decode cX8_alike 44 = .ok (.ifCond .eq 9, 3) := dk_153 0 9 (dk_at dksX8_alike_1 20 rfl rfl)
theorem dX8_alike_47 : decode cX8_alike 47 = .ok (.iconst 1, 1) := dk_4 (dk_at dksX8_alike_1 23 rfl rfl)
theorem dX8_alike_48 : decode cX8_alike 48 = .ok (.iload_n 3, 1) := dk_29 (dk_at dksX8_alike_2 0 rfl rfl)
theorem dX8_alike_49 : decode cX8_alike 49 = .ok (.ishl, 1) := dk_120 (dk_at dksX8_alike_2 1 rfl rfl)
theorem dX8_alike_50 : decode cX8_alike 50 = .ok (.goto 4, 3) := dk_167 0 4 (dk_at dksX8_alike_2 2 rfl rfl)
theorem dX8_alike_53 : decode cX8_alike 53 = .ok (.iconst 0, 1) := dk_3 (dk_at dksX8_alike_2 5 rfl rfl)
theorem dX8_alike_54 : decode cX8_alike 54 = .ok (.ior, 1) := dk_128 (dk_at dksX8_alike_2 6 rfl rfl)
theorem dX8_alike_55 : decode cX8_alike 55 = .ok (.istore_n 2, 1) := dk_61 (dk_at dksX8_alike_2 7 rfl rfl)
theorem dX8_alike_56 : decode cX8_alike 56 = .ok (.iinc 3 1, 3) := dk_132 3 1 (dk_at dksX8_alike_2 8 rfl rfl)
theorem dX8_alike_59 : decode cX8_alike 59 = .ok (.goto (-36), 3) := dk_167 255 220 (dk_at dksX8_alike_2 11 rfl rfl)
theorem dX8_alike_62 : decode cX8_alike 62 = .ok (.aload_n 0, 1) := dk_42 (dk_at dksX8_alike_2 14 rfl rfl)
theorem dX8_alike_63 : decode cX8_alike 63 = .ok (.iload_n 2, 1) := dk_28 (dk_at dksX8_alike_2 15 rfl rfl)
theorem dX8_alike_64 : decode cX8_alike 64 = .ok (.invokevirtual 55, 3) := dk_182 0 55 (dk_at dksX8_alike_2 16 rfl rfl)
theorem dX8_alike_67 : decode cX8_alike 67 = .ok (.ireturn, 1) := dk_172 (dk_at dksX8_alike_2 19 rfl rfl)
abbrev cX8_right : ByteArray := prog_26_method_63_code
def yX8_right : MethodName := ⟨RX8, "right", "()I"⟩
def dkwX8_right_1 : List UInt8 := [180, 0, 17, 182, 1, 116, 182, 0, 55, 172]
abbrev dktX8_right_1 : List UInt8 := dkwX8_right_1 ++ []
def dkwX8_right_0 : List UInt8 := [42, 3, 181, 0, 45, 42, 180, 1, 60, 199, 0, 11, 42, 4, 182, 0, 51, 167, 0, 15, 42, 42, 42]
abbrev dktX8_right_0 : List UInt8 := dkwX8_right_0 ++ dktX8_right_1
theorem dksX8_right_0 : cX8_right.data.toList.drop 0 = dktX8_right_0 := by decide +kernel
theorem dksX8_right_1 : cX8_right.data.toList.drop 23 = dktX8_right_1 := dk_seg dksX8_right_0 23 rfl rfl
theorem dX8_right_0 : decode cX8_right 0 = .ok (.aload_n 0, 1) := dk_42 (dk_at dksX8_right_0 0 rfl rfl)
theorem dX8_right_1 : decode cX8_right 1 = .ok (.iconst 0, 1) := dk_3 (dk_at dksX8_right_0 1 rfl rfl)
theorem dX8_right_2 : decode cX8_right 2 = .ok (.putfield 45, 3) := dk_181 0 45 (dk_at dksX8_right_0 2 rfl rfl)
theorem dX8_right_5 : decode cX8_right 5 = .ok (.aload_n 0, 1) := dk_42 (dk_at dksX8_right_0 5 rfl rfl)
theorem dX8_right_6 : decode cX8_right 6 = .ok (.getfield 316, 3) := dk_180 1 60 (dk_at dksX8_right_0 6 rfl rfl)
theorem dX8_right_9 : decode cX8_right 9 = .ok (.ifnonnull 11, 3) := dk_199 0 11 (dk_at dksX8_right_0 9 rfl rfl)
theorem dX8_right_12 : decode cX8_right 12 = .ok (.aload_n 0, 1) := dk_42 (dk_at dksX8_right_0 12 rfl rfl)
theorem dX8_right_13 : decode cX8_right 13 = .ok (.iconst 1, 1) := dk_4 (dk_at dksX8_right_0 13 rfl rfl)
theorem dX8_right_14 : decode cX8_right 14 = .ok (.invokevirtual 51, 3) := dk_182 0 51 (dk_at dksX8_right_0 14 rfl rfl)
theorem dX8_right_17 : decode cX8_right 17 = .ok (.goto 15, 3) := dk_167 0 15 (dk_at dksX8_right_0 17 rfl rfl)
theorem dX8_right_20 : decode cX8_right 20 = .ok (.aload_n 0, 1) := dk_42 (dk_at dksX8_right_0 20 rfl rfl)
theorem dX8_right_21 : decode cX8_right 21 = .ok (.aload_n 0, 1) := dk_42 (dk_at dksX8_right_0 21 rfl rfl)
theorem dX8_right_22 : decode cX8_right 22 = .ok (.aload_n 0, 1) := dk_42 (dk_at dksX8_right_0 22 rfl rfl)
theorem dX8_right_23 : decode cX8_right 23 = .ok (.getfield 17, 3) := dk_180 0 17 (dk_at dksX8_right_1 0 rfl rfl)
theorem dX8_right_26 : decode cX8_right 26 = .ok (.invokevirtual 372, 3) := dk_182 1 116 (dk_at dksX8_right_1 3 rfl rfl)
theorem dX8_right_29 : decode cX8_right 29 = .ok (.invokevirtual 55, 3) := dk_182 0 55 (dk_at dksX8_right_1 6 rfl rfl)
theorem dX8_right_32 : decode cX8_right 32 = .ok (.ireturn, 1) := dk_172 (dk_at dksX8_right_1 9 rfl rfl)
abbrev cX8_rightIn : ByteArray := prog_26_method_62_code
def yX8_rightIn : MethodName := ⟨RX8, "rightIn", "([I)I"⟩
def dkwX8_rightIn_2 : List UInt8 := [61, 132, 3, 1, 167, 255, 209, 28, 172]
abbrev dktX8_rightIn_2 : List UInt8 := dkwX8_rightIn_2 ++ []
def dkwX8_rightIn_1 : List UInt8 := [159, 0, 22, 43, 8, 29, 96, 46, 43, 3, 29, 96, 46, 160, 0, 9, 4, 29, 120, 167, 0, 4, 3, 128]
abbrev dktX8_rightIn_1 : List UInt8 := dkwX8_rightIn_1 ++ dktX8_rightIn_2
def dkwX8_rightIn_0 : List UInt8 := [3, 61, 3, 62, 29, 42, 180, 1, 60, 180, 0, 194, 162, 0, 42, 28, 43, 8, 29, 96, 46, 16, 254]
abbrev dktX8_rightIn_0 : List UInt8 := dkwX8_rightIn_0 ++ dktX8_rightIn_1
theorem dksX8_rightIn_0 : cX8_rightIn.data.toList.drop 0 = dktX8_rightIn_0 := by decide +kernel
theorem dksX8_rightIn_1 : cX8_rightIn.data.toList.drop 23 = dktX8_rightIn_1 := dk_seg dksX8_rightIn_0 23 rfl rfl
theorem dksX8_rightIn_2 : cX8_rightIn.data.toList.drop 47 = dktX8_rightIn_2 := dk_seg dksX8_rightIn_1 24 rfl rfl
theorem dX8_rightIn_0 : decode cX8_rightIn 0 = .ok (.iconst 0, 1) := dk_3 (dk_at dksX8_rightIn_0 0 rfl rfl)
theorem dX8_rightIn_1 : decode cX8_rightIn 1 = .ok (.istore_n 2, 1) := dk_61 (dk_at dksX8_rightIn_0 1 rfl rfl)
theorem dX8_rightIn_2 : decode cX8_rightIn 2 = .ok (.iconst 0, 1) := dk_3 (dk_at dksX8_rightIn_0 2 rfl rfl)
theorem dX8_rightIn_3 : decode cX8_rightIn 3 = .ok (.istore_n 3, 1) := dk_62 (dk_at dksX8_rightIn_0 3 rfl rfl)
theorem dX8_rightIn_4 : decode cX8_rightIn 4 = .ok (.iload_n 3, 1) := dk_29 (dk_at dksX8_rightIn_0 4 rfl rfl)
theorem dX8_rightIn_5 : decode cX8_rightIn 5 = .ok (.aload_n 0, 1) := dk_42 (dk_at dksX8_rightIn_0 5 rfl rfl)
theorem dX8_rightIn_6 : decode cX8_rightIn 6 = .ok (.getfield 316, 3) := dk_180 1 60 (dk_at dksX8_rightIn_0 6 rfl rfl)
theorem dX8_rightIn_9 : decode cX8_rightIn 9 = .ok (.getfield 194, 3) := dk_180 0 194 (dk_at dksX8_rightIn_0 9 rfl rfl)
theorem dX8_rightIn_12 : decode cX8_rightIn 12 = .ok (.if_icmp .ge 42, 3) := dk_162 0 42 (dk_at dksX8_rightIn_0 12 rfl rfl)
theorem dX8_rightIn_15 : decode cX8_rightIn 15 = .ok (.iload_n 2, 1) := dk_28 (dk_at dksX8_rightIn_0 15 rfl rfl)
theorem dX8_rightIn_16 : decode cX8_rightIn 16 = .ok (.aload_n 1, 1) := dk_43 (dk_at dksX8_rightIn_0 16 rfl rfl)
theorem dX8_rightIn_17 : decode cX8_rightIn 17 = .ok (.iconst 5, 1) := dk_8 (dk_at dksX8_rightIn_0 17 rfl rfl)
theorem dX8_rightIn_18 : decode cX8_rightIn 18 = .ok (.iload_n 3, 1) := dk_29 (dk_at dksX8_rightIn_0 18 rfl rfl)
theorem dX8_rightIn_19 : decode cX8_rightIn 19 = .ok (.iadd, 1) := dk_96 (dk_at dksX8_rightIn_0 19 rfl rfl)
theorem dX8_rightIn_20 : decode cX8_rightIn 20 = .ok (.iaload, 1) := dk_46 (dk_at dksX8_rightIn_0 20 rfl rfl)
theorem dX8_rightIn_21 : decode cX8_rightIn 21 = .ok (.bipush (-2), 2) := dk_16 254 (dk_at dksX8_rightIn_0 21 rfl rfl)
theorem dX8_rightIn_23 : decode cX8_rightIn 23 = .ok (.if_icmp .eq 22, 3) := dk_159 0 22 (dk_at dksX8_rightIn_1 0 rfl rfl)
theorem dX8_rightIn_26 : decode cX8_rightIn 26 = .ok (.aload_n 1, 1) := dk_43 (dk_at dksX8_rightIn_1 3 rfl rfl)
theorem dX8_rightIn_27 : decode cX8_rightIn 27 = .ok (.iconst 5, 1) := dk_8 (dk_at dksX8_rightIn_1 4 rfl rfl)
theorem dX8_rightIn_28 : decode cX8_rightIn 28 = .ok (.iload_n 3, 1) := dk_29 (dk_at dksX8_rightIn_1 5 rfl rfl)
theorem dX8_rightIn_29 : decode cX8_rightIn 29 = .ok (.iadd, 1) := dk_96 (dk_at dksX8_rightIn_1 6 rfl rfl)
theorem dX8_rightIn_30 : decode cX8_rightIn 30 = .ok (.iaload, 1) := dk_46 (dk_at dksX8_rightIn_1 7 rfl rfl)
theorem dX8_rightIn_31 : decode cX8_rightIn 31 = .ok (.aload_n 1, 1) := dk_43 (dk_at dksX8_rightIn_1 8 rfl rfl)
theorem dX8_rightIn_32 : decode cX8_rightIn 32 = .ok (.iconst 0, 1) := dk_3 (dk_at dksX8_rightIn_1 9 rfl rfl)
theorem dX8_rightIn_33 : decode cX8_rightIn 33 = .ok (.iload_n 3, 1) := dk_29 (dk_at dksX8_rightIn_1 10 rfl rfl)
theorem dX8_rightIn_34 : decode cX8_rightIn 34 = .ok (.iadd, 1) := dk_96 (dk_at dksX8_rightIn_1 11 rfl rfl)
theorem dX8_rightIn_35 : decode cX8_rightIn 35 = .ok (.iaload, 1) := dk_46 (dk_at dksX8_rightIn_1 12 rfl rfl)
theorem dX8_rightIn_36 : decode cX8_rightIn 36 = .ok (.if_icmp .ne 9, 3) := dk_160 0 9 (dk_at dksX8_rightIn_1 13 rfl rfl)
theorem dX8_rightIn_39 : decode cX8_rightIn 39 = .ok (.iconst 1, 1) := dk_4 (dk_at dksX8_rightIn_1 16 rfl rfl)
theorem dX8_rightIn_40 : decode cX8_rightIn 40 = .ok (.iload_n 3, 1) := dk_29 (dk_at dksX8_rightIn_1 17 rfl rfl)
theorem dX8_rightIn_41 : decode cX8_rightIn 41 = .ok (.ishl, 1) := dk_120 (dk_at dksX8_rightIn_1 18 rfl rfl)
theorem dX8_rightIn_42 : decode cX8_rightIn 42 = .ok (.goto 4, 3) := dk_167 0 4 (dk_at dksX8_rightIn_1 19 rfl rfl)
theorem dX8_rightIn_45 : decode cX8_rightIn 45 = .ok (.iconst 0, 1) := dk_3 (dk_at dksX8_rightIn_1 22 rfl rfl)
theorem dX8_rightIn_46 : decode cX8_rightIn 46 = .ok (.ior, 1) := dk_128 (dk_at dksX8_rightIn_1 23 rfl rfl)
theorem dX8_rightIn_47 : decode cX8_rightIn 47 = .ok (.istore_n 2, 1) := dk_61 (dk_at dksX8_rightIn_2 0 rfl rfl)
theorem dX8_rightIn_48 : decode cX8_rightIn 48 = .ok (.iinc 3 1, 3) := dk_132 3 1 (dk_at dksX8_rightIn_2 1 rfl rfl)
theorem dX8_rightIn_51 : decode cX8_rightIn 51 = .ok (.goto (-47), 3) := dk_167 255 209 (dk_at dksX8_rightIn_2 4 rfl rfl)
theorem dX8_rightIn_54 : decode cX8_rightIn 54 = .ok (.iload_n 2, 1) := dk_28 (dk_at dksX8_rightIn_2 7 rfl rfl)
theorem dX8_rightIn_55 : decode cX8_rightIn 55 = .ok (.ireturn, 1) := dk_172 (dk_at dksX8_rightIn_2 8 rfl rfl)
abbrev cX8_richest : ByteArray := prog_26_method_64_code
def yX8_richest : MethodName := ⟨RX8, "richest", "()I"⟩
def dkwX8_richest_3 : List UInt8 := [42, 27, 182, 0, 55, 172]
abbrev dktX8_richest_3 : List UInt8 := dkwX8_richest_3 ++ []
def dkwX8_richest_2 : List UInt8 := [163, 0, 6, 167, 0, 15, 42, 42, 180, 0, 17, 29, 182, 1, 109, 61, 29, 60, 132, 3, 1, 167, 255, 214]
abbrev dktX8_richest_2 : List UInt8 := dkwX8_richest_2 ++ dktX8_richest_3
def dkwX8_richest_1 : List UInt8 := [62, 29, 42, 180, 1, 60, 180, 0, 191, 162, 0, 37, 42, 42, 180, 0, 17, 29, 182, 1, 109, 28]
abbrev dktX8_richest_1 : List UInt8 := dkwX8_richest_1 ++ dktX8_richest_2
def dkwX8_richest_0 : List UInt8 := [42, 3, 181, 0, 45, 42, 180, 1, 60, 199, 0, 9, 42, 4, 182, 0, 51, 172, 16, 254, 60, 3, 61, 3]
abbrev dktX8_richest_0 : List UInt8 := dkwX8_richest_0 ++ dktX8_richest_1
theorem dksX8_richest_0 : cX8_richest.data.toList.drop 0 = dktX8_richest_0 := by decide +kernel
theorem dksX8_richest_1 : cX8_richest.data.toList.drop 24 = dktX8_richest_1 := dk_seg dksX8_richest_0 24 rfl rfl
theorem dksX8_richest_2 : cX8_richest.data.toList.drop 46 = dktX8_richest_2 := dk_seg dksX8_richest_1 22 rfl rfl
theorem dksX8_richest_3 : cX8_richest.data.toList.drop 70 = dktX8_richest_3 := dk_seg dksX8_richest_2 24 rfl rfl
theorem dX8_richest_0 : decode cX8_richest 0 = .ok (.aload_n 0, 1) := dk_42 (dk_at dksX8_richest_0 0 rfl rfl)
theorem dX8_richest_1 : decode cX8_richest 1 = .ok (.iconst 0, 1) := dk_3 (dk_at dksX8_richest_0 1 rfl rfl)
theorem dX8_richest_2 : decode cX8_richest 2 = .ok (.putfield 45, 3) := dk_181 0 45 (dk_at dksX8_richest_0 2 rfl rfl)
theorem dX8_richest_5 : decode cX8_richest 5 = .ok (.aload_n 0, 1) := dk_42 (dk_at dksX8_richest_0 5 rfl rfl)
theorem dX8_richest_6 : decode cX8_richest 6 = .ok (.getfield 316, 3) := dk_180 1 60 (dk_at dksX8_richest_0 6 rfl rfl)
theorem dX8_richest_9 : decode cX8_richest 9 = .ok (.ifnonnull 9, 3) := dk_199 0 9 (dk_at dksX8_richest_0 9 rfl rfl)
theorem dX8_richest_12 : decode cX8_richest 12 = .ok (.aload_n 0, 1) := dk_42 (dk_at dksX8_richest_0 12 rfl rfl)
theorem dX8_richest_13 : decode cX8_richest 13 = .ok (.iconst 1, 1) := dk_4 (dk_at dksX8_richest_0 13 rfl rfl)
theorem dX8_richest_14 : decode cX8_richest 14 = .ok (.invokevirtual 51, 3) := dk_182 0 51 (dk_at dksX8_richest_0 14 rfl rfl)
theorem dX8_richest_17 : decode cX8_richest 17 = .ok (.ireturn, 1) := dk_172 (dk_at dksX8_richest_0 17 rfl rfl)
theorem dX8_richest_18 : decode cX8_richest 18 = .ok (.bipush (-2), 2) := dk_16 254 (dk_at dksX8_richest_0 18 rfl rfl)
theorem dX8_richest_20 : decode cX8_richest 20 = .ok (.istore_n 1, 1) := dk_60 (dk_at dksX8_richest_0 20 rfl rfl)
theorem dX8_richest_21 : decode cX8_richest 21 = .ok (.iconst 0, 1) := dk_3 (dk_at dksX8_richest_0 21 rfl rfl)
theorem dX8_richest_22 : decode cX8_richest 22 = .ok (.istore_n 2, 1) := dk_61 (dk_at dksX8_richest_0 22 rfl rfl)
theorem dX8_richest_23 : decode cX8_richest 23 = .ok (.iconst 0, 1) := dk_3 (dk_at dksX8_richest_0 23 rfl rfl)
theorem dX8_richest_24 : decode cX8_richest 24 = .ok (.istore_n 3, 1) := dk_62 (dk_at dksX8_richest_1 0 rfl rfl)
theorem dX8_richest_25 : decode cX8_richest 25 = .ok (.iload_n 3, 1) := dk_29 (dk_at dksX8_richest_1 1 rfl rfl)
theorem dX8_richest_26 : decode cX8_richest 26 = .ok (.aload_n 0, 1) := dk_42 (dk_at dksX8_richest_1 2 rfl rfl)
theorem dX8_richest_27 : decode cX8_richest 27 = .ok (.getfield 316, 3) := dk_180 1 60 (dk_at dksX8_richest_1 3 rfl rfl)
theorem dX8_richest_30 : decode cX8_richest 30 = .ok (.getfield 191, 3) := dk_180 0 191 (dk_at dksX8_richest_1 6 rfl rfl)
theorem dX8_richest_33 : decode cX8_richest 33 = .ok (.if_icmp .ge 37, 3) := dk_162 0 37 (dk_at dksX8_richest_1 9 rfl rfl)
theorem dX8_richest_36 : decode cX8_richest 36 = .ok (.aload_n 0, 1) := dk_42 (dk_at dksX8_richest_1 12 rfl rfl)
theorem dX8_richest_37 : decode cX8_richest 37 = .ok (.aload_n 0, 1) := dk_42 (dk_at dksX8_richest_1 13 rfl rfl)
theorem dX8_richest_38 : decode cX8_richest 38 = .ok (.getfield 17, 3) := dk_180 0 17 (dk_at dksX8_richest_1 14 rfl rfl)
theorem dX8_richest_41 : decode cX8_richest 41 = .ok (.iload_n 3, 1) := dk_29 (dk_at dksX8_richest_1 17 rfl rfl)
theorem dX8_richest_42 : decode cX8_richest 42 = .ok (.invokevirtual 365, 3) := dk_182 1 109 (dk_at dksX8_richest_1 18 rfl rfl)
theorem dX8_richest_45 : decode cX8_richest 45 = .ok (.iload_n 2, 1) := dk_28 (dk_at dksX8_richest_1 21 rfl rfl)
theorem dX8_richest_46 : decode cX8_richest 46 = .ok (.if_icmp .gt 6, 3) := dk_163 0 6 (dk_at dksX8_richest_2 0 rfl rfl)
theorem dX8_richest_49 : decode cX8_richest 49 = .ok (.goto 15, 3) := dk_167 0 15 (dk_at dksX8_richest_2 3 rfl rfl)
theorem dX8_richest_52 : decode cX8_richest 52 = .ok (.aload_n 0, 1) := dk_42 (dk_at dksX8_richest_2 6 rfl rfl)
theorem dX8_richest_53 : decode cX8_richest 53 = .ok (.aload_n 0, 1) := dk_42 (dk_at dksX8_richest_2 7 rfl rfl)
theorem dX8_richest_54 : decode cX8_richest 54 = .ok (.getfield 17, 3) := dk_180 0 17 (dk_at dksX8_richest_2 8 rfl rfl)
theorem dX8_richest_57 : decode cX8_richest 57 = .ok (.iload_n 3, 1) := dk_29 (dk_at dksX8_richest_2 11 rfl rfl)
theorem dX8_richest_58 : decode cX8_richest 58 = .ok (.invokevirtual 365, 3) := dk_182 1 109 (dk_at dksX8_richest_2 12 rfl rfl)
theorem dX8_richest_61 : decode cX8_richest 61 = .ok (.istore_n 2, 1) := dk_61 (dk_at dksX8_richest_2 15 rfl rfl)
theorem dX8_richest_62 : decode cX8_richest 62 = .ok (.iload_n 3, 1) := dk_29 (dk_at dksX8_richest_2 16 rfl rfl)
theorem dX8_richest_63 : decode cX8_richest 63 = .ok (.istore_n 1, 1) := dk_60 (dk_at dksX8_richest_2 17 rfl rfl)
theorem dX8_richest_64 : decode cX8_richest 64 = .ok (.iinc 3 1, 3) := dk_132 3 1 (dk_at dksX8_richest_2 18 rfl rfl)
theorem dX8_richest_67 : decode cX8_richest 67 = .ok (.goto (-42), 3) := dk_167 255 214 (dk_at dksX8_richest_2 21 rfl rfl)
theorem dX8_richest_70 : decode cX8_richest 70 = .ok (.aload_n 0, 1) := dk_42 (dk_at dksX8_richest_3 0 rfl rfl)
theorem dX8_richest_71 : decode cX8_richest 71 = .ok (.iload_n 1, 1) := dk_27 (dk_at dksX8_richest_3 1 rfl rfl)
theorem dX8_richest_72 : decode cX8_richest 72 = .ok (.invokevirtual 55, 3) := dk_182 0 55 (dk_at dksX8_richest_3 2 rfl rfl)
theorem dX8_richest_75 : decode cX8_richest 75 = .ok (.ireturn, 1) := dk_172 (dk_at dksX8_richest_3 5 rfl rfl)
abbrev cX8_hasIt : ByteArray := prog_26_method_66_code
def yX8_hasIt : MethodName := ⟨RX8, "hasIt", "(II)I"⟩
def dkwX8_hasIt_1 : List UInt8 := [182, 0, 51, 167, 0, 15, 42, 42, 180, 0, 21, 3, 27, 96, 46, 182, 0, 55, 172]
abbrev dktX8_hasIt_1 : List UInt8 := dkwX8_hasIt_1 ++ []
def dkwX8_hasIt_0 : List UInt8 := [42, 3, 181, 0, 45, 42, 42, 27, 182, 1, 103, 28, 182, 1, 123, 62, 29, 158, 0, 11, 42, 29]
abbrev dktX8_hasIt_0 : List UInt8 := dkwX8_hasIt_0 ++ dktX8_hasIt_1
theorem dksX8_hasIt_0 : cX8_hasIt.data.toList.drop 0 = dktX8_hasIt_0 := by decide +kernel
theorem dksX8_hasIt_1 : cX8_hasIt.data.toList.drop 22 = dktX8_hasIt_1 := dk_seg dksX8_hasIt_0 22 rfl rfl
theorem dX8_hasIt_0 : decode cX8_hasIt 0 = .ok (.aload_n 0, 1) := dk_42 (dk_at dksX8_hasIt_0 0 rfl rfl)
theorem dX8_hasIt_1 : decode cX8_hasIt 1 = .ok (.iconst 0, 1) := dk_3 (dk_at dksX8_hasIt_0 1 rfl rfl)
theorem dX8_hasIt_2 : decode cX8_hasIt 2 = .ok (.putfield 45, 3) := dk_181 0 45 (dk_at dksX8_hasIt_0 2 rfl rfl)
theorem dX8_hasIt_5 : decode cX8_hasIt 5 = .ok (.aload_n 0, 1) := dk_42 (dk_at dksX8_hasIt_0 5 rfl rfl)
theorem dX8_hasIt_6 : decode cX8_hasIt 6 = .ok (.aload_n 0, 1) := dk_42 (dk_at dksX8_hasIt_0 6 rfl rfl)
theorem dX8_hasIt_7 : decode cX8_hasIt 7 = .ok (.iload_n 1, 1) := dk_27 (dk_at dksX8_hasIt_0 7 rfl rfl)
theorem dX8_hasIt_8 : decode cX8_hasIt 8 = .ok (.invokevirtual 359, 3) := dk_182 1 103 (dk_at dksX8_hasIt_0 8 rfl rfl)
theorem dX8_hasIt_11 : decode cX8_hasIt 11 = .ok (.iload_n 2, 1) := dk_28 (dk_at dksX8_hasIt_0 11 rfl rfl)
theorem dX8_hasIt_12 : decode cX8_hasIt 12 = .ok (.invokevirtual 379, 3) := dk_182 1 123 (dk_at dksX8_hasIt_0 12 rfl rfl)
theorem dX8_hasIt_15 : decode cX8_hasIt 15 = .ok (.istore_n 3, 1) := dk_62 (dk_at dksX8_hasIt_0 15 rfl rfl)
theorem dX8_hasIt_16 : decode cX8_hasIt 16 = .ok (.iload_n 3, 1) := dk_29 (dk_at dksX8_hasIt_0 16 rfl rfl)
theorem dX8_hasIt_17 : decode cX8_hasIt 17 = .ok (.ifCond .le 11, 3) := dk_158 0 11 (dk_at dksX8_hasIt_0 17 rfl rfl)
theorem dX8_hasIt_20 : decode cX8_hasIt 20 = .ok (.aload_n 0, 1) := dk_42 (dk_at dksX8_hasIt_0 20 rfl rfl)
theorem dX8_hasIt_21 : decode cX8_hasIt 21 = .ok (.iload_n 3, 1) := dk_29 (dk_at dksX8_hasIt_0 21 rfl rfl)
theorem dX8_hasIt_22 : decode cX8_hasIt 22 = .ok (.invokevirtual 51, 3) := dk_182 0 51 (dk_at dksX8_hasIt_1 0 rfl rfl)
theorem dX8_hasIt_25 : decode cX8_hasIt 25 = .ok (.goto 15, 3) := dk_167 0 15 (dk_at dksX8_hasIt_1 3 rfl rfl)
theorem dX8_hasIt_28 : decode cX8_hasIt 28 = .ok (.aload_n 0, 1) := dk_42 (dk_at dksX8_hasIt_1 6 rfl rfl)
theorem dX8_hasIt_29 : decode cX8_hasIt 29 = .ok (.aload_n 0, 1) := dk_42 (dk_at dksX8_hasIt_1 7 rfl rfl)
theorem dX8_hasIt_30 : decode cX8_hasIt 30 = .ok (.getfield 21, 3) := dk_180 0 21 (dk_at dksX8_hasIt_1 8 rfl rfl)
theorem dX8_hasIt_33 : decode cX8_hasIt 33 = .ok (.iconst 0, 1) := dk_3 (dk_at dksX8_hasIt_1 11 rfl rfl)
theorem dX8_hasIt_34 : decode cX8_hasIt 34 = .ok (.iload_n 1, 1) := dk_27 (dk_at dksX8_hasIt_1 12 rfl rfl)
theorem dX8_hasIt_35 : decode cX8_hasIt 35 = .ok (.iadd, 1) := dk_96 (dk_at dksX8_hasIt_1 13 rfl rfl)
theorem dX8_hasIt_36 : decode cX8_hasIt 36 = .ok (.iaload, 1) := dk_46 (dk_at dksX8_hasIt_1 14 rfl rfl)
theorem dX8_hasIt_37 : decode cX8_hasIt 37 = .ok (.invokevirtual 55, 3) := dk_182 0 55 (dk_at dksX8_hasIt_1 15 rfl rfl)
theorem dX8_hasIt_40 : decode cX8_hasIt 40 = .ok (.ireturn, 1) := dk_172 (dk_at dksX8_hasIt_1 18 rfl rfl)
abbrev cX8_asks : ByteArray := prog_26_method_65_code
def yX8_asks : MethodName := ⟨RX8, "asks", "(ZI)I"⟩
def dkwX8_asks_1 : List UInt8 := [172]
abbrev dktX8_asks_1 : List UInt8 := dkwX8_asks_1 ++ []
def dkwX8_asks_0 : List UInt8 := [27, 154, 0, 5, 4, 172, 28, 3, 16, 40, 184, 0, 124, 154, 0, 5, 5, 172, 42, 28, 182, 1, 120, 3]
abbrev dktX8_asks_0 : List UInt8 := dkwX8_asks_0 ++ dktX8_asks_1
theorem dksX8_asks_0 : cX8_asks.data.toList.drop 0 = dktX8_asks_0 := by decide +kernel
theorem dksX8_asks_1 : cX8_asks.data.toList.drop 24 = dktX8_asks_1 := dk_seg dksX8_asks_0 24 rfl rfl
theorem dX8_asks_0 : decode cX8_asks 0 = .ok (.iload_n 1, 1) := dk_27 (dk_at dksX8_asks_0 0 rfl rfl)
theorem dX8_asks_1 : decode cX8_asks 1 = .ok (.ifCond .ne 5, 3) := dk_154 0 5 (dk_at dksX8_asks_0 1 rfl rfl)
theorem dX8_asks_4 : decode cX8_asks 4 = .ok (.iconst 1, 1) := dk_4 (dk_at dksX8_asks_0 4 rfl rfl)
theorem dX8_asks_5 : decode cX8_asks 5 = .ok (.ireturn, 1) := dk_172 (dk_at dksX8_asks_0 5 rfl rfl)
theorem dX8_asks_6 : decode cX8_asks 6 = .ok (.iload_n 2, 1) := dk_28 (dk_at dksX8_asks_0 6 rfl rfl)
theorem dX8_asks_7 : decode cX8_asks 7 = .ok (.iconst 0, 1) := dk_3 (dk_at dksX8_asks_0 7 rfl rfl)
theorem dX8_asks_8 : decode cX8_asks 8 = .ok (.bipush 40, 2) := dk_16 40 (dk_at dksX8_asks_0 8 rfl rfl)
theorem dX8_asks_10 : decode cX8_asks 10 = .ok (.invokestatic 124, 3) := dk_184 0 124 (dk_at dksX8_asks_0 10 rfl rfl)
theorem dX8_asks_13 : decode cX8_asks 13 = .ok (.ifCond .ne 5, 3) := dk_154 0 5 (dk_at dksX8_asks_0 13 rfl rfl)
theorem dX8_asks_16 : decode cX8_asks 16 = .ok (.iconst 2, 1) := dk_5 (dk_at dksX8_asks_0 16 rfl rfl)
theorem dX8_asks_17 : decode cX8_asks 17 = .ok (.ireturn, 1) := dk_172 (dk_at dksX8_asks_0 17 rfl rfl)
theorem dX8_asks_18 : decode cX8_asks 18 = .ok (.aload_n 0, 1) := dk_42 (dk_at dksX8_asks_0 18 rfl rfl)
theorem dX8_asks_19 : decode cX8_asks 19 = .ok (.iload_n 2, 1) := dk_28 (dk_at dksX8_asks_0 19 rfl rfl)
theorem dX8_asks_20 : decode cX8_asks 20 = .ok (.invokevirtual 376, 3) := dk_182 1 120 (dk_at dksX8_asks_0 20 rfl rfl)
theorem dX8_asks_23 : decode cX8_asks 23 = .ok (.iconst 0, 1) := dk_3 (dk_at dksX8_asks_0 23 rfl rfl)
theorem dX8_asks_24 : decode cX8_asks 24 = .ok (.ireturn, 1) := dk_172 (dk_at dksX8_asks_1 0 rfl rfl)
abbrev cX8_behind : ByteArray := prog_26_method_58_code
def yX8_behind : MethodName := ⟨RX8, "behind", "(I)V"⟩
def dkwX8_behind_1 : List UInt8 := [167, 255, 243, 177]
abbrev dktX8_behind_1 : List UInt8 := dkwX8_behind_1 ++ []
def dkwX8_behind_0 : List UInt8 := [42, 42, 180, 0, 21, 182, 1, 62, 3, 61, 28, 27, 163, 0, 14, 42, 28, 182, 1, 100, 132, 2, 1]
abbrev dktX8_behind_0 : List UInt8 := dkwX8_behind_0 ++ dktX8_behind_1
theorem dksX8_behind_0 : cX8_behind.data.toList.drop 0 = dktX8_behind_0 := by decide +kernel
theorem dksX8_behind_1 : cX8_behind.data.toList.drop 23 = dktX8_behind_1 := dk_seg dksX8_behind_0 23 rfl rfl
theorem dX8_behind_0 : decode cX8_behind 0 = .ok (.aload_n 0, 1) := dk_42 (dk_at dksX8_behind_0 0 rfl rfl)
theorem dX8_behind_1 : decode cX8_behind 1 = .ok (.aload_n 0, 1) := dk_42 (dk_at dksX8_behind_0 1 rfl rfl)
theorem dX8_behind_2 : decode cX8_behind 2 = .ok (.getfield 21, 3) := dk_180 0 21 (dk_at dksX8_behind_0 2 rfl rfl)
theorem dX8_behind_5 : decode cX8_behind 5 = .ok (.invokevirtual 318, 3) := dk_182 1 62 (dk_at dksX8_behind_0 5 rfl rfl)
theorem dX8_behind_8 : decode cX8_behind 8 = .ok (.iconst 0, 1) := dk_3 (dk_at dksX8_behind_0 8 rfl rfl)
theorem dX8_behind_9 : decode cX8_behind 9 = .ok (.istore_n 2, 1) := dk_61 (dk_at dksX8_behind_0 9 rfl rfl)
theorem dX8_behind_10 : decode cX8_behind 10 = .ok (.iload_n 2, 1) := dk_28 (dk_at dksX8_behind_0 10 rfl rfl)
theorem dX8_behind_11 : decode cX8_behind 11 = .ok (.iload_n 1, 1) := dk_27 (dk_at dksX8_behind_0 11 rfl rfl)
theorem dX8_behind_12 : decode cX8_behind 12 = .ok (.if_icmp .gt 14, 3) := dk_163 0 14 (dk_at dksX8_behind_0 12 rfl rfl)
theorem dX8_behind_15 : decode cX8_behind 15 = .ok (.aload_n 0, 1) := dk_42 (dk_at dksX8_behind_0 15 rfl rfl)
theorem dX8_behind_16 : decode cX8_behind 16 = .ok (.iload_n 2, 1) := dk_28 (dk_at dksX8_behind_0 16 rfl rfl)
theorem dX8_behind_17 : decode cX8_behind 17 = .ok (.invokevirtual 356, 3) := dk_182 1 100 (dk_at dksX8_behind_0 17 rfl rfl)
theorem dX8_behind_20 : decode cX8_behind 20 = .ok (.iinc 2 1, 3) := dk_132 2 1 (dk_at dksX8_behind_0 20 rfl rfl)
theorem dX8_behind_23 : decode cX8_behind 23 = .ok (.goto (-13), 3) := dk_167 255 243 (dk_at dksX8_behind_1 0 rfl rfl)
theorem dX8_behind_26 : decode cX8_behind 26 = .ok (.return_, 1) := dk_177 (dk_at dksX8_behind_1 3 rfl rfl)
abbrev cX8_goesBy : ByteArray := prog_26_method_57_code
def yX8_goesBy : MethodName := ⟨RX8, "goesBy", "(I)V"⟩
def dkwX8_goesBy_0 : List UInt8 := [42, 42, 180, 0, 21, 42, 27, 182, 1, 93, 182, 1, 96, 177]
abbrev dktX8_goesBy_0 : List UInt8 := dkwX8_goesBy_0 ++ []
theorem dksX8_goesBy_0 : cX8_goesBy.data.toList.drop 0 = dktX8_goesBy_0 := by decide +kernel
theorem dX8_goesBy_0 : decode cX8_goesBy 0 = .ok (.aload_n 0, 1) := dk_42 (dk_at dksX8_goesBy_0 0 rfl rfl)
theorem dX8_goesBy_1 : decode cX8_goesBy 1 = .ok (.aload_n 0, 1) := dk_42 (dk_at dksX8_goesBy_0 1 rfl rfl)
theorem dX8_goesBy_2 : decode cX8_goesBy 2 = .ok (.getfield 21, 3) := dk_180 0 21 (dk_at dksX8_goesBy_0 2 rfl rfl)
theorem dX8_goesBy_5 : decode cX8_goesBy 5 = .ok (.aload_n 0, 1) := dk_42 (dk_at dksX8_goesBy_0 5 rfl rfl)
theorem dX8_goesBy_6 : decode cX8_goesBy 6 = .ok (.iload_n 1, 1) := dk_27 (dk_at dksX8_goesBy_0 6 rfl rfl)
theorem dX8_goesBy_7 : decode cX8_goesBy 7 = .ok (.invokevirtual 349, 3) := dk_182 1 93 (dk_at dksX8_goesBy_0 7 rfl rfl)
theorem dX8_goesBy_10 : decode cX8_goesBy 10 = .ok (.invokevirtual 352, 3) := dk_182 1 96 (dk_at dksX8_goesBy_0 10 rfl rfl)
theorem dX8_goesBy_13 : decode cX8_goesBy 13 = .ok (.return_, 1) := dk_177 (dk_at dksX8_goesBy_0 13 rfl rfl)
abbrev cX8_happens : ByteArray := prog_26_method_56_code
def yX8_happens : MethodName := ⟨RX8, "happens", "(I)Z"⟩
def dkwX8_happens_6 : List UInt8 := [180, 1, 36, 29, 46, 184, 1, 89, 167, 0, 5, 4, 61, 132, 3, 1, 167, 255, 123, 28, 172]
abbrev dktX8_happens_6 : List UInt8 := dkwX8_happens_6 ++ []
def dkwX8_happens_5 : List UInt8 := [180, 0, 21, 3, 21, 4, 96, 16, 254, 79, 167, 0, 26, 42, 180, 0, 21, 21, 4, 42, 180, 1, 60]
abbrev dktX8_happens_5 : List UInt8 := dkwX8_happens_5 ++ dktX8_happens_6
def dkwX8_happens_4 : List UInt8 := [42, 180, 0, 21, 3, 21, 4, 96, 42, 180, 1, 60, 180, 1, 36, 29, 46, 79, 167, 0, 40, 42]
abbrev dktX8_happens_4 : List UInt8 := dkwX8_happens_4 ++ dktX8_happens_5
def dkwX8_happens_3 : List UInt8 := [170, 0, 0, 0, 81, 0, 0, 0, 0, 0, 0, 0, 2, 0, 0, 0, 25, 0, 0, 0, 46, 0, 0, 0, 60]
abbrev dktX8_happens_3 : List UInt8 := dkwX8_happens_3 ++ dktX8_happens_4
def dkwX8_happens_2 : List UInt8 := [180, 1, 30, 29, 46]
abbrev dktX8_happens_2 : List UInt8 := dkwX8_happens_2 ++ dktX8_happens_3
def dkwX8_happens_1 : List UInt8 := [27, 159, 0, 6, 167, 0, 106, 42, 180, 1, 60, 180, 1, 33, 29, 46, 54, 4, 42, 180, 1, 60]
abbrev dktX8_happens_1 : List UInt8 := dkwX8_happens_1 ++ dktX8_happens_2
def dkwX8_happens_0 : List UInt8 := [3, 61, 3, 62, 29, 42, 180, 1, 60, 180, 1, 23, 162, 0, 128, 42, 180, 1, 60, 180, 1, 26, 29, 46]
abbrev dktX8_happens_0 : List UInt8 := dkwX8_happens_0 ++ dktX8_happens_1
theorem dksX8_happens_0 : cX8_happens.data.toList.drop 0 = dktX8_happens_0 := by decide +kernel
theorem dksX8_happens_1 : cX8_happens.data.toList.drop 24 = dktX8_happens_1 := dk_seg dksX8_happens_0 24 rfl rfl
theorem dksX8_happens_2 : cX8_happens.data.toList.drop 46 = dktX8_happens_2 := dk_seg dksX8_happens_1 22 rfl rfl
theorem dksX8_happens_3 : cX8_happens.data.toList.drop 51 = dktX8_happens_3 := dk_seg dksX8_happens_2 5 rfl rfl
theorem dksX8_happens_4 : cX8_happens.data.toList.drop 76 = dktX8_happens_4 := dk_seg dksX8_happens_3 25 rfl rfl
theorem dksX8_happens_5 : cX8_happens.data.toList.drop 98 = dktX8_happens_5 := dk_seg dksX8_happens_4 22 rfl rfl
theorem dksX8_happens_6 : cX8_happens.data.toList.drop 121 = dktX8_happens_6 := dk_seg dksX8_happens_5 23 rfl rfl
theorem dX8_happens_0 : decode cX8_happens 0 = .ok (.iconst 0, 1) := dk_3 (dk_at dksX8_happens_0 0 rfl rfl)
theorem dX8_happens_1 : decode cX8_happens 1 = .ok (.istore_n 2, 1) := dk_61 (dk_at dksX8_happens_0 1 rfl rfl)
theorem dX8_happens_2 : decode cX8_happens 2 = .ok (.iconst 0, 1) := dk_3 (dk_at dksX8_happens_0 2 rfl rfl)
theorem dX8_happens_3 : decode cX8_happens 3 = .ok (.istore_n 3, 1) := dk_62 (dk_at dksX8_happens_0 3 rfl rfl)
theorem dX8_happens_4 : decode cX8_happens 4 = .ok (.iload_n 3, 1) := dk_29 (dk_at dksX8_happens_0 4 rfl rfl)
theorem dX8_happens_5 : decode cX8_happens 5 = .ok (.aload_n 0, 1) := dk_42 (dk_at dksX8_happens_0 5 rfl rfl)
theorem dX8_happens_6 : decode cX8_happens 6 = .ok (.getfield 316, 3) := dk_180 1 60 (dk_at dksX8_happens_0 6 rfl rfl)
theorem dX8_happens_9 : decode cX8_happens 9 = .ok (.getfield 279, 3) := dk_180 1 23 (dk_at dksX8_happens_0 9 rfl rfl)
theorem dX8_happens_12 : decode cX8_happens 12 = .ok (.if_icmp .ge 128, 3) := dk_162 0 128 (dk_at dksX8_happens_0 12 rfl rfl)
theorem dX8_happens_15 : decode cX8_happens 15 = .ok (.aload_n 0, 1) := dk_42 (dk_at dksX8_happens_0 15 rfl rfl)
theorem dX8_happens_16 : decode cX8_happens 16 = .ok (.getfield 316, 3) := dk_180 1 60 (dk_at dksX8_happens_0 16 rfl rfl)
theorem dX8_happens_19 : decode cX8_happens 19 = .ok (.getfield 282, 3) := dk_180 1 26 (dk_at dksX8_happens_0 19 rfl rfl)
theorem dX8_happens_22 : decode cX8_happens 22 = .ok (.iload_n 3, 1) := dk_29 (dk_at dksX8_happens_0 22 rfl rfl)
theorem dX8_happens_23 : decode cX8_happens 23 = .ok (.iaload, 1) := dk_46 (dk_at dksX8_happens_0 23 rfl rfl)
theorem dX8_happens_24 : decode cX8_happens 24 = .ok (.iload_n 1, 1) := dk_27 (dk_at dksX8_happens_1 0 rfl rfl)
theorem dX8_happens_25 : decode cX8_happens 25 = .ok (.if_icmp .eq 6, 3) := dk_159 0 6 (dk_at dksX8_happens_1 1 rfl rfl)
theorem dX8_happens_28 : decode cX8_happens 28 = .ok (.goto 106, 3) := dk_167 0 106 (dk_at dksX8_happens_1 4 rfl rfl)
theorem dX8_happens_31 : decode cX8_happens 31 = .ok (.aload_n 0, 1) := dk_42 (dk_at dksX8_happens_1 7 rfl rfl)
theorem dX8_happens_32 : decode cX8_happens 32 = .ok (.getfield 316, 3) := dk_180 1 60 (dk_at dksX8_happens_1 8 rfl rfl)
theorem dX8_happens_35 : decode cX8_happens 35 = .ok (.getfield 289, 3) := dk_180 1 33 (dk_at dksX8_happens_1 11 rfl rfl)
theorem dX8_happens_38 : decode cX8_happens 38 = .ok (.iload_n 3, 1) := dk_29 (dk_at dksX8_happens_1 14 rfl rfl)
theorem dX8_happens_39 : decode cX8_happens 39 = .ok (.iaload, 1) := dk_46 (dk_at dksX8_happens_1 15 rfl rfl)
theorem dX8_happens_40 : decode cX8_happens 40 = .ok (.istore 4, 2) := dk_54 4 (dk_at dksX8_happens_1 16 rfl rfl)
theorem dX8_happens_42 : decode cX8_happens 42 = .ok (.aload_n 0, 1) := dk_42 (dk_at dksX8_happens_1 18 rfl rfl)
theorem dX8_happens_43 : decode cX8_happens 43 = .ok (.getfield 316, 3) := dk_180 1 60 (dk_at dksX8_happens_1 19 rfl rfl)
theorem dX8_happens_46 : decode cX8_happens 46 = .ok (.getfield 286, 3) := dk_180 1 30 (dk_at dksX8_happens_2 0 rfl rfl)
theorem dX8_happens_49 : decode cX8_happens 49 = .ok (.iload_n 3, 1) := dk_29 (dk_at dksX8_happens_2 3 rfl rfl)
theorem dX8_happens_50 : decode cX8_happens 50 = .ok (.iaload, 1) := dk_46 (dk_at dksX8_happens_2 4 rfl rfl)
theorem dX8_happens_51 : decode cX8_happens 51 = .ok (.tableswitch 81 0 2 #[25, 46, 60], 25) := by decide +kernel
theorem dX8_happens_76 : decode cX8_happens 76 = .ok (.aload_n 0, 1) := dk_42 (dk_at dksX8_happens_4 0 rfl rfl)
theorem dX8_happens_77 : decode cX8_happens 77 = .ok (.getfield 21, 3) := dk_180 0 21 (dk_at dksX8_happens_4 1 rfl rfl)
theorem dX8_happens_80 : decode cX8_happens 80 = .ok (.iconst 0, 1) := dk_3 (dk_at dksX8_happens_4 4 rfl rfl)
theorem dX8_happens_81 : decode cX8_happens 81 = .ok (.iload 4, 2) := dk_21 4 (dk_at dksX8_happens_4 5 rfl rfl)
theorem dX8_happens_83 : decode cX8_happens 83 = .ok (.iadd, 1) := dk_96 (dk_at dksX8_happens_4 7 rfl rfl)
theorem dX8_happens_84 : decode cX8_happens 84 = .ok (.aload_n 0, 1) := dk_42 (dk_at dksX8_happens_4 8 rfl rfl)
theorem dX8_happens_85 : decode cX8_happens 85 = .ok (.getfield 316, 3) := dk_180 1 60 (dk_at dksX8_happens_4 9 rfl rfl)
theorem dX8_happens_88 : decode cX8_happens 88 = .ok (.getfield 292, 3) := dk_180 1 36 (dk_at dksX8_happens_4 12 rfl rfl)
theorem dX8_happens_91 : decode cX8_happens 91 = .ok (.iload_n 3, 1) := dk_29 (dk_at dksX8_happens_4 15 rfl rfl)
theorem dX8_happens_92 : decode cX8_happens 92 = .ok (.iaload, 1) := dk_46 (dk_at dksX8_happens_4 16 rfl rfl)
theorem dX8_happens_93 : decode cX8_happens 93 = .ok (.iastore, 1) := dk_79 (dk_at dksX8_happens_4 17 rfl rfl)
theorem dX8_happens_94 : decode cX8_happens 94 = .ok (.goto 40, 3) := dk_167 0 40 (dk_at dksX8_happens_4 18 rfl rfl)
theorem dX8_happens_97 : decode cX8_happens 97 = .ok (.aload_n 0, 1) := dk_42 (dk_at dksX8_happens_4 21 rfl rfl)
theorem dX8_happens_98 : decode cX8_happens 98 = .ok (.getfield 21, 3) := dk_180 0 21 (dk_at dksX8_happens_5 0 rfl rfl)
theorem dX8_happens_101 : decode cX8_happens 101 = .ok (.iconst 0, 1) := dk_3 (dk_at dksX8_happens_5 3 rfl rfl)
theorem dX8_happens_102 : decode cX8_happens 102 = .ok (.iload 4, 2) := dk_21 4 (dk_at dksX8_happens_5 4 rfl rfl)
theorem dX8_happens_104 : decode cX8_happens 104 = .ok (.iadd, 1) := dk_96 (dk_at dksX8_happens_5 6 rfl rfl)
theorem dX8_happens_105 : decode cX8_happens 105 = .ok (.bipush (-2), 2) := dk_16 254 (dk_at dksX8_happens_5 7 rfl rfl)
theorem dX8_happens_107 : decode cX8_happens 107 = .ok (.iastore, 1) := dk_79 (dk_at dksX8_happens_5 9 rfl rfl)
theorem dX8_happens_108 : decode cX8_happens 108 = .ok (.goto 26, 3) := dk_167 0 26 (dk_at dksX8_happens_5 10 rfl rfl)
theorem dX8_happens_111 : decode cX8_happens 111 = .ok (.aload_n 0, 1) := dk_42 (dk_at dksX8_happens_5 13 rfl rfl)
theorem dX8_happens_112 : decode cX8_happens 112 = .ok (.getfield 21, 3) := dk_180 0 21 (dk_at dksX8_happens_5 14 rfl rfl)
theorem dX8_happens_115 : decode cX8_happens 115 = .ok (.iload 4, 2) := dk_21 4 (dk_at dksX8_happens_5 17 rfl rfl)
theorem dX8_happens_117 : decode cX8_happens 117 = .ok (.aload_n 0, 1) := dk_42 (dk_at dksX8_happens_5 19 rfl rfl)
theorem dX8_happens_118 : decode cX8_happens 118 = .ok (.getfield 316, 3) := dk_180 1 60 (dk_at dksX8_happens_5 20 rfl rfl)
theorem dX8_happens_121 : decode cX8_happens 121 = .ok (.getfield 292, 3) := dk_180 1 36 (dk_at dksX8_happens_6 0 rfl rfl)
theorem dX8_happens_124 : decode cX8_happens 124 = .ok (.iload_n 3, 1) := dk_29 (dk_at dksX8_happens_6 3 rfl rfl)
theorem dX8_happens_125 : decode cX8_happens 125 = .ok (.iaload, 1) := dk_46 (dk_at dksX8_happens_6 4 rfl rfl)
theorem dX8_happens_126 : decode cX8_happens 126 = .ok (.invokestatic 345, 3) := dk_184 1 89 (dk_at dksX8_happens_6 5 rfl rfl)
theorem dX8_happens_129 : decode cX8_happens 129 = .ok (.goto 5, 3) := dk_167 0 5 (dk_at dksX8_happens_6 8 rfl rfl)
theorem dX8_happens_132 : decode cX8_happens 132 = .ok (.iconst 1, 1) := dk_4 (dk_at dksX8_happens_6 11 rfl rfl)
theorem dX8_happens_133 : decode cX8_happens 133 = .ok (.istore_n 2, 1) := dk_61 (dk_at dksX8_happens_6 12 rfl rfl)
theorem dX8_happens_134 : decode cX8_happens 134 = .ok (.iinc 3 1, 3) := dk_132 3 1 (dk_at dksX8_happens_6 13 rfl rfl)
theorem dX8_happens_137 : decode cX8_happens 137 = .ok (.goto (-133), 3) := dk_167 255 123 (dk_at dksX8_happens_6 16 rfl rfl)
theorem dX8_happens_140 : decode cX8_happens 140 = .ok (.iload_n 2, 1) := dk_28 (dk_at dksX8_happens_6 19 rfl rfl)
theorem dX8_happens_141 : decode cX8_happens 141 = .ok (.ireturn, 1) := dk_172 (dk_at dksX8_happens_6 20 rfl rfl)
abbrev cX8_changes : ByteArray := prog_26_method_50_code
def yX8_changes : MethodName := ⟨RX8, "changes", "([III)V"⟩
def dkwX8_changes_0 : List UInt8 := [42, 3, 27, 96, 46, 62, 42, 3, 27, 96, 42, 3, 28, 96, 46, 79, 42, 3, 28, 96, 29, 79, 177]
abbrev dktX8_changes_0 : List UInt8 := dkwX8_changes_0 ++ []
theorem dksX8_changes_0 : cX8_changes.data.toList.drop 0 = dktX8_changes_0 := by decide +kernel
theorem dX8_changes_0 : decode cX8_changes 0 = .ok (.aload_n 0, 1) := dk_42 (dk_at dksX8_changes_0 0 rfl rfl)
theorem dX8_changes_1 : decode cX8_changes 1 = .ok (.iconst 0, 1) := dk_3 (dk_at dksX8_changes_0 1 rfl rfl)
theorem dX8_changes_2 : decode cX8_changes 2 = .ok (.iload_n 1, 1) := dk_27 (dk_at dksX8_changes_0 2 rfl rfl)
theorem dX8_changes_3 : decode cX8_changes 3 = .ok (.iadd, 1) := dk_96 (dk_at dksX8_changes_0 3 rfl rfl)
theorem dX8_changes_4 : decode cX8_changes 4 = .ok (.iaload, 1) := dk_46 (dk_at dksX8_changes_0 4 rfl rfl)
theorem dX8_changes_5 : decode cX8_changes 5 = .ok (.istore_n 3, 1) := dk_62 (dk_at dksX8_changes_0 5 rfl rfl)
theorem dX8_changes_6 : decode cX8_changes 6 = .ok (.aload_n 0, 1) := dk_42 (dk_at dksX8_changes_0 6 rfl rfl)
theorem dX8_changes_7 : decode cX8_changes 7 = .ok (.iconst 0, 1) := dk_3 (dk_at dksX8_changes_0 7 rfl rfl)
theorem dX8_changes_8 : decode cX8_changes 8 = .ok (.iload_n 1, 1) := dk_27 (dk_at dksX8_changes_0 8 rfl rfl)
theorem dX8_changes_9 : decode cX8_changes 9 = .ok (.iadd, 1) := dk_96 (dk_at dksX8_changes_0 9 rfl rfl)
theorem dX8_changes_10 : decode cX8_changes 10 = .ok (.aload_n 0, 1) := dk_42 (dk_at dksX8_changes_0 10 rfl rfl)
theorem dX8_changes_11 : decode cX8_changes 11 = .ok (.iconst 0, 1) := dk_3 (dk_at dksX8_changes_0 11 rfl rfl)
theorem dX8_changes_12 : decode cX8_changes 12 = .ok (.iload_n 2, 1) := dk_28 (dk_at dksX8_changes_0 12 rfl rfl)
theorem dX8_changes_13 : decode cX8_changes 13 = .ok (.iadd, 1) := dk_96 (dk_at dksX8_changes_0 13 rfl rfl)
theorem dX8_changes_14 : decode cX8_changes 14 = .ok (.iaload, 1) := dk_46 (dk_at dksX8_changes_0 14 rfl rfl)
theorem dX8_changes_15 : decode cX8_changes 15 = .ok (.iastore, 1) := dk_79 (dk_at dksX8_changes_0 15 rfl rfl)
theorem dX8_changes_16 : decode cX8_changes 16 = .ok (.aload_n 0, 1) := dk_42 (dk_at dksX8_changes_0 16 rfl rfl)
theorem dX8_changes_17 : decode cX8_changes 17 = .ok (.iconst 0, 1) := dk_3 (dk_at dksX8_changes_0 17 rfl rfl)
theorem dX8_changes_18 : decode cX8_changes 18 = .ok (.iload_n 2, 1) := dk_28 (dk_at dksX8_changes_0 18 rfl rfl)
theorem dX8_changes_19 : decode cX8_changes 19 = .ok (.iadd, 1) := dk_96 (dk_at dksX8_changes_0 19 rfl rfl)
theorem dX8_changes_20 : decode cX8_changes 20 = .ok (.iload_n 3, 1) := dk_29 (dk_at dksX8_changes_0 20 rfl rfl)
theorem dX8_changes_21 : decode cX8_changes 21 = .ok (.iastore, 1) := dk_79 (dk_at dksX8_changes_0 21 rfl rfl)
theorem dX8_changes_22 : decode cX8_changes 22 = .ok (.return_, 1) := dk_177 (dk_at dksX8_changes_0 22 rfl rfl)
abbrev cX8_ends : ByteArray := prog_26_method_53_code
def yX8_ends : MethodName := ⟨RX8, "ends", "([IZ)V"⟩
def dkwX8_ends_8 : List UInt8 := [167, 255, 223, 177]
abbrev dktX8_ends_8 : List UInt8 := dkwX8_ends_8 ++ []
def dkwX8_ends_7 : List UInt8 := [42, 180, 1, 60, 180, 0, 251, 29, 46, 5, 160, 0, 9, 42, 43, 29, 182, 1, 78, 132, 3, 1]
abbrev dktX8_ends_7 : List UInt8 := dkwX8_ends_7 ++ dktX8_ends_8
def dkwX8_ends_6 : List UInt8 := [180, 0, 156, 161, 0, 8, 42, 43, 182, 1, 75, 3, 62, 29, 42, 180, 1, 60, 180, 0, 191, 162, 0, 28]
abbrev dktX8_ends_6 : List UInt8 := dkwX8_ends_6 ++ dktX8_ends_7
def dkwX8_ends_5 : List UInt8 := [16, 10, 46, 16, 30, 162, 0, 11, 43, 16, 10, 92, 46, 4, 96, 79, 43, 16, 10, 46, 42, 180, 1, 60]
abbrev dktX8_ends_5 : List UInt8 := dkwX8_ends_5 ++ dktX8_ends_6
def dkwX8_ends_4 : List UInt8 := [96, 21, 4, 79, 132, 3, 1, 167, 255, 158, 28, 153, 0, 11, 43, 16, 10, 3, 79, 167, 0, 20, 43]
abbrev dktX8_ends_4 : List UInt8 := dkwX8_ends_4 ++ dktX8_ends_5
def dkwX8_ends_3 : List UInt8 := [21, 5, 153, 0, 26, 21, 4, 16, 254, 159, 0, 19, 42, 21, 4, 182, 1, 72, 154, 0, 10, 43, 8, 29]
abbrev dktX8_ends_3 : List UInt8 := dkwX8_ends_3 ++ dktX8_ends_4
def dkwX8_ends_2 : List UInt8 := [153, 0, 20, 42, 180, 1, 60, 180, 1, 14, 29, 46, 5, 159, 0, 7, 4, 167, 0, 4, 3, 54, 5]
abbrev dktX8_ends_2 : List UInt8 := dkwX8_ends_2 ++ dktX8_ends_3
def dkwX8_ends_1 : List UInt8 := [180, 1, 14, 29, 46, 6, 160, 0, 15, 28, 154, 0, 7, 4, 167, 0, 29, 3, 167, 0, 25, 28]
abbrev dktX8_ends_1 : List UInt8 := dkwX8_ends_1 ++ dktX8_ends_2
def dkwX8_ends_0 : List UInt8 := [3, 62, 29, 42, 180, 1, 60, 180, 0, 194, 162, 0, 93, 43, 3, 29, 96, 46, 54, 4, 42, 180, 1, 60]
abbrev dktX8_ends_0 : List UInt8 := dkwX8_ends_0 ++ dktX8_ends_1
theorem dksX8_ends_0 : cX8_ends.data.toList.drop 0 = dktX8_ends_0 := by decide +kernel
theorem dksX8_ends_1 : cX8_ends.data.toList.drop 24 = dktX8_ends_1 := dk_seg dksX8_ends_0 24 rfl rfl
theorem dksX8_ends_2 : cX8_ends.data.toList.drop 46 = dktX8_ends_2 := dk_seg dksX8_ends_1 22 rfl rfl
theorem dksX8_ends_3 : cX8_ends.data.toList.drop 69 = dktX8_ends_3 := dk_seg dksX8_ends_2 23 rfl rfl
theorem dksX8_ends_4 : cX8_ends.data.toList.drop 93 = dktX8_ends_4 := dk_seg dksX8_ends_3 24 rfl rfl
theorem dksX8_ends_5 : cX8_ends.data.toList.drop 116 = dktX8_ends_5 := dk_seg dksX8_ends_4 23 rfl rfl
theorem dksX8_ends_6 : cX8_ends.data.toList.drop 140 = dktX8_ends_6 := dk_seg dksX8_ends_5 24 rfl rfl
theorem dksX8_ends_7 : cX8_ends.data.toList.drop 164 = dktX8_ends_7 := dk_seg dksX8_ends_6 24 rfl rfl
theorem dksX8_ends_8 : cX8_ends.data.toList.drop 186 = dktX8_ends_8 := dk_seg dksX8_ends_7 22 rfl rfl
theorem dX8_ends_0 : decode cX8_ends 0 = .ok (.iconst 0, 1) := dk_3 (dk_at dksX8_ends_0 0 rfl rfl)
theorem dX8_ends_1 : decode cX8_ends 1 = .ok (.istore_n 3, 1) := dk_62 (dk_at dksX8_ends_0 1 rfl rfl)
theorem dX8_ends_2 : decode cX8_ends 2 = .ok (.iload_n 3, 1) := dk_29 (dk_at dksX8_ends_0 2 rfl rfl)
theorem dX8_ends_3 : decode cX8_ends 3 = .ok (.aload_n 0, 1) := dk_42 (dk_at dksX8_ends_0 3 rfl rfl)
theorem dX8_ends_4 : decode cX8_ends 4 = .ok (.getfield 316, 3) := dk_180 1 60 (dk_at dksX8_ends_0 4 rfl rfl)
theorem dX8_ends_7 : decode cX8_ends 7 = .ok (.getfield 194, 3) := dk_180 0 194 (dk_at dksX8_ends_0 7 rfl rfl)
theorem dX8_ends_10 : decode cX8_ends 10 = .ok (.if_icmp .ge 93, 3) := dk_162 0 93 (dk_at dksX8_ends_0 10 rfl rfl)
theorem dX8_ends_13 : decode cX8_ends 13 = .ok (.aload_n 1, 1) := dk_43 (dk_at dksX8_ends_0 13 rfl rfl)
theorem dX8_ends_14 : decode cX8_ends 14 = .ok (.iconst 0, 1) := dk_3 (dk_at dksX8_ends_0 14 rfl rfl)
theorem dX8_ends_15 : decode cX8_ends 15 = .ok (.iload_n 3, 1) := dk_29 (dk_at dksX8_ends_0 15 rfl rfl)
theorem dX8_ends_16 : decode cX8_ends 16 = .ok (.iadd, 1) := dk_96 (dk_at dksX8_ends_0 16 rfl rfl)
theorem dX8_ends_17 : decode cX8_ends 17 = .ok (.iaload, 1) := dk_46 (dk_at dksX8_ends_0 17 rfl rfl)
theorem dX8_ends_18 : decode cX8_ends 18 = .ok (.istore 4, 2) := dk_54 4 (dk_at dksX8_ends_0 18 rfl rfl)
theorem dX8_ends_20 : decode cX8_ends 20 = .ok (.aload_n 0, 1) := dk_42 (dk_at dksX8_ends_0 20 rfl rfl)
theorem dX8_ends_21 : decode cX8_ends 21 = .ok (.getfield 316, 3) := dk_180 1 60 (dk_at dksX8_ends_0 21 rfl rfl)
theorem dX8_ends_24 : decode cX8_ends 24 = .ok (.getfield 270, 3) := dk_180 1 14 (dk_at dksX8_ends_1 0 rfl rfl)
theorem dX8_ends_27 : decode cX8_ends 27 = .ok (.iload_n 3, 1) := dk_29 (dk_at dksX8_ends_1 3 rfl rfl)
theorem dX8_ends_28 : decode cX8_ends 28 = .ok (.iaload, 1) := dk_46 (dk_at dksX8_ends_1 4 rfl rfl)
theorem dX8_ends_29 : decode cX8_ends 29 = .ok (.iconst 3, 1) := dk_6 (dk_at dksX8_ends_1 5 rfl rfl)
theorem dX8_ends_30 : decode cX8_ends 30 = .ok (.if_icmp .ne 15, 3) := dk_160 0 15 (dk_at dksX8_ends_1 6 rfl rfl)
theorem dX8_ends_33 : decode cX8_ends 33 = .ok (.iload_n 2, 1) := dk_28 (dk_at dksX8_ends_1 9 rfl rfl)
theorem dX8_ends_34 : decode cX8_ends 34 = .ok (.ifCond .ne 7, 3) := dk_154 0 7 (dk_at dksX8_ends_1 10 rfl rfl)
theorem dX8_ends_37 : decode cX8_ends 37 = .ok (.iconst 1, 1) := dk_4 (dk_at dksX8_ends_1 13 rfl rfl)
theorem dX8_ends_38 : decode cX8_ends 38 = .ok (.goto 29, 3) := dk_167 0 29 (dk_at dksX8_ends_1 14 rfl rfl)
theorem dX8_ends_41 : decode cX8_ends 41 = .ok (.iconst 0, 1) := dk_3 (dk_at dksX8_ends_1 17 rfl rfl)
theorem dX8_ends_42 : decode cX8_ends 42 = .ok (.goto 25, 3) := dk_167 0 25 (dk_at dksX8_ends_1 18 rfl rfl)
theorem dX8_ends_45 : decode cX8_ends 45 = .ok (.iload_n 2, 1) := dk_28 (dk_at dksX8_ends_1 21 rfl rfl)
theorem dX8_ends_46 : decode cX8_ends 46 = .ok (.ifCond .eq 20, 3) := dk_153 0 20 (dk_at dksX8_ends_2 0 rfl rfl)
theorem dX8_ends_49 : decode cX8_ends 49 = .ok (.aload_n 0, 1) := dk_42 (dk_at dksX8_ends_2 3 rfl rfl)
theorem dX8_ends_50 : decode cX8_ends 50 = .ok (.getfield 316, 3) := dk_180 1 60 (dk_at dksX8_ends_2 4 rfl rfl)
theorem dX8_ends_53 : decode cX8_ends 53 = .ok (.getfield 270, 3) := dk_180 1 14 (dk_at dksX8_ends_2 7 rfl rfl)
theorem dX8_ends_56 : decode cX8_ends 56 = .ok (.iload_n 3, 1) := dk_29 (dk_at dksX8_ends_2 10 rfl rfl)
theorem dX8_ends_57 : decode cX8_ends 57 = .ok (.iaload, 1) := dk_46 (dk_at dksX8_ends_2 11 rfl rfl)
theorem dX8_ends_58 : decode cX8_ends 58 = .ok (.iconst 2, 1) := dk_5 (dk_at dksX8_ends_2 12 rfl rfl)
theorem dX8_ends_59 : decode cX8_ends 59 = .ok (.if_icmp .eq 7, 3) := dk_159 0 7 (dk_at dksX8_ends_2 13 rfl rfl)
theorem dX8_ends_62 : decode cX8_ends 62 = .ok (.iconst 1, 1) := dk_4 (dk_at dksX8_ends_2 16 rfl rfl)
theorem dX8_ends_63 : decode cX8_ends 63 = .ok (.goto 4, 3) := dk_167 0 4 (dk_at dksX8_ends_2 17 rfl rfl)
theorem dX8_ends_66 : decode cX8_ends 66 = .ok (.iconst 0, 1) := dk_3 (dk_at dksX8_ends_2 20 rfl rfl)
theorem dX8_ends_67 : decode cX8_ends 67 = .ok (.istore 5, 2) := dk_54 5 (dk_at dksX8_ends_2 21 rfl rfl)
theorem dX8_ends_69 : decode cX8_ends 69 = .ok (.iload 5, 2) := dk_21 5 (dk_at dksX8_ends_3 0 rfl rfl)
theorem dX8_ends_71 : decode cX8_ends 71 = .ok (.ifCond .eq 26, 3) := dk_153 0 26 (dk_at dksX8_ends_3 2 rfl rfl)
theorem dX8_ends_74 : decode cX8_ends 74 = .ok (.iload 4, 2) := dk_21 4 (dk_at dksX8_ends_3 5 rfl rfl)
theorem dX8_ends_76 : decode cX8_ends 76 = .ok (.bipush (-2), 2) := dk_16 254 (dk_at dksX8_ends_3 7 rfl rfl)
theorem dX8_ends_78 : decode cX8_ends 78 = .ok (.if_icmp .eq 19, 3) := dk_159 0 19 (dk_at dksX8_ends_3 9 rfl rfl)
theorem dX8_ends_81 : decode cX8_ends 81 = .ok (.aload_n 0, 1) := dk_42 (dk_at dksX8_ends_3 12 rfl rfl)
theorem dX8_ends_82 : decode cX8_ends 82 = .ok (.iload 4, 2) := dk_21 4 (dk_at dksX8_ends_3 13 rfl rfl)
theorem dX8_ends_84 : decode cX8_ends 84 = .ok (.invokevirtual 328, 3) := dk_182 1 72 (dk_at dksX8_ends_3 15 rfl rfl)
theorem dX8_ends_87 : decode cX8_ends 87 = .ok (.ifCond .ne 10, 3) := dk_154 0 10 (dk_at dksX8_ends_3 18 rfl rfl)
theorem dX8_ends_90 : decode cX8_ends 90 = .ok (.aload_n 1, 1) := dk_43 (dk_at dksX8_ends_3 21 rfl rfl)
theorem dX8_ends_91 : decode cX8_ends 91 = .ok (.iconst 5, 1) := dk_8 (dk_at dksX8_ends_3 22 rfl rfl)
theorem dX8_ends_92 : decode cX8_ends 92 = .ok (.iload_n 3, 1) := dk_29 (dk_at dksX8_ends_3 23 rfl rfl)
theorem dX8_ends_93 : decode cX8_ends 93 = .ok (.iadd, 1) := dk_96 (dk_at dksX8_ends_4 0 rfl rfl)
theorem dX8_ends_94 : decode cX8_ends 94 = .ok (.iload 4, 2) := dk_21 4 (dk_at dksX8_ends_4 1 rfl rfl)
theorem dX8_ends_96 : decode cX8_ends 96 = .ok (.iastore, 1) := dk_79 (dk_at dksX8_ends_4 3 rfl rfl)
theorem dX8_ends_97 : decode cX8_ends 97 = .ok (.iinc 3 1, 3) := dk_132 3 1 (dk_at dksX8_ends_4 4 rfl rfl)
theorem dX8_ends_100 : decode cX8_ends 100 = .ok (.goto (-98), 3) := dk_167 255 158 (dk_at dksX8_ends_4 7 rfl rfl)
theorem dX8_ends_103 : decode cX8_ends 103 = .ok (.iload_n 2, 1) := dk_28 (dk_at dksX8_ends_4 10 rfl rfl)
theorem dX8_ends_104 : decode cX8_ends 104 = .ok (.ifCond .eq 11, 3) := dk_153 0 11 (dk_at dksX8_ends_4 11 rfl rfl)
theorem dX8_ends_107 : decode cX8_ends 107 = .ok (.aload_n 1, 1) := dk_43 (dk_at dksX8_ends_4 14 rfl rfl)
theorem dX8_ends_108 : decode cX8_ends 108 = .ok (.bipush 10, 2) := dk_16 10 (dk_at dksX8_ends_4 15 rfl rfl)
theorem dX8_ends_110 : decode cX8_ends 110 = .ok (.iconst 0, 1) := dk_3 (dk_at dksX8_ends_4 17 rfl rfl)
theorem dX8_ends_111 : decode cX8_ends 111 = .ok (.iastore, 1) := dk_79 (dk_at dksX8_ends_4 18 rfl rfl)
theorem dX8_ends_112 : decode cX8_ends 112 = .ok (.goto 20, 3) := dk_167 0 20 (dk_at dksX8_ends_4 19 rfl rfl)
theorem dX8_ends_115 : decode cX8_ends 115 = .ok (.aload_n 1, 1) := dk_43 (dk_at dksX8_ends_4 22 rfl rfl)
theorem dX8_ends_116 : decode cX8_ends 116 = .ok (.bipush 10, 2) := dk_16 10 (dk_at dksX8_ends_5 0 rfl rfl)
theorem dX8_ends_118 : decode cX8_ends 118 = .ok (.iaload, 1) := dk_46 (dk_at dksX8_ends_5 2 rfl rfl)
theorem dX8_ends_119 : decode cX8_ends 119 = .ok (.bipush 30, 2) := dk_16 30 (dk_at dksX8_ends_5 3 rfl rfl)
theorem dX8_ends_121 : decode cX8_ends 121 = .ok (.if_icmp .ge 11, 3) := dk_162 0 11 (dk_at dksX8_ends_5 5 rfl rfl)
theorem dX8_ends_124 : decode cX8_ends 124 = .ok (.aload_n 1, 1) := dk_43 (dk_at dksX8_ends_5 8 rfl rfl)
theorem dX8_ends_125 : decode cX8_ends 125 = .ok (.bipush 10, 2) := dk_16 10 (dk_at dksX8_ends_5 9 rfl rfl)
theorem dX8_ends_127 : decode cX8_ends 127 = .ok (.dup2, 1) := dk_92 (dk_at dksX8_ends_5 11 rfl rfl)
theorem dX8_ends_128 : decode cX8_ends 128 = .ok (.iaload, 1) := dk_46 (dk_at dksX8_ends_5 12 rfl rfl)
theorem dX8_ends_129 : decode cX8_ends 129 = .ok (.iconst 1, 1) := dk_4 (dk_at dksX8_ends_5 13 rfl rfl)
theorem dX8_ends_130 : decode cX8_ends 130 = .ok (.iadd, 1) := dk_96 (dk_at dksX8_ends_5 14 rfl rfl)
theorem dX8_ends_131 : decode cX8_ends 131 = .ok (.iastore, 1) := dk_79 (dk_at dksX8_ends_5 15 rfl rfl)
theorem dX8_ends_132 : decode cX8_ends 132 = .ok (.aload_n 1, 1) := dk_43 (dk_at dksX8_ends_5 16 rfl rfl)
theorem dX8_ends_133 : decode cX8_ends 133 = .ok (.bipush 10, 2) := dk_16 10 (dk_at dksX8_ends_5 17 rfl rfl)
theorem dX8_ends_135 : decode cX8_ends 135 = .ok (.iaload, 1) := dk_46 (dk_at dksX8_ends_5 19 rfl rfl)
theorem dX8_ends_136 : decode cX8_ends 136 = .ok (.aload_n 0, 1) := dk_42 (dk_at dksX8_ends_5 20 rfl rfl)
theorem dX8_ends_137 : decode cX8_ends 137 = .ok (.getfield 316, 3) := dk_180 1 60 (dk_at dksX8_ends_5 21 rfl rfl)
theorem dX8_ends_140 : decode cX8_ends 140 = .ok (.getfield 156, 3) := dk_180 0 156 (dk_at dksX8_ends_6 0 rfl rfl)
theorem dX8_ends_143 : decode cX8_ends 143 = .ok (.if_icmp .lt 8, 3) := dk_161 0 8 (dk_at dksX8_ends_6 3 rfl rfl)
theorem dX8_ends_146 : decode cX8_ends 146 = .ok (.aload_n 0, 1) := dk_42 (dk_at dksX8_ends_6 6 rfl rfl)
theorem dX8_ends_147 : decode cX8_ends 147 = .ok (.aload_n 1, 1) := dk_43 (dk_at dksX8_ends_6 7 rfl rfl)
theorem dX8_ends_148 : decode cX8_ends 148 = .ok (.invokevirtual 331, 3) := dk_182 1 75 (dk_at dksX8_ends_6 8 rfl rfl)
theorem dX8_ends_151 : decode cX8_ends 151 = .ok (.iconst 0, 1) := dk_3 (dk_at dksX8_ends_6 11 rfl rfl)
theorem dX8_ends_152 : decode cX8_ends 152 = .ok (.istore_n 3, 1) := dk_62 (dk_at dksX8_ends_6 12 rfl rfl)
theorem dX8_ends_153 : decode cX8_ends 153 = .ok (.iload_n 3, 1) := dk_29 (dk_at dksX8_ends_6 13 rfl rfl)
theorem dX8_ends_154 : decode cX8_ends 154 = .ok (.aload_n 0, 1) := dk_42 (dk_at dksX8_ends_6 14 rfl rfl)
theorem dX8_ends_155 : decode cX8_ends 155 = .ok (.getfield 316, 3) := dk_180 1 60 (dk_at dksX8_ends_6 15 rfl rfl)
theorem dX8_ends_158 : decode cX8_ends 158 = .ok (.getfield 191, 3) := dk_180 0 191 (dk_at dksX8_ends_6 18 rfl rfl)
theorem dX8_ends_161 : decode cX8_ends 161 = .ok (.if_icmp .ge 28, 3) := dk_162 0 28 (dk_at dksX8_ends_6 21 rfl rfl)
theorem dX8_ends_164 : decode cX8_ends 164 = .ok (.aload_n 0, 1) := dk_42 (dk_at dksX8_ends_7 0 rfl rfl)
theorem dX8_ends_165 : decode cX8_ends 165 = .ok (.getfield 316, 3) := dk_180 1 60 (dk_at dksX8_ends_7 1 rfl rfl)
theorem dX8_ends_168 : decode cX8_ends 168 = .ok (.getfield 251, 3) := dk_180 0 251 (dk_at dksX8_ends_7 4 rfl rfl)
theorem dX8_ends_171 : decode cX8_ends 171 = .ok (.iload_n 3, 1) := dk_29 (dk_at dksX8_ends_7 7 rfl rfl)
theorem dX8_ends_172 : decode cX8_ends 172 = .ok (.iaload, 1) := dk_46 (dk_at dksX8_ends_7 8 rfl rfl)
theorem dX8_ends_173 : decode cX8_ends 173 = .ok (.iconst 2, 1) := dk_5 (dk_at dksX8_ends_7 9 rfl rfl)
theorem dX8_ends_174 : decode cX8_ends 174 = .ok (.if_icmp .ne 9, 3) := dk_160 0 9 (dk_at dksX8_ends_7 10 rfl rfl)
theorem dX8_ends_177 : decode cX8_ends 177 = .ok (.aload_n 0, 1) := dk_42 (dk_at dksX8_ends_7 13 rfl rfl)
theorem dX8_ends_178 : decode cX8_ends 178 = .ok (.aload_n 1, 1) := dk_43 (dk_at dksX8_ends_7 14 rfl rfl)
theorem dX8_ends_179 : decode cX8_ends 179 = .ok (.iload_n 3, 1) := dk_29 (dk_at dksX8_ends_7 15 rfl rfl)
theorem dX8_ends_180 : decode cX8_ends 180 = .ok (.invokevirtual 334, 3) := dk_182 1 78 (dk_at dksX8_ends_7 16 rfl rfl)
theorem dX8_ends_183 : decode cX8_ends 183 = .ok (.iinc 3 1, 3) := dk_132 3 1 (dk_at dksX8_ends_7 19 rfl rfl)
theorem dX8_ends_186 : decode cX8_ends 186 = .ok (.goto (-33), 3) := dk_167 255 223 (dk_at dksX8_ends_8 0 rfl rfl)
theorem dX8_ends_189 : decode cX8_ends 189 = .ok (.return_, 1) := dk_177 (dk_at dksX8_ends_8 3 rfl rfl)
abbrev cX8_lapses : ByteArray := prog_26_method_54_code
def yX8_lapses : MethodName := ⟨RX8, "lapses", "([I)V"⟩
def dkwX8_lapses_1 : List UInt8 := [153, 0, 10, 43, 8, 28, 96, 16, 254, 79, 132, 2, 1, 167, 255, 223, 177]
abbrev dktX8_lapses_1 : List UInt8 := dkwX8_lapses_1 ++ []
def dkwX8_lapses_0 : List UInt8 := [3, 61, 28, 42, 180, 1, 60, 180, 0, 194, 162, 0, 28, 42, 180, 1, 60, 180, 1, 14, 28, 46]
abbrev dktX8_lapses_0 : List UInt8 := dkwX8_lapses_0 ++ dktX8_lapses_1
theorem dksX8_lapses_0 : cX8_lapses.data.toList.drop 0 = dktX8_lapses_0 := by decide +kernel
theorem dksX8_lapses_1 : cX8_lapses.data.toList.drop 22 = dktX8_lapses_1 := dk_seg dksX8_lapses_0 22 rfl rfl
theorem dX8_lapses_0 : decode cX8_lapses 0 = .ok (.iconst 0, 1) := dk_3 (dk_at dksX8_lapses_0 0 rfl rfl)
theorem dX8_lapses_1 : decode cX8_lapses 1 = .ok (.istore_n 2, 1) := dk_61 (dk_at dksX8_lapses_0 1 rfl rfl)
theorem dX8_lapses_2 : decode cX8_lapses 2 = .ok (.iload_n 2, 1) := dk_28 (dk_at dksX8_lapses_0 2 rfl rfl)
theorem dX8_lapses_3 : decode cX8_lapses 3 = .ok (.aload_n 0, 1) := dk_42 (dk_at dksX8_lapses_0 3 rfl rfl)
theorem dX8_lapses_4 : decode cX8_lapses 4 = .ok (.getfield 316, 3) := dk_180 1 60 (dk_at dksX8_lapses_0 4 rfl rfl)
theorem dX8_lapses_7 : decode cX8_lapses 7 = .ok (.getfield 194, 3) := dk_180 0 194 (dk_at dksX8_lapses_0 7 rfl rfl)
theorem dX8_lapses_10 : decode cX8_lapses 10 = .ok (.if_icmp .ge 28, 3) := dk_162 0 28 (dk_at dksX8_lapses_0 10 rfl rfl)
theorem dX8_lapses_13 : decode cX8_lapses 13 = .ok (.aload_n 0, 1) := dk_42 (dk_at dksX8_lapses_0 13 rfl rfl)
theorem dX8_lapses_14 : decode cX8_lapses 14 = .ok (.getfield 316, 3) := dk_180 1 60 (dk_at dksX8_lapses_0 14 rfl rfl)
theorem dX8_lapses_17 : decode cX8_lapses 17 = .ok (.getfield 270, 3) := dk_180 1 14 (dk_at dksX8_lapses_0 17 rfl rfl)
theorem dX8_lapses_20 : decode cX8_lapses 20 = .ok (.iload_n 2, 1) := dk_28 (dk_at dksX8_lapses_0 20 rfl rfl)
theorem dX8_lapses_21 : decode cX8_lapses 21 = .ok (.iaload, 1) := dk_46 (dk_at dksX8_lapses_0 21 rfl rfl)
theorem dX8_lapses_22 : decode cX8_lapses 22 = .ok (.ifCond .eq 10, 3) := dk_153 0 10 (dk_at dksX8_lapses_1 0 rfl rfl)
theorem dX8_lapses_25 : decode cX8_lapses 25 = .ok (.aload_n 1, 1) := dk_43 (dk_at dksX8_lapses_1 3 rfl rfl)
theorem dX8_lapses_26 : decode cX8_lapses 26 = .ok (.iconst 5, 1) := dk_8 (dk_at dksX8_lapses_1 4 rfl rfl)
theorem dX8_lapses_27 : decode cX8_lapses 27 = .ok (.iload_n 2, 1) := dk_28 (dk_at dksX8_lapses_1 5 rfl rfl)
theorem dX8_lapses_28 : decode cX8_lapses 28 = .ok (.iadd, 1) := dk_96 (dk_at dksX8_lapses_1 6 rfl rfl)
theorem dX8_lapses_29 : decode cX8_lapses 29 = .ok (.bipush (-2), 2) := dk_16 254 (dk_at dksX8_lapses_1 7 rfl rfl)
theorem dX8_lapses_31 : decode cX8_lapses 31 = .ok (.iastore, 1) := dk_79 (dk_at dksX8_lapses_1 9 rfl rfl)
theorem dX8_lapses_32 : decode cX8_lapses 32 = .ok (.iinc 2 1, 3) := dk_132 2 1 (dk_at dksX8_lapses_1 10 rfl rfl)
theorem dX8_lapses_35 : decode cX8_lapses 35 = .ok (.goto (-33), 3) := dk_167 255 223 (dk_at dksX8_lapses_1 13 rfl rfl)
theorem dX8_lapses_38 : decode cX8_lapses 38 = .ok (.return_, 1) := dk_177 (dk_at dksX8_lapses_1 16 rfl rfl)
abbrev cX8_forgets : ByteArray := prog_26_method_55_code
def yX8_forgets : MethodName := ⟨RX8, "forgets", "([II)V"⟩
def dkwX8_forgets_3 : List UInt8 := [162, 0, 6, 21, 4, 62, 132, 4, 1, 167, 255, 198, 43, 3, 29, 96, 16, 254, 79, 177]
abbrev dktX8_forgets_3 : List UInt8 := dkwX8_forgets_3 ++ []
def dkwX8_forgets_2 : List UInt8 := [159, 0, 25, 42, 180, 1, 60, 180, 1, 17, 21, 4, 46, 42, 180, 1, 60, 180, 1, 17, 29, 46]
abbrev dktX8_forgets_2 : List UInt8 := dkwX8_forgets_2 ++ dktX8_forgets_3
def dkwX8_forgets_1 : List UInt8 := [180, 1, 60, 180, 0, 194, 162, 0, 52, 43, 3, 21, 4, 96, 46, 28, 159, 0, 6, 167, 0, 33, 29, 2]
abbrev dktX8_forgets_1 : List UInt8 := dkwX8_forgets_1 ++ dktX8_forgets_2
def dkwX8_forgets_0 : List UInt8 := [42, 43, 28, 182, 1, 82, 184, 1, 86, 5, 162, 0, 4, 177, 2, 62, 3, 54, 4, 21, 4, 42]
abbrev dktX8_forgets_0 : List UInt8 := dkwX8_forgets_0 ++ dktX8_forgets_1
theorem dksX8_forgets_0 : cX8_forgets.data.toList.drop 0 = dktX8_forgets_0 := by decide +kernel
theorem dksX8_forgets_1 : cX8_forgets.data.toList.drop 22 = dktX8_forgets_1 := dk_seg dksX8_forgets_0 22 rfl rfl
theorem dksX8_forgets_2 : cX8_forgets.data.toList.drop 46 = dktX8_forgets_2 := dk_seg dksX8_forgets_1 24 rfl rfl
theorem dksX8_forgets_3 : cX8_forgets.data.toList.drop 68 = dktX8_forgets_3 := dk_seg dksX8_forgets_2 22 rfl rfl
theorem dX8_forgets_0 : decode cX8_forgets 0 = .ok (.aload_n 0, 1) := dk_42 (dk_at dksX8_forgets_0 0 rfl rfl)
theorem dX8_forgets_1 : decode cX8_forgets 1 = .ok (.aload_n 1, 1) := dk_43 (dk_at dksX8_forgets_0 1 rfl rfl)
theorem dX8_forgets_2 : decode cX8_forgets 2 = .ok (.iload_n 2, 1) := dk_28 (dk_at dksX8_forgets_0 2 rfl rfl)
theorem dX8_forgets_3 : decode cX8_forgets 3 = .ok (.invokevirtual 338, 3) := dk_182 1 82 (dk_at dksX8_forgets_0 3 rfl rfl)
theorem dX8_forgets_6 : decode cX8_forgets 6 = .ok (.invokestatic 342, 3) := dk_184 1 86 (dk_at dksX8_forgets_0 6 rfl rfl)
theorem dX8_forgets_9 : decode cX8_forgets 9 = .ok (.iconst 2, 1) := dk_5 (dk_at dksX8_forgets_0 9 rfl rfl)
theorem dX8_forgets_10 : decode cX8_forgets 10 = .ok (.if_icmp .ge 4, 3) := dk_162 0 4 (dk_at dksX8_forgets_0 10 rfl rfl)
theorem dX8_forgets_13 : decode cX8_forgets 13 = .ok (.return_, 1) := dk_177 (dk_at dksX8_forgets_0 13 rfl rfl)
theorem dX8_forgets_14 : decode cX8_forgets 14 = .ok (.iconst (-1), 1) := dk_2 (dk_at dksX8_forgets_0 14 rfl rfl)
theorem dX8_forgets_15 : decode cX8_forgets 15 = .ok (.istore_n 3, 1) := dk_62 (dk_at dksX8_forgets_0 15 rfl rfl)
theorem dX8_forgets_16 : decode cX8_forgets 16 = .ok (.iconst 0, 1) := dk_3 (dk_at dksX8_forgets_0 16 rfl rfl)
theorem dX8_forgets_17 : decode cX8_forgets 17 = .ok (.istore 4, 2) := dk_54 4 (dk_at dksX8_forgets_0 17 rfl rfl)
theorem dX8_forgets_19 : decode cX8_forgets 19 = .ok (.iload 4, 2) := dk_21 4 (dk_at dksX8_forgets_0 19 rfl rfl)
theorem dX8_forgets_21 : decode cX8_forgets 21 = .ok (.aload_n 0, 1) := dk_42 (dk_at dksX8_forgets_0 21 rfl rfl)
theorem dX8_forgets_22 : decode cX8_forgets 22 = .ok (.getfield 316, 3) := dk_180 1 60 (dk_at dksX8_forgets_1 0 rfl rfl)
theorem dX8_forgets_25 : decode cX8_forgets 25 = .ok (.getfield 194, 3) := dk_180 0 194 (dk_at dksX8_forgets_1 3 rfl rfl)
theorem dX8_forgets_28 : decode cX8_forgets 28 = .ok (.if_icmp .ge 52, 3) := dk_162 0 52 (dk_at dksX8_forgets_1 6 rfl rfl)
theorem dX8_forgets_31 : decode cX8_forgets 31 = .ok (.aload_n 1, 1) := dk_43 (dk_at dksX8_forgets_1 9 rfl rfl)
theorem dX8_forgets_32 : decode cX8_forgets 32 = .ok (.iconst 0, 1) := dk_3 (dk_at dksX8_forgets_1 10 rfl rfl)
theorem dX8_forgets_33 : decode cX8_forgets 33 = .ok (.iload 4, 2) := dk_21 4 (dk_at dksX8_forgets_1 11 rfl rfl)
theorem dX8_forgets_35 : decode cX8_forgets 35 = .ok (.iadd, 1) := dk_96 (dk_at dksX8_forgets_1 13 rfl rfl)
theorem dX8_forgets_36 : decode cX8_forgets 36 = .ok (.iaload, 1) := dk_46 (dk_at dksX8_forgets_1 14 rfl rfl)
theorem dX8_forgets_37 : decode cX8_forgets 37 = .ok (.iload_n 2, 1) := dk_28 (dk_at dksX8_forgets_1 15 rfl rfl)
theorem dX8_forgets_38 : decode cX8_forgets 38 = .ok (.if_icmp .eq 6, 3) := dk_159 0 6 (dk_at dksX8_forgets_1 16 rfl rfl)
theorem dX8_forgets_41 : decode cX8_forgets 41 = .ok (.goto 33, 3) := dk_167 0 33 (dk_at dksX8_forgets_1 19 rfl rfl)
theorem dX8_forgets_44 : decode cX8_forgets 44 = .ok (.iload_n 3, 1) := dk_29 (dk_at dksX8_forgets_1 22 rfl rfl)
theorem dX8_forgets_45 : decode cX8_forgets 45 = .ok (.iconst (-1), 1) := dk_2 (dk_at dksX8_forgets_1 23 rfl rfl)
theorem dX8_forgets_46 : decode cX8_forgets 46 = .ok (.if_icmp .eq 25, 3) := dk_159 0 25 (dk_at dksX8_forgets_2 0 rfl rfl)
theorem dX8_forgets_49 : decode cX8_forgets 49 = .ok (.aload_n 0, 1) := dk_42 (dk_at dksX8_forgets_2 3 rfl rfl)
theorem dX8_forgets_50 : decode cX8_forgets 50 = .ok (.getfield 316, 3) := dk_180 1 60 (dk_at dksX8_forgets_2 4 rfl rfl)
theorem dX8_forgets_53 : decode cX8_forgets 53 = .ok (.getfield 273, 3) := dk_180 1 17 (dk_at dksX8_forgets_2 7 rfl rfl)
theorem dX8_forgets_56 : decode cX8_forgets 56 = .ok (.iload 4, 2) := dk_21 4 (dk_at dksX8_forgets_2 10 rfl rfl)
theorem dX8_forgets_58 : decode cX8_forgets 58 = .ok (.iaload, 1) := dk_46 (dk_at dksX8_forgets_2 12 rfl rfl)
theorem dX8_forgets_59 : decode cX8_forgets 59 = .ok (.aload_n 0, 1) := dk_42 (dk_at dksX8_forgets_2 13 rfl rfl)
theorem dX8_forgets_60 : decode cX8_forgets 60 = .ok (.getfield 316, 3) := dk_180 1 60 (dk_at dksX8_forgets_2 14 rfl rfl)
theorem dX8_forgets_63 : decode cX8_forgets 63 = .ok (.getfield 273, 3) := dk_180 1 17 (dk_at dksX8_forgets_2 17 rfl rfl)
theorem dX8_forgets_66 : decode cX8_forgets 66 = .ok (.iload_n 3, 1) := dk_29 (dk_at dksX8_forgets_2 20 rfl rfl)
theorem dX8_forgets_67 : decode cX8_forgets 67 = .ok (.iaload, 1) := dk_46 (dk_at dksX8_forgets_2 21 rfl rfl)
theorem dX8_forgets_68 : decode cX8_forgets 68 = .ok (.if_icmp .ge 6, 3) := dk_162 0 6 (dk_at dksX8_forgets_3 0 rfl rfl)
theorem dX8_forgets_71 : decode cX8_forgets 71 = .ok (.iload 4, 2) := dk_21 4 (dk_at dksX8_forgets_3 3 rfl rfl)
theorem dX8_forgets_73 : decode cX8_forgets 73 = .ok (.istore_n 3, 1) := dk_62 (dk_at dksX8_forgets_3 5 rfl rfl)
theorem dX8_forgets_74 : decode cX8_forgets 74 = .ok (.iinc 4 1, 3) := dk_132 4 1 (dk_at dksX8_forgets_3 6 rfl rfl)
theorem dX8_forgets_77 : decode cX8_forgets 77 = .ok (.goto (-58), 3) := dk_167 255 198 (dk_at dksX8_forgets_3 9 rfl rfl)
theorem dX8_forgets_80 : decode cX8_forgets 80 = .ok (.aload_n 1, 1) := dk_43 (dk_at dksX8_forgets_3 12 rfl rfl)
theorem dX8_forgets_81 : decode cX8_forgets 81 = .ok (.iconst 0, 1) := dk_3 (dk_at dksX8_forgets_3 13 rfl rfl)
theorem dX8_forgets_82 : decode cX8_forgets 82 = .ok (.iload_n 3, 1) := dk_29 (dk_at dksX8_forgets_3 14 rfl rfl)
theorem dX8_forgets_83 : decode cX8_forgets 83 = .ok (.iadd, 1) := dk_96 (dk_at dksX8_forgets_3 15 rfl rfl)
theorem dX8_forgets_84 : decode cX8_forgets 84 = .ok (.bipush (-2), 2) := dk_16 254 (dk_at dksX8_forgets_3 16 rfl rfl)
theorem dX8_forgets_86 : decode cX8_forgets 86 = .ok (.iastore, 1) := dk_79 (dk_at dksX8_forgets_3 18 rfl rfl)
theorem dX8_forgets_87 : decode cX8_forgets 87 = .ok (.return_, 1) := dk_177 (dk_at dksX8_forgets_3 19 rfl rfl)
abbrev cX8_bits : ByteArray := prog_26_method_10_code
def yX8_bits : MethodName := ⟨RX8, "bits", "(I)I"⟩
def dkwX8_bits_0 : List UInt8 := [3, 60, 26, 61, 28, 153, 0, 15, 132, 1, 1, 28, 28, 4, 100, 126, 61, 167, 255, 243, 27, 172]
abbrev dktX8_bits_0 : List UInt8 := dkwX8_bits_0 ++ []
theorem dksX8_bits_0 : cX8_bits.data.toList.drop 0 = dktX8_bits_0 := by decide +kernel
theorem dX8_bits_0 : decode cX8_bits 0 = .ok (.iconst 0, 1) := dk_3 (dk_at dksX8_bits_0 0 rfl rfl)
theorem dX8_bits_1 : decode cX8_bits 1 = .ok (.istore_n 1, 1) := dk_60 (dk_at dksX8_bits_0 1 rfl rfl)
theorem dX8_bits_2 : decode cX8_bits 2 = .ok (.iload_n 0, 1) := dk_26 (dk_at dksX8_bits_0 2 rfl rfl)
theorem dX8_bits_3 : decode cX8_bits 3 = .ok (.istore_n 2, 1) := dk_61 (dk_at dksX8_bits_0 3 rfl rfl)
theorem dX8_bits_4 : decode cX8_bits 4 = .ok (.iload_n 2, 1) := dk_28 (dk_at dksX8_bits_0 4 rfl rfl)
theorem dX8_bits_5 : decode cX8_bits 5 = .ok (.ifCond .eq 15, 3) := dk_153 0 15 (dk_at dksX8_bits_0 5 rfl rfl)
theorem dX8_bits_8 : decode cX8_bits 8 = .ok (.iinc 1 1, 3) := dk_132 1 1 (dk_at dksX8_bits_0 8 rfl rfl)
theorem dX8_bits_11 : decode cX8_bits 11 = .ok (.iload_n 2, 1) := dk_28 (dk_at dksX8_bits_0 11 rfl rfl)
theorem dX8_bits_12 : decode cX8_bits 12 = .ok (.iload_n 2, 1) := dk_28 (dk_at dksX8_bits_0 12 rfl rfl)
theorem dX8_bits_13 : decode cX8_bits 13 = .ok (.iconst 1, 1) := dk_4 (dk_at dksX8_bits_0 13 rfl rfl)
theorem dX8_bits_14 : decode cX8_bits 14 = .ok (.isub, 1) := dk_100 (dk_at dksX8_bits_0 14 rfl rfl)
theorem dX8_bits_15 : decode cX8_bits 15 = .ok (.iand, 1) := dk_126 (dk_at dksX8_bits_0 15 rfl rfl)
theorem dX8_bits_16 : decode cX8_bits 16 = .ok (.istore_n 2, 1) := dk_61 (dk_at dksX8_bits_0 16 rfl rfl)
theorem dX8_bits_17 : decode cX8_bits 17 = .ok (.goto (-13), 3) := dk_167 255 243 (dk_at dksX8_bits_0 17 rfl rfl)
theorem dX8_bits_20 : decode cX8_bits 20 = .ok (.iload_n 1, 1) := dk_27 (dk_at dksX8_bits_0 20 rfl rfl)
theorem dX8_bits_21 : decode cX8_bits 21 = .ok (.ireturn, 1) := dk_172 (dk_at dksX8_bits_0 21 rfl rfl)
abbrev cX8_titleOf : ByteArray := prog_26_method_67_code
def yX8_titleOf : MethodName := ⟨RX8, "titleOf", "(II)I"⟩
def dkwX8_titleOf_1 : List UInt8 := [182, 0, 51, 167, 0, 15, 42, 42, 180, 0, 21, 8, 27, 96, 46, 182, 0, 55, 172]
abbrev dktX8_titleOf_1 : List UInt8 := dkwX8_titleOf_1 ++ []
def dkwX8_titleOf_0 : List UInt8 := [42, 3, 181, 0, 45, 42, 42, 27, 182, 1, 103, 28, 182, 1, 123, 62, 29, 158, 0, 11, 42, 29]
abbrev dktX8_titleOf_0 : List UInt8 := dkwX8_titleOf_0 ++ dktX8_titleOf_1
theorem dksX8_titleOf_0 : cX8_titleOf.data.toList.drop 0 = dktX8_titleOf_0 := by decide +kernel
theorem dksX8_titleOf_1 : cX8_titleOf.data.toList.drop 22 = dktX8_titleOf_1 := dk_seg dksX8_titleOf_0 22 rfl rfl
theorem dX8_titleOf_0 : decode cX8_titleOf 0 = .ok (.aload_n 0, 1) := dk_42 (dk_at dksX8_titleOf_0 0 rfl rfl)
theorem dX8_titleOf_1 : decode cX8_titleOf 1 = .ok (.iconst 0, 1) := dk_3 (dk_at dksX8_titleOf_0 1 rfl rfl)
theorem dX8_titleOf_2 : decode cX8_titleOf 2 = .ok (.putfield 45, 3) := dk_181 0 45 (dk_at dksX8_titleOf_0 2 rfl rfl)
theorem dX8_titleOf_5 : decode cX8_titleOf 5 = .ok (.aload_n 0, 1) := dk_42 (dk_at dksX8_titleOf_0 5 rfl rfl)
theorem dX8_titleOf_6 : decode cX8_titleOf 6 = .ok (.aload_n 0, 1) := dk_42 (dk_at dksX8_titleOf_0 6 rfl rfl)
theorem dX8_titleOf_7 : decode cX8_titleOf 7 = .ok (.iload_n 1, 1) := dk_27 (dk_at dksX8_titleOf_0 7 rfl rfl)
theorem dX8_titleOf_8 : decode cX8_titleOf 8 = .ok (.invokevirtual 359, 3) := dk_182 1 103 (dk_at dksX8_titleOf_0 8 rfl rfl)
theorem dX8_titleOf_11 : decode cX8_titleOf 11 = .ok (.iload_n 2, 1) := dk_28 (dk_at dksX8_titleOf_0 11 rfl rfl)
theorem dX8_titleOf_12 : decode cX8_titleOf 12 = .ok (.invokevirtual 379, 3) := dk_182 1 123 (dk_at dksX8_titleOf_0 12 rfl rfl)
theorem dX8_titleOf_15 : decode cX8_titleOf 15 = .ok (.istore_n 3, 1) := dk_62 (dk_at dksX8_titleOf_0 15 rfl rfl)
theorem dX8_titleOf_16 : decode cX8_titleOf 16 = .ok (.iload_n 3, 1) := dk_29 (dk_at dksX8_titleOf_0 16 rfl rfl)
theorem dX8_titleOf_17 : decode cX8_titleOf 17 = .ok (.ifCond .le 11, 3) := dk_158 0 11 (dk_at dksX8_titleOf_0 17 rfl rfl)
theorem dX8_titleOf_20 : decode cX8_titleOf 20 = .ok (.aload_n 0, 1) := dk_42 (dk_at dksX8_titleOf_0 20 rfl rfl)
theorem dX8_titleOf_21 : decode cX8_titleOf 21 = .ok (.iload_n 3, 1) := dk_29 (dk_at dksX8_titleOf_0 21 rfl rfl)
theorem dX8_titleOf_22 : decode cX8_titleOf 22 = .ok (.invokevirtual 51, 3) := dk_182 0 51 (dk_at dksX8_titleOf_1 0 rfl rfl)
theorem dX8_titleOf_25 : decode cX8_titleOf 25 = .ok (.goto 15, 3) := dk_167 0 15 (dk_at dksX8_titleOf_1 3 rfl rfl)
theorem dX8_titleOf_28 : decode cX8_titleOf 28 = .ok (.aload_n 0, 1) := dk_42 (dk_at dksX8_titleOf_1 6 rfl rfl)
theorem dX8_titleOf_29 : decode cX8_titleOf 29 = .ok (.aload_n 0, 1) := dk_42 (dk_at dksX8_titleOf_1 7 rfl rfl)
theorem dX8_titleOf_30 : decode cX8_titleOf 30 = .ok (.getfield 21, 3) := dk_180 0 21 (dk_at dksX8_titleOf_1 8 rfl rfl)
theorem dX8_titleOf_33 : decode cX8_titleOf 33 = .ok (.iconst 5, 1) := dk_8 (dk_at dksX8_titleOf_1 11 rfl rfl)
theorem dX8_titleOf_34 : decode cX8_titleOf 34 = .ok (.iload_n 1, 1) := dk_27 (dk_at dksX8_titleOf_1 12 rfl rfl)
theorem dX8_titleOf_35 : decode cX8_titleOf 35 = .ok (.iadd, 1) := dk_96 (dk_at dksX8_titleOf_1 13 rfl rfl)
theorem dX8_titleOf_36 : decode cX8_titleOf 36 = .ok (.iaload, 1) := dk_46 (dk_at dksX8_titleOf_1 14 rfl rfl)
theorem dX8_titleOf_37 : decode cX8_titleOf 37 = .ok (.invokevirtual 55, 3) := dk_182 0 55 (dk_at dksX8_titleOf_1 15 rfl rfl)
theorem dX8_titleOf_40 : decode cX8_titleOf 40 = .ok (.ireturn, 1) := dk_172 (dk_at dksX8_titleOf_1 18 rfl rfl)
abbrev cX8_landsOf : ByteArray := prog_26_method_68_code
def yX8_landsOf : MethodName := ⟨RX8, "landsOf", "(II)I"⟩
def dkwX8_landsOf_1 : List UInt8 := [182, 0, 51, 167, 0, 16, 42, 42, 42, 180, 0, 21, 27, 182, 1, 109, 182, 0, 55, 172]
abbrev dktX8_landsOf_1 : List UInt8 := dkwX8_landsOf_1 ++ []
def dkwX8_landsOf_0 : List UInt8 := [42, 3, 181, 0, 45, 42, 42, 27, 182, 1, 106, 28, 182, 1, 123, 62, 29, 158, 0, 11, 42, 29]
abbrev dktX8_landsOf_0 : List UInt8 := dkwX8_landsOf_0 ++ dktX8_landsOf_1
theorem dksX8_landsOf_0 : cX8_landsOf.data.toList.drop 0 = dktX8_landsOf_0 := by decide +kernel
theorem dksX8_landsOf_1 : cX8_landsOf.data.toList.drop 22 = dktX8_landsOf_1 := dk_seg dksX8_landsOf_0 22 rfl rfl
theorem dX8_landsOf_0 : decode cX8_landsOf 0 = .ok (.aload_n 0, 1) := dk_42 (dk_at dksX8_landsOf_0 0 rfl rfl)
theorem dX8_landsOf_1 : decode cX8_landsOf 1 = .ok (.iconst 0, 1) := dk_3 (dk_at dksX8_landsOf_0 1 rfl rfl)
theorem dX8_landsOf_2 : decode cX8_landsOf 2 = .ok (.putfield 45, 3) := dk_181 0 45 (dk_at dksX8_landsOf_0 2 rfl rfl)
theorem dX8_landsOf_5 : decode cX8_landsOf 5 = .ok (.aload_n 0, 1) := dk_42 (dk_at dksX8_landsOf_0 5 rfl rfl)
theorem dX8_landsOf_6 : decode cX8_landsOf 6 = .ok (.aload_n 0, 1) := dk_42 (dk_at dksX8_landsOf_0 6 rfl rfl)
theorem dX8_landsOf_7 : decode cX8_landsOf 7 = .ok (.iload_n 1, 1) := dk_27 (dk_at dksX8_landsOf_0 7 rfl rfl)
theorem dX8_landsOf_8 : decode cX8_landsOf 8 = .ok (.invokevirtual 362, 3) := dk_182 1 106 (dk_at dksX8_landsOf_0 8 rfl rfl)
theorem dX8_landsOf_11 : decode cX8_landsOf 11 = .ok (.iload_n 2, 1) := dk_28 (dk_at dksX8_landsOf_0 11 rfl rfl)
theorem dX8_landsOf_12 : decode cX8_landsOf 12 = .ok (.invokevirtual 379, 3) := dk_182 1 123 (dk_at dksX8_landsOf_0 12 rfl rfl)
theorem dX8_landsOf_15 : decode cX8_landsOf 15 = .ok (.istore_n 3, 1) := dk_62 (dk_at dksX8_landsOf_0 15 rfl rfl)
theorem dX8_landsOf_16 : decode cX8_landsOf 16 = .ok (.iload_n 3, 1) := dk_29 (dk_at dksX8_landsOf_0 16 rfl rfl)
theorem dX8_landsOf_17 : decode cX8_landsOf 17 = .ok (.ifCond .le 11, 3) := dk_158 0 11 (dk_at dksX8_landsOf_0 17 rfl rfl)
theorem dX8_landsOf_20 : decode cX8_landsOf 20 = .ok (.aload_n 0, 1) := dk_42 (dk_at dksX8_landsOf_0 20 rfl rfl)
theorem dX8_landsOf_21 : decode cX8_landsOf 21 = .ok (.iload_n 3, 1) := dk_29 (dk_at dksX8_landsOf_0 21 rfl rfl)
theorem dX8_landsOf_22 : decode cX8_landsOf 22 = .ok (.invokevirtual 51, 3) := dk_182 0 51 (dk_at dksX8_landsOf_1 0 rfl rfl)
theorem dX8_landsOf_25 : decode cX8_landsOf 25 = .ok (.goto 16, 3) := dk_167 0 16 (dk_at dksX8_landsOf_1 3 rfl rfl)
theorem dX8_landsOf_28 : decode cX8_landsOf 28 = .ok (.aload_n 0, 1) := dk_42 (dk_at dksX8_landsOf_1 6 rfl rfl)
theorem dX8_landsOf_29 : decode cX8_landsOf 29 = .ok (.aload_n 0, 1) := dk_42 (dk_at dksX8_landsOf_1 7 rfl rfl)
theorem dX8_landsOf_30 : decode cX8_landsOf 30 = .ok (.aload_n 0, 1) := dk_42 (dk_at dksX8_landsOf_1 8 rfl rfl)
theorem dX8_landsOf_31 : decode cX8_landsOf 31 = .ok (.getfield 21, 3) := dk_180 0 21 (dk_at dksX8_landsOf_1 9 rfl rfl)
theorem dX8_landsOf_34 : decode cX8_landsOf 34 = .ok (.iload_n 1, 1) := dk_27 (dk_at dksX8_landsOf_1 12 rfl rfl)
theorem dX8_landsOf_35 : decode cX8_landsOf 35 = .ok (.invokevirtual 365, 3) := dk_182 1 109 (dk_at dksX8_landsOf_1 13 rfl rfl)
theorem dX8_landsOf_38 : decode cX8_landsOf 38 = .ok (.invokevirtual 55, 3) := dk_182 0 55 (dk_at dksX8_landsOf_1 16 rfl rfl)
theorem dX8_landsOf_41 : decode cX8_landsOf 41 = .ok (.ireturn, 1) := dk_172 (dk_at dksX8_landsOf_1 19 rfl rfl)
abbrev cX8_lapsed : ByteArray := prog_26_method_69_code
def yX8_lapsed : MethodName := ⟨RX8, "lapsed", "(I)I"⟩
def dkwX8_lapsed_2 : List UInt8 := [182, 0, 55, 172]
abbrev dktX8_lapsed_2 : List UInt8 := dkwX8_lapsed_2 ++ []
def dkwX8_lapsed_1 : List UInt8 := [158, 0, 11, 42, 28, 182, 0, 51, 167, 0, 17, 42, 42, 42, 180, 0, 21, 16, 254, 182, 1, 109]
abbrev dktX8_lapsed_1 : List UInt8 := dkwX8_lapsed_1 ++ dktX8_lapsed_2
def dkwX8_lapsed_0 : List UInt8 := [42, 3, 181, 0, 45, 42, 42, 180, 1, 60, 198, 0, 7, 4, 167, 0, 4, 3, 27, 182, 1, 123, 61, 28]
abbrev dktX8_lapsed_0 : List UInt8 := dkwX8_lapsed_0 ++ dktX8_lapsed_1
theorem dksX8_lapsed_0 : cX8_lapsed.data.toList.drop 0 = dktX8_lapsed_0 := by decide +kernel
theorem dksX8_lapsed_1 : cX8_lapsed.data.toList.drop 24 = dktX8_lapsed_1 := dk_seg dksX8_lapsed_0 24 rfl rfl
theorem dksX8_lapsed_2 : cX8_lapsed.data.toList.drop 46 = dktX8_lapsed_2 := dk_seg dksX8_lapsed_1 22 rfl rfl
theorem dX8_lapsed_0 : decode cX8_lapsed 0 = .ok (.aload_n 0, 1) := dk_42 (dk_at dksX8_lapsed_0 0 rfl rfl)
theorem dX8_lapsed_1 : decode cX8_lapsed 1 = .ok (.iconst 0, 1) := dk_3 (dk_at dksX8_lapsed_0 1 rfl rfl)
theorem dX8_lapsed_2 : decode cX8_lapsed 2 = .ok (.putfield 45, 3) := dk_181 0 45 (dk_at dksX8_lapsed_0 2 rfl rfl)
theorem dX8_lapsed_5 : decode cX8_lapsed 5 = .ok (.aload_n 0, 1) := dk_42 (dk_at dksX8_lapsed_0 5 rfl rfl)
theorem dX8_lapsed_6 : decode cX8_lapsed 6 = .ok (.aload_n 0, 1) := dk_42 (dk_at dksX8_lapsed_0 6 rfl rfl)
theorem dX8_lapsed_7 : decode cX8_lapsed 7 = .ok (.getfield 316, 3) := dk_180 1 60 (dk_at dksX8_lapsed_0 7 rfl rfl)
theorem dX8_lapsed_10 : decode cX8_lapsed 10 = .ok (.ifnull 7, 3) := dk_198 0 7 (dk_at dksX8_lapsed_0 10 rfl rfl)
theorem dX8_lapsed_13 : decode cX8_lapsed 13 = .ok (.iconst 1, 1) := dk_4 (dk_at dksX8_lapsed_0 13 rfl rfl)
theorem dX8_lapsed_14 : decode cX8_lapsed 14 = .ok (.goto 4, 3) := dk_167 0 4 (dk_at dksX8_lapsed_0 14 rfl rfl)
theorem dX8_lapsed_17 : decode cX8_lapsed 17 = .ok (.iconst 0, 1) := dk_3 (dk_at dksX8_lapsed_0 17 rfl rfl)
theorem dX8_lapsed_18 : decode cX8_lapsed 18 = .ok (.iload_n 1, 1) := dk_27 (dk_at dksX8_lapsed_0 18 rfl rfl)
theorem dX8_lapsed_19 : decode cX8_lapsed 19 = .ok (.invokevirtual 379, 3) := dk_182 1 123 (dk_at dksX8_lapsed_0 19 rfl rfl)
theorem dX8_lapsed_22 : decode cX8_lapsed 22 = .ok (.istore_n 2, 1) := dk_61 (dk_at dksX8_lapsed_0 22 rfl rfl)
theorem dX8_lapsed_23 : decode cX8_lapsed 23 = .ok (.iload_n 2, 1) := dk_28 (dk_at dksX8_lapsed_0 23 rfl rfl)
theorem dX8_lapsed_24 : decode cX8_lapsed 24 = .ok (.ifCond .le 11, 3) := dk_158 0 11 (dk_at dksX8_lapsed_1 0 rfl rfl)
theorem dX8_lapsed_27 : decode cX8_lapsed 27 = .ok (.aload_n 0, 1) := dk_42 (dk_at dksX8_lapsed_1 3 rfl rfl)
theorem dX8_lapsed_28 : decode cX8_lapsed 28 = .ok (.iload_n 2, 1) := dk_28 (dk_at dksX8_lapsed_1 4 rfl rfl)
theorem dX8_lapsed_29 : decode cX8_lapsed 29 = .ok (.invokevirtual 51, 3) := dk_182 0 51 (dk_at dksX8_lapsed_1 5 rfl rfl)
theorem dX8_lapsed_32 : decode cX8_lapsed 32 = .ok (.goto 17, 3) := dk_167 0 17 (dk_at dksX8_lapsed_1 8 rfl rfl)
theorem dX8_lapsed_35 : decode cX8_lapsed 35 = .ok (.aload_n 0, 1) := dk_42 (dk_at dksX8_lapsed_1 11 rfl rfl)
theorem dX8_lapsed_36 : decode cX8_lapsed 36 = .ok (.aload_n 0, 1) := dk_42 (dk_at dksX8_lapsed_1 12 rfl rfl)
theorem dX8_lapsed_37 : decode cX8_lapsed 37 = .ok (.aload_n 0, 1) := dk_42 (dk_at dksX8_lapsed_1 13 rfl rfl)
theorem dX8_lapsed_38 : decode cX8_lapsed 38 = .ok (.getfield 21, 3) := dk_180 0 21 (dk_at dksX8_lapsed_1 14 rfl rfl)
theorem dX8_lapsed_41 : decode cX8_lapsed 41 = .ok (.bipush (-2), 2) := dk_16 254 (dk_at dksX8_lapsed_1 17 rfl rfl)
theorem dX8_lapsed_43 : decode cX8_lapsed 43 = .ok (.invokevirtual 365, 3) := dk_182 1 109 (dk_at dksX8_lapsed_1 19 rfl rfl)
theorem dX8_lapsed_46 : decode cX8_lapsed 46 = .ok (.invokevirtual 55, 3) := dk_182 0 55 (dk_at dksX8_lapsed_2 0 rfl rfl)
theorem dX8_lapsed_49 : decode cX8_lapsed 49 = .ok (.ireturn, 1) := dk_172 (dk_at dksX8_lapsed_2 3 rfl rfl)
abbrev cX8_passed : ByteArray := prog_26_method_70_code
def yX8_passed : MethodName := ⟨RX8, "passed", "(I)I"⟩
def dkwX8_passed_3 : List UInt8 := [96, 61, 132, 3, 1, 167, 255, 211, 42, 28, 182, 0, 55, 172]
abbrev dktX8_passed_3 : List UInt8 := dkwX8_passed_3 ++ []
def dkwX8_passed_2 : List UInt8 := [42, 29, 182, 1, 100, 28, 42, 180, 0, 21, 8, 27, 96, 46, 21, 4, 160, 0, 7, 3, 167, 0, 4, 4]
abbrev dktX8_passed_2 : List UInt8 := dkwX8_passed_2 ++ dktX8_passed_3
def dkwX8_passed_1 : List UInt8 := [180, 0, 21, 182, 1, 62, 3, 62, 29, 16, 41, 162, 0, 45, 42, 180, 0, 21, 8, 27, 96, 46, 54, 4]
abbrev dktX8_passed_1 : List UInt8 := dkwX8_passed_1 ++ dktX8_passed_2
def dkwX8_passed_0 : List UInt8 := [42, 3, 181, 0, 45, 42, 27, 182, 1, 103, 154, 0, 9, 42, 4, 182, 0, 51, 172, 3, 61, 42, 42]
abbrev dktX8_passed_0 : List UInt8 := dkwX8_passed_0 ++ dktX8_passed_1
theorem dksX8_passed_0 : cX8_passed.data.toList.drop 0 = dktX8_passed_0 := by decide +kernel
theorem dksX8_passed_1 : cX8_passed.data.toList.drop 23 = dktX8_passed_1 := dk_seg dksX8_passed_0 23 rfl rfl
theorem dksX8_passed_2 : cX8_passed.data.toList.drop 47 = dktX8_passed_2 := dk_seg dksX8_passed_1 24 rfl rfl
theorem dksX8_passed_3 : cX8_passed.data.toList.drop 71 = dktX8_passed_3 := dk_seg dksX8_passed_2 24 rfl rfl
theorem dX8_passed_0 : decode cX8_passed 0 = .ok (.aload_n 0, 1) := dk_42 (dk_at dksX8_passed_0 0 rfl rfl)
theorem dX8_passed_1 : decode cX8_passed 1 = .ok (.iconst 0, 1) := dk_3 (dk_at dksX8_passed_0 1 rfl rfl)
theorem dX8_passed_2 : decode cX8_passed 2 = .ok (.putfield 45, 3) := dk_181 0 45 (dk_at dksX8_passed_0 2 rfl rfl)
theorem dX8_passed_5 : decode cX8_passed 5 = .ok (.aload_n 0, 1) := dk_42 (dk_at dksX8_passed_0 5 rfl rfl)
theorem dX8_passed_6 : decode cX8_passed 6 = .ok (.iload_n 1, 1) := dk_27 (dk_at dksX8_passed_0 6 rfl rfl)
theorem dX8_passed_7 : decode cX8_passed 7 = .ok (.invokevirtual 359, 3) := dk_182 1 103 (dk_at dksX8_passed_0 7 rfl rfl)
theorem dX8_passed_10 : decode cX8_passed 10 = .ok (.ifCond .ne 9, 3) := dk_154 0 9 (dk_at dksX8_passed_0 10 rfl rfl)
theorem dX8_passed_13 : decode cX8_passed 13 = .ok (.aload_n 0, 1) := dk_42 (dk_at dksX8_passed_0 13 rfl rfl)
theorem dX8_passed_14 : decode cX8_passed 14 = .ok (.iconst 1, 1) := dk_4 (dk_at dksX8_passed_0 14 rfl rfl)
theorem dX8_passed_15 : decode cX8_passed 15 = .ok (.invokevirtual 51, 3) := dk_182 0 51 (dk_at dksX8_passed_0 15 rfl rfl)
theorem dX8_passed_18 : decode cX8_passed 18 = .ok (.ireturn, 1) := dk_172 (dk_at dksX8_passed_0 18 rfl rfl)
theorem dX8_passed_19 : decode cX8_passed 19 = .ok (.iconst 0, 1) := dk_3 (dk_at dksX8_passed_0 19 rfl rfl)
theorem dX8_passed_20 : decode cX8_passed 20 = .ok (.istore_n 2, 1) := dk_61 (dk_at dksX8_passed_0 20 rfl rfl)
theorem dX8_passed_21 : decode cX8_passed 21 = .ok (.aload_n 0, 1) := dk_42 (dk_at dksX8_passed_0 21 rfl rfl)
theorem dX8_passed_22 : decode cX8_passed 22 = .ok (.aload_n 0, 1) := dk_42 (dk_at dksX8_passed_0 22 rfl rfl)
theorem dX8_passed_23 : decode cX8_passed 23 = .ok (.getfield 21, 3) := dk_180 0 21 (dk_at dksX8_passed_1 0 rfl rfl)
theorem dX8_passed_26 : decode cX8_passed 26 = .ok (.invokevirtual 318, 3) := dk_182 1 62 (dk_at dksX8_passed_1 3 rfl rfl)
theorem dX8_passed_29 : decode cX8_passed 29 = .ok (.iconst 0, 1) := dk_3 (dk_at dksX8_passed_1 6 rfl rfl)
theorem dX8_passed_30 : decode cX8_passed 30 = .ok (.istore_n 3, 1) := dk_62 (dk_at dksX8_passed_1 7 rfl rfl)
theorem dX8_passed_31 : decode cX8_passed 31 = .ok (.iload_n 3, 1) := dk_29 (dk_at dksX8_passed_1 8 rfl rfl)
theorem dX8_passed_32 : decode cX8_passed 32 = .ok (.bipush 41, 2) := dk_16 41 (dk_at dksX8_passed_1 9 rfl rfl)
theorem dX8_passed_34 : decode cX8_passed 34 = .ok (.if_icmp .ge 45, 3) := dk_162 0 45 (dk_at dksX8_passed_1 11 rfl rfl)
theorem dX8_passed_37 : decode cX8_passed 37 = .ok (.aload_n 0, 1) := dk_42 (dk_at dksX8_passed_1 14 rfl rfl)
theorem dX8_passed_38 : decode cX8_passed 38 = .ok (.getfield 21, 3) := dk_180 0 21 (dk_at dksX8_passed_1 15 rfl rfl)
theorem dX8_passed_41 : decode cX8_passed 41 = .ok (.iconst 5, 1) := dk_8 (dk_at dksX8_passed_1 18 rfl rfl)
theorem dX8_passed_42 : decode cX8_passed 42 = .ok (.iload_n 1, 1) := dk_27 (dk_at dksX8_passed_1 19 rfl rfl)
theorem dX8_passed_43 : decode cX8_passed 43 = .ok (.iadd, 1) := dk_96 (dk_at dksX8_passed_1 20 rfl rfl)
theorem dX8_passed_44 : decode cX8_passed 44 = .ok (.iaload, 1) := dk_46 (dk_at dksX8_passed_1 21 rfl rfl)
theorem dX8_passed_45 : decode cX8_passed 45 = .ok (.istore 4, 2) := dk_54 4 (dk_at dksX8_passed_1 22 rfl rfl)
theorem dX8_passed_47 : decode cX8_passed 47 = .ok (.aload_n 0, 1) := dk_42 (dk_at dksX8_passed_2 0 rfl rfl)
theorem dX8_passed_48 : decode cX8_passed 48 = .ok (.iload_n 3, 1) := dk_29 (dk_at dksX8_passed_2 1 rfl rfl)
theorem dX8_passed_49 : decode cX8_passed 49 = .ok (.invokevirtual 356, 3) := dk_182 1 100 (dk_at dksX8_passed_2 2 rfl rfl)
theorem dX8_passed_52 : decode cX8_passed 52 = .ok (.iload_n 2, 1) := dk_28 (dk_at dksX8_passed_2 5 rfl rfl)
theorem dX8_passed_53 : decode cX8_passed 53 = .ok (.aload_n 0, 1) := dk_42 (dk_at dksX8_passed_2 6 rfl rfl)
theorem dX8_passed_54 : decode cX8_passed 54 = .ok (.getfield 21, 3) := dk_180 0 21 (dk_at dksX8_passed_2 7 rfl rfl)
theorem dX8_passed_57 : decode cX8_passed 57 = .ok (.iconst 5, 1) := dk_8 (dk_at dksX8_passed_2 10 rfl rfl)
theorem dX8_passed_58 : decode cX8_passed 58 = .ok (.iload_n 1, 1) := dk_27 (dk_at dksX8_passed_2 11 rfl rfl)
theorem dX8_passed_59 : decode cX8_passed 59 = .ok (.iadd, 1) := dk_96 (dk_at dksX8_passed_2 12 rfl rfl)
theorem dX8_passed_60 : decode cX8_passed 60 = .ok (.iaload, 1) := dk_46 (dk_at dksX8_passed_2 13 rfl rfl)
theorem dX8_passed_61 : decode cX8_passed 61 = .ok (.iload 4, 2) := dk_21 4 (dk_at dksX8_passed_2 14 rfl rfl)
theorem dX8_passed_63 : decode cX8_passed 63 = .ok (.if_icmp .ne 7, 3) := dk_160 0 7 (dk_at dksX8_passed_2 16 rfl rfl)
theorem dX8_passed_66 : decode cX8_passed 66 = .ok (.iconst 0, 1) := dk_3 (dk_at dksX8_passed_2 19 rfl rfl)
theorem dX8_passed_67 : decode cX8_passed 67 = .ok (.goto 4, 3) := dk_167 0 4 (dk_at dksX8_passed_2 20 rfl rfl)
theorem dX8_passed_70 : decode cX8_passed 70 = .ok (.iconst 1, 1) := dk_4 (dk_at dksX8_passed_2 23 rfl rfl)
theorem dX8_passed_71 : decode cX8_passed 71 = .ok (.iadd, 1) := dk_96 (dk_at dksX8_passed_3 0 rfl rfl)
theorem dX8_passed_72 : decode cX8_passed 72 = .ok (.istore_n 2, 1) := dk_61 (dk_at dksX8_passed_3 1 rfl rfl)
theorem dX8_passed_73 : decode cX8_passed 73 = .ok (.iinc 3 1, 3) := dk_132 3 1 (dk_at dksX8_passed_3 2 rfl rfl)
theorem dX8_passed_76 : decode cX8_passed 76 = .ok (.goto (-45), 3) := dk_167 255 211 (dk_at dksX8_passed_3 5 rfl rfl)
theorem dX8_passed_79 : decode cX8_passed 79 = .ok (.aload_n 0, 1) := dk_42 (dk_at dksX8_passed_3 8 rfl rfl)
theorem dX8_passed_80 : decode cX8_passed 80 = .ok (.iload_n 2, 1) := dk_28 (dk_at dksX8_passed_3 9 rfl rfl)
theorem dX8_passed_81 : decode cX8_passed 81 = .ok (.invokevirtual 55, 3) := dk_182 0 55 (dk_at dksX8_passed_3 10 rfl rfl)
theorem dX8_passed_84 : decode cX8_passed 84 = .ok (.ireturn, 1) := dk_172 (dk_at dksX8_passed_3 13 rfl rfl)
abbrev cX8_longest : ByteArray := prog_26_method_71_code
def yX8_longest : MethodName := ⟨RX8, "longest", "(I)I"⟩
def dkwX8_longest_4 : List UInt8 := [29, 61, 132, 5, 1, 167, 255, 195, 42, 28, 182, 0, 55, 172]
abbrev dktX8_longest_4 : List UInt8 := dkwX8_longest_4 ++ []
def dkwX8_longest_3 : List UInt8 := [4, 62, 42, 180, 0, 21, 8, 27, 96, 46, 54, 4, 21, 4, 16, 254, 159, 0, 10, 29, 28, 164, 0, 5]
abbrev dktX8_longest_3 : List UInt8 := dkwX8_longest_3 ++ dktX8_longest_4
def dkwX8_longest_2 : List UInt8 := [21, 5, 182, 1, 100, 42, 180, 0, 21, 8, 27, 96, 46, 21, 4, 160, 0, 9, 29, 4, 96, 167, 0, 4]
abbrev dktX8_longest_2 : List UInt8 := dkwX8_longest_2 ++ dktX8_longest_3
def dkwX8_longest_1 : List UInt8 := [16, 254, 54, 4, 42, 42, 180, 0, 21, 182, 1, 62, 3, 54, 5, 21, 5, 16, 41, 162, 0, 60, 42]
abbrev dktX8_longest_1 : List UInt8 := dkwX8_longest_1 ++ dktX8_longest_2
def dkwX8_longest_0 : List UInt8 := [42, 3, 181, 0, 45, 42, 27, 182, 1, 103, 154, 0, 9, 42, 4, 182, 0, 51, 172, 3, 61, 3, 62]
abbrev dktX8_longest_0 : List UInt8 := dkwX8_longest_0 ++ dktX8_longest_1
theorem dksX8_longest_0 : cX8_longest.data.toList.drop 0 = dktX8_longest_0 := by decide +kernel
theorem dksX8_longest_1 : cX8_longest.data.toList.drop 23 = dktX8_longest_1 := dk_seg dksX8_longest_0 23 rfl rfl
theorem dksX8_longest_2 : cX8_longest.data.toList.drop 46 = dktX8_longest_2 := dk_seg dksX8_longest_1 23 rfl rfl
theorem dksX8_longest_3 : cX8_longest.data.toList.drop 70 = dktX8_longest_3 := dk_seg dksX8_longest_2 24 rfl rfl
theorem dksX8_longest_4 : cX8_longest.data.toList.drop 94 = dktX8_longest_4 := dk_seg dksX8_longest_3 24 rfl rfl
theorem dX8_longest_0 : decode cX8_longest 0 = .ok (.aload_n 0, 1) := dk_42 (dk_at dksX8_longest_0 0 rfl rfl)
theorem dX8_longest_1 : decode cX8_longest 1 = .ok (.iconst 0, 1) := dk_3 (dk_at dksX8_longest_0 1 rfl rfl)
theorem dX8_longest_2 : decode cX8_longest 2 = .ok (.putfield 45, 3) := dk_181 0 45 (dk_at dksX8_longest_0 2 rfl rfl)
theorem dX8_longest_5 : decode cX8_longest 5 = .ok (.aload_n 0, 1) := dk_42 (dk_at dksX8_longest_0 5 rfl rfl)
theorem dX8_longest_6 : decode cX8_longest 6 = .ok (.iload_n 1, 1) := dk_27 (dk_at dksX8_longest_0 6 rfl rfl)
theorem dX8_longest_7 : decode cX8_longest 7 = .ok (.invokevirtual 359, 3) := dk_182 1 103 (dk_at dksX8_longest_0 7 rfl rfl)
theorem dX8_longest_10 : decode cX8_longest 10 = .ok (.ifCond .ne 9, 3) := dk_154 0 9 (dk_at dksX8_longest_0 10 rfl rfl)
theorem dX8_longest_13 : decode cX8_longest 13 = .ok (.aload_n 0, 1) := dk_42 (dk_at dksX8_longest_0 13 rfl rfl)
theorem dX8_longest_14 : decode cX8_longest 14 = .ok (.iconst 1, 1) := dk_4 (dk_at dksX8_longest_0 14 rfl rfl)
theorem dX8_longest_15 : decode cX8_longest 15 = .ok (.invokevirtual 51, 3) := dk_182 0 51 (dk_at dksX8_longest_0 15 rfl rfl)
theorem dX8_longest_18 : decode cX8_longest 18 = .ok (.ireturn, 1) := dk_172 (dk_at dksX8_longest_0 18 rfl rfl)
theorem dX8_longest_19 : decode cX8_longest 19 = .ok (.iconst 0, 1) := dk_3 (dk_at dksX8_longest_0 19 rfl rfl)
theorem dX8_longest_20 : decode cX8_longest 20 = .ok (.istore_n 2, 1) := dk_61 (dk_at dksX8_longest_0 20 rfl rfl)
theorem dX8_longest_21 : decode cX8_longest 21 = .ok (.iconst 0, 1) := dk_3 (dk_at dksX8_longest_0 21 rfl rfl)
theorem dX8_longest_22 : decode cX8_longest 22 = .ok (.istore_n 3, 1) := dk_62 (dk_at dksX8_longest_0 22 rfl rfl)
theorem dX8_longest_23 : decode cX8_longest 23 = .ok (.bipush (-2), 2) := dk_16 254 (dk_at dksX8_longest_1 0 rfl rfl)
theorem dX8_longest_25 : decode cX8_longest 25 = .ok (.istore 4, 2) := dk_54 4 (dk_at dksX8_longest_1 2 rfl rfl)
theorem dX8_longest_27 : decode cX8_longest 27 = .ok (.aload_n 0, 1) := dk_42 (dk_at dksX8_longest_1 4 rfl rfl)
theorem dX8_longest_28 : decode cX8_longest 28 = .ok (.aload_n 0, 1) := dk_42 (dk_at dksX8_longest_1 5 rfl rfl)
theorem dX8_longest_29 : decode cX8_longest 29 = .ok (.getfield 21, 3) := dk_180 0 21 (dk_at dksX8_longest_1 6 rfl rfl)
theorem dX8_longest_32 : decode cX8_longest 32 = .ok (.invokevirtual 318, 3) := dk_182 1 62 (dk_at dksX8_longest_1 9 rfl rfl)
theorem dX8_longest_35 : decode cX8_longest 35 = .ok (.iconst 0, 1) := dk_3 (dk_at dksX8_longest_1 12 rfl rfl)
theorem dX8_longest_36 : decode cX8_longest 36 = .ok (.istore 5, 2) := dk_54 5 (dk_at dksX8_longest_1 13 rfl rfl)
theorem dX8_longest_38 : decode cX8_longest 38 = .ok (.iload 5, 2) := dk_21 5 (dk_at dksX8_longest_1 15 rfl rfl)
theorem dX8_longest_40 : decode cX8_longest 40 = .ok (.bipush 41, 2) := dk_16 41 (dk_at dksX8_longest_1 17 rfl rfl)
theorem dX8_longest_42 : decode cX8_longest 42 = .ok (.if_icmp .ge 60, 3) := dk_162 0 60 (dk_at dksX8_longest_1 19 rfl rfl)
theorem dX8_longest_45 : decode cX8_longest 45 = .ok (.aload_n 0, 1) := dk_42 (dk_at dksX8_longest_1 22 rfl rfl)
theorem dX8_longest_46 : decode cX8_longest 46 = .ok (.iload 5, 2) := dk_21 5 (dk_at dksX8_longest_2 0 rfl rfl)
theorem dX8_longest_48 : decode cX8_longest 48 = .ok (.invokevirtual 356, 3) := dk_182 1 100 (dk_at dksX8_longest_2 2 rfl rfl)
theorem dX8_longest_51 : decode cX8_longest 51 = .ok (.aload_n 0, 1) := dk_42 (dk_at dksX8_longest_2 5 rfl rfl)
theorem dX8_longest_52 : decode cX8_longest 52 = .ok (.getfield 21, 3) := dk_180 0 21 (dk_at dksX8_longest_2 6 rfl rfl)
theorem dX8_longest_55 : decode cX8_longest 55 = .ok (.iconst 5, 1) := dk_8 (dk_at dksX8_longest_2 9 rfl rfl)
theorem dX8_longest_56 : decode cX8_longest 56 = .ok (.iload_n 1, 1) := dk_27 (dk_at dksX8_longest_2 10 rfl rfl)
theorem dX8_longest_57 : decode cX8_longest 57 = .ok (.iadd, 1) := dk_96 (dk_at dksX8_longest_2 11 rfl rfl)
theorem dX8_longest_58 : decode cX8_longest 58 = .ok (.iaload, 1) := dk_46 (dk_at dksX8_longest_2 12 rfl rfl)
theorem dX8_longest_59 : decode cX8_longest 59 = .ok (.iload 4, 2) := dk_21 4 (dk_at dksX8_longest_2 13 rfl rfl)
theorem dX8_longest_61 : decode cX8_longest 61 = .ok (.if_icmp .ne 9, 3) := dk_160 0 9 (dk_at dksX8_longest_2 15 rfl rfl)
theorem dX8_longest_64 : decode cX8_longest 64 = .ok (.iload_n 3, 1) := dk_29 (dk_at dksX8_longest_2 18 rfl rfl)
theorem dX8_longest_65 : decode cX8_longest 65 = .ok (.iconst 1, 1) := dk_4 (dk_at dksX8_longest_2 19 rfl rfl)
theorem dX8_longest_66 : decode cX8_longest 66 = .ok (.iadd, 1) := dk_96 (dk_at dksX8_longest_2 20 rfl rfl)
theorem dX8_longest_67 : decode cX8_longest 67 = .ok (.goto 4, 3) := dk_167 0 4 (dk_at dksX8_longest_2 21 rfl rfl)
theorem dX8_longest_70 : decode cX8_longest 70 = .ok (.iconst 1, 1) := dk_4 (dk_at dksX8_longest_3 0 rfl rfl)
theorem dX8_longest_71 : decode cX8_longest 71 = .ok (.istore_n 3, 1) := dk_62 (dk_at dksX8_longest_3 1 rfl rfl)
theorem dX8_longest_72 : decode cX8_longest 72 = .ok (.aload_n 0, 1) := dk_42 (dk_at dksX8_longest_3 2 rfl rfl)
theorem dX8_longest_73 : decode cX8_longest 73 = .ok (.getfield 21, 3) := dk_180 0 21 (dk_at dksX8_longest_3 3 rfl rfl)
theorem dX8_longest_76 : decode cX8_longest 76 = .ok (.iconst 5, 1) := dk_8 (dk_at dksX8_longest_3 6 rfl rfl)
theorem dX8_longest_77 : decode cX8_longest 77 = .ok (.iload_n 1, 1) := dk_27 (dk_at dksX8_longest_3 7 rfl rfl)
theorem dX8_longest_78 : decode cX8_longest 78 = .ok (.iadd, 1) := dk_96 (dk_at dksX8_longest_3 8 rfl rfl)
theorem dX8_longest_79 : decode cX8_longest 79 = .ok (.iaload, 1) := dk_46 (dk_at dksX8_longest_3 9 rfl rfl)
theorem dX8_longest_80 : decode cX8_longest 80 = .ok (.istore 4, 2) := dk_54 4 (dk_at dksX8_longest_3 10 rfl rfl)
theorem dX8_longest_82 : decode cX8_longest 82 = .ok (.iload 4, 2) := dk_21 4 (dk_at dksX8_longest_3 12 rfl rfl)
theorem dX8_longest_84 : decode cX8_longest 84 = .ok (.bipush (-2), 2) := dk_16 254 (dk_at dksX8_longest_3 14 rfl rfl)
theorem dX8_longest_86 : decode cX8_longest 86 = .ok (.if_icmp .eq 10, 3) := dk_159 0 10 (dk_at dksX8_longest_3 16 rfl rfl)
theorem dX8_longest_89 : decode cX8_longest 89 = .ok (.iload_n 3, 1) := dk_29 (dk_at dksX8_longest_3 19 rfl rfl)
theorem dX8_longest_90 : decode cX8_longest 90 = .ok (.iload_n 2, 1) := dk_28 (dk_at dksX8_longest_3 20 rfl rfl)
theorem dX8_longest_91 : decode cX8_longest 91 = .ok (.if_icmp .le 5, 3) := dk_164 0 5 (dk_at dksX8_longest_3 21 rfl rfl)
theorem dX8_longest_94 : decode cX8_longest 94 = .ok (.iload_n 3, 1) := dk_29 (dk_at dksX8_longest_4 0 rfl rfl)
theorem dX8_longest_95 : decode cX8_longest 95 = .ok (.istore_n 2, 1) := dk_61 (dk_at dksX8_longest_4 1 rfl rfl)
theorem dX8_longest_96 : decode cX8_longest 96 = .ok (.iinc 5 1, 3) := dk_132 5 1 (dk_at dksX8_longest_4 2 rfl rfl)
theorem dX8_longest_99 : decode cX8_longest 99 = .ok (.goto (-61), 3) := dk_167 255 195 (dk_at dksX8_longest_4 5 rfl rfl)
theorem dX8_longest_102 : decode cX8_longest 102 = .ok (.aload_n 0, 1) := dk_42 (dk_at dksX8_longest_4 8 rfl rfl)
theorem dX8_longest_103 : decode cX8_longest 103 = .ok (.iload_n 2, 1) := dk_28 (dk_at dksX8_longest_4 9 rfl rfl)
theorem dX8_longest_104 : decode cX8_longest 104 = .ok (.invokevirtual 55, 3) := dk_182 0 55 (dk_at dksX8_longest_4 10 rfl rfl)
theorem dX8_longest_107 : decode cX8_longest 107 = .ok (.ireturn, 1) := dk_172 (dk_at dksX8_longest_4 13 rfl rfl)
abbrev cX8_worstDay : ByteArray := prog_26_method_72_code
def yX8_worstDay : MethodName := ⟨RX8, "worstDay", "()I"⟩
def dkwX8_worstDay_3 : List UInt8 := [60, 132, 3, 1, 167, 255, 212, 42, 27, 182, 0, 55, 172]
abbrev dktX8_worstDay_3 : List UInt8 := dkwX8_worstDay_3 ++ []
def dkwX8_worstDay_2 : List UInt8 := [16, 254, 182, 1, 109, 28, 163, 0, 6, 167, 0, 16, 42, 42, 180, 0, 21, 16, 254, 182, 1, 109, 61, 29]
abbrev dktX8_worstDay_2 : List UInt8 := dkwX8_worstDay_2 ++ dktX8_worstDay_3
def dkwX8_worstDay_1 : List UInt8 := [180, 0, 21, 182, 1, 62, 3, 62, 29, 16, 41, 162, 0, 44, 42, 29, 182, 1, 100, 42, 42, 180, 0, 21]
abbrev dktX8_worstDay_1 : List UInt8 := dkwX8_worstDay_1 ++ dktX8_worstDay_2
def dkwX8_worstDay_0 : List UInt8 := [42, 3, 181, 0, 45, 42, 180, 1, 60, 199, 0, 9, 42, 4, 182, 0, 51, 172, 3, 60, 2, 61, 42, 42]
abbrev dktX8_worstDay_0 : List UInt8 := dkwX8_worstDay_0 ++ dktX8_worstDay_1
theorem dksX8_worstDay_0 : cX8_worstDay.data.toList.drop 0 = dktX8_worstDay_0 := by decide +kernel
theorem dksX8_worstDay_1 : cX8_worstDay.data.toList.drop 24 = dktX8_worstDay_1 := dk_seg dksX8_worstDay_0 24 rfl rfl
theorem dksX8_worstDay_2 : cX8_worstDay.data.toList.drop 48 = dktX8_worstDay_2 := dk_seg dksX8_worstDay_1 24 rfl rfl
theorem dksX8_worstDay_3 : cX8_worstDay.data.toList.drop 72 = dktX8_worstDay_3 := dk_seg dksX8_worstDay_2 24 rfl rfl
theorem dX8_worstDay_0 : decode cX8_worstDay 0 = .ok (.aload_n 0, 1) := dk_42 (dk_at dksX8_worstDay_0 0 rfl rfl)
theorem dX8_worstDay_1 : decode cX8_worstDay 1 = .ok (.iconst 0, 1) := dk_3 (dk_at dksX8_worstDay_0 1 rfl rfl)
theorem dX8_worstDay_2 : decode cX8_worstDay 2 = .ok (.putfield 45, 3) := dk_181 0 45 (dk_at dksX8_worstDay_0 2 rfl rfl)
theorem dX8_worstDay_5 : decode cX8_worstDay 5 = .ok (.aload_n 0, 1) := dk_42 (dk_at dksX8_worstDay_0 5 rfl rfl)
theorem dX8_worstDay_6 : decode cX8_worstDay 6 = .ok (.getfield 316, 3) := dk_180 1 60 (dk_at dksX8_worstDay_0 6 rfl rfl)
theorem dX8_worstDay_9 : decode cX8_worstDay 9 = .ok (.ifnonnull 9, 3) := dk_199 0 9 (dk_at dksX8_worstDay_0 9 rfl rfl)
theorem dX8_worstDay_12 : decode cX8_worstDay 12 = .ok (.aload_n 0, 1) := dk_42 (dk_at dksX8_worstDay_0 12 rfl rfl)
theorem dX8_worstDay_13 : decode cX8_worstDay 13 = .ok (.iconst 1, 1) := dk_4 (dk_at dksX8_worstDay_0 13 rfl rfl)
theorem dX8_worstDay_14 : decode cX8_worstDay 14 = .ok (.invokevirtual 51, 3) := dk_182 0 51 (dk_at dksX8_worstDay_0 14 rfl rfl)
theorem dX8_worstDay_17 : decode cX8_worstDay 17 = .ok (.ireturn, 1) := dk_172 (dk_at dksX8_worstDay_0 17 rfl rfl)
theorem dX8_worstDay_18 : decode cX8_worstDay 18 = .ok (.iconst 0, 1) := dk_3 (dk_at dksX8_worstDay_0 18 rfl rfl)
theorem dX8_worstDay_19 : decode cX8_worstDay 19 = .ok (.istore_n 1, 1) := dk_60 (dk_at dksX8_worstDay_0 19 rfl rfl)
theorem dX8_worstDay_20 : decode cX8_worstDay 20 = .ok (.iconst (-1), 1) := dk_2 (dk_at dksX8_worstDay_0 20 rfl rfl)
theorem dX8_worstDay_21 : decode cX8_worstDay 21 = .ok (.istore_n 2, 1) := dk_61 (dk_at dksX8_worstDay_0 21 rfl rfl)
theorem dX8_worstDay_22 : decode cX8_worstDay 22 = .ok (.aload_n 0, 1) := dk_42 (dk_at dksX8_worstDay_0 22 rfl rfl)
theorem dX8_worstDay_23 : decode cX8_worstDay 23 = .ok (.aload_n 0, 1) := dk_42 (dk_at dksX8_worstDay_0 23 rfl rfl)
theorem dX8_worstDay_24 : decode cX8_worstDay 24 = .ok (.getfield 21, 3) := dk_180 0 21 (dk_at dksX8_worstDay_1 0 rfl rfl)
theorem dX8_worstDay_27 : decode cX8_worstDay 27 = .ok (.invokevirtual 318, 3) := dk_182 1 62 (dk_at dksX8_worstDay_1 3 rfl rfl)
theorem dX8_worstDay_30 : decode cX8_worstDay 30 = .ok (.iconst 0, 1) := dk_3 (dk_at dksX8_worstDay_1 6 rfl rfl)
theorem dX8_worstDay_31 : decode cX8_worstDay 31 = .ok (.istore_n 3, 1) := dk_62 (dk_at dksX8_worstDay_1 7 rfl rfl)
theorem dX8_worstDay_32 : decode cX8_worstDay 32 = .ok (.iload_n 3, 1) := dk_29 (dk_at dksX8_worstDay_1 8 rfl rfl)
theorem dX8_worstDay_33 : decode cX8_worstDay 33 = .ok (.bipush 41, 2) := dk_16 41 (dk_at dksX8_worstDay_1 9 rfl rfl)
theorem dX8_worstDay_35 : decode cX8_worstDay 35 = .ok (.if_icmp .ge 44, 3) := dk_162 0 44 (dk_at dksX8_worstDay_1 11 rfl rfl)
theorem dX8_worstDay_38 : decode cX8_worstDay 38 = .ok (.aload_n 0, 1) := dk_42 (dk_at dksX8_worstDay_1 14 rfl rfl)
theorem dX8_worstDay_39 : decode cX8_worstDay 39 = .ok (.iload_n 3, 1) := dk_29 (dk_at dksX8_worstDay_1 15 rfl rfl)
theorem dX8_worstDay_40 : decode cX8_worstDay 40 = .ok (.invokevirtual 356, 3) := dk_182 1 100 (dk_at dksX8_worstDay_1 16 rfl rfl)
theorem dX8_worstDay_43 : decode cX8_worstDay 43 = .ok (.aload_n 0, 1) := dk_42 (dk_at dksX8_worstDay_1 19 rfl rfl)
theorem dX8_worstDay_44 : decode cX8_worstDay 44 = .ok (.aload_n 0, 1) := dk_42 (dk_at dksX8_worstDay_1 20 rfl rfl)
theorem dX8_worstDay_45 : decode cX8_worstDay 45 = .ok (.getfield 21, 3) := dk_180 0 21 (dk_at dksX8_worstDay_1 21 rfl rfl)
theorem dX8_worstDay_48 : decode cX8_worstDay 48 = .ok (.bipush (-2), 2) := dk_16 254 (dk_at dksX8_worstDay_2 0 rfl rfl)
theorem dX8_worstDay_50 : decode cX8_worstDay 50 = .ok (.invokevirtual 365, 3) := dk_182 1 109 (dk_at dksX8_worstDay_2 2 rfl rfl)
theorem dX8_worstDay_53 : decode cX8_worstDay 53 = .ok (.iload_n 2, 1) := dk_28 (dk_at dksX8_worstDay_2 5 rfl rfl)
theorem dX8_worstDay_54 : decode cX8_worstDay 54 = .ok (.if_icmp .gt 6, 3) := dk_163 0 6 (dk_at dksX8_worstDay_2 6 rfl rfl)
theorem dX8_worstDay_57 : decode cX8_worstDay 57 = .ok (.goto 16, 3) := dk_167 0 16 (dk_at dksX8_worstDay_2 9 rfl rfl)
theorem dX8_worstDay_60 : decode cX8_worstDay 60 = .ok (.aload_n 0, 1) := dk_42 (dk_at dksX8_worstDay_2 12 rfl rfl)
theorem dX8_worstDay_61 : decode cX8_worstDay 61 = .ok (.aload_n 0, 1) := dk_42 (dk_at dksX8_worstDay_2 13 rfl rfl)
theorem dX8_worstDay_62 : decode cX8_worstDay 62 = .ok (.getfield 21, 3) := dk_180 0 21 (dk_at dksX8_worstDay_2 14 rfl rfl)
theorem dX8_worstDay_65 : decode cX8_worstDay 65 = .ok (.bipush (-2), 2) := dk_16 254 (dk_at dksX8_worstDay_2 17 rfl rfl)
theorem dX8_worstDay_67 : decode cX8_worstDay 67 = .ok (.invokevirtual 365, 3) := dk_182 1 109 (dk_at dksX8_worstDay_2 19 rfl rfl)
theorem dX8_worstDay_70 : decode cX8_worstDay 70 = .ok (.istore_n 2, 1) := dk_61 (dk_at dksX8_worstDay_2 22 rfl rfl)
theorem dX8_worstDay_71 : decode cX8_worstDay 71 = .ok (.iload_n 3, 1) := dk_29 (dk_at dksX8_worstDay_2 23 rfl rfl)
theorem dX8_worstDay_72 : decode cX8_worstDay 72 = .ok (.istore_n 1, 1) := dk_60 (dk_at dksX8_worstDay_3 0 rfl rfl)
theorem dX8_worstDay_73 : decode cX8_worstDay 73 = .ok (.iinc 3 1, 3) := dk_132 3 1 (dk_at dksX8_worstDay_3 1 rfl rfl)
theorem dX8_worstDay_76 : decode cX8_worstDay 76 = .ok (.goto (-44), 3) := dk_167 255 212 (dk_at dksX8_worstDay_3 4 rfl rfl)
theorem dX8_worstDay_79 : decode cX8_worstDay 79 = .ok (.aload_n 0, 1) := dk_42 (dk_at dksX8_worstDay_3 7 rfl rfl)
theorem dX8_worstDay_80 : decode cX8_worstDay 80 = .ok (.iload_n 1, 1) := dk_27 (dk_at dksX8_worstDay_3 8 rfl rfl)
theorem dX8_worstDay_81 : decode cX8_worstDay 81 = .ok (.invokevirtual 55, 3) := dk_182 0 55 (dk_at dksX8_worstDay_3 9 rfl rfl)
theorem dX8_worstDay_84 : decode cX8_worstDay 84 = .ok (.ireturn, 1) := dk_172 (dk_at dksX8_worstDay_3 12 rfl rfl)
abbrev cX8_judge : ByteArray := prog_26_method_74_code
def yX8_judge : MethodName := ⟨RX8, "judge", "()I"⟩
def dkwX8_judge_1 : List UInt8 := [3, 182, 1, 127, 182, 0, 55, 172]
abbrev dktX8_judge_1 : List UInt8 := dkwX8_judge_1 ++ []
def dkwX8_judge_0 : List UInt8 := [42, 3, 181, 0, 45, 42, 180, 1, 60, 199, 0, 11, 42, 4, 182, 0, 51, 167, 0, 14, 42, 42, 2, 3]
abbrev dktX8_judge_0 : List UInt8 := dkwX8_judge_0 ++ dktX8_judge_1
theorem dksX8_judge_0 : cX8_judge.data.toList.drop 0 = dktX8_judge_0 := by decide +kernel
theorem dksX8_judge_1 : cX8_judge.data.toList.drop 24 = dktX8_judge_1 := dk_seg dksX8_judge_0 24 rfl rfl
theorem dX8_judge_0 : decode cX8_judge 0 = .ok (.aload_n 0, 1) := dk_42 (dk_at dksX8_judge_0 0 rfl rfl)
theorem dX8_judge_1 : decode cX8_judge 1 = .ok (.iconst 0, 1) := dk_3 (dk_at dksX8_judge_0 1 rfl rfl)
theorem dX8_judge_2 : decode cX8_judge 2 = .ok (.putfield 45, 3) := dk_181 0 45 (dk_at dksX8_judge_0 2 rfl rfl)
theorem dX8_judge_5 : decode cX8_judge 5 = .ok (.aload_n 0, 1) := dk_42 (dk_at dksX8_judge_0 5 rfl rfl)
theorem dX8_judge_6 : decode cX8_judge 6 = .ok (.getfield 316, 3) := dk_180 1 60 (dk_at dksX8_judge_0 6 rfl rfl)
theorem dX8_judge_9 : decode cX8_judge 9 = .ok (.ifnonnull 11, 3) := dk_199 0 11 (dk_at dksX8_judge_0 9 rfl rfl)
theorem dX8_judge_12 : decode cX8_judge 12 = .ok (.aload_n 0, 1) := dk_42 (dk_at dksX8_judge_0 12 rfl rfl)
theorem dX8_judge_13 : decode cX8_judge 13 = .ok (.iconst 1, 1) := dk_4 (dk_at dksX8_judge_0 13 rfl rfl)
theorem dX8_judge_14 : decode cX8_judge 14 = .ok (.invokevirtual 51, 3) := dk_182 0 51 (dk_at dksX8_judge_0 14 rfl rfl)
theorem dX8_judge_17 : decode cX8_judge 17 = .ok (.goto 14, 3) := dk_167 0 14 (dk_at dksX8_judge_0 17 rfl rfl)
theorem dX8_judge_20 : decode cX8_judge 20 = .ok (.aload_n 0, 1) := dk_42 (dk_at dksX8_judge_0 20 rfl rfl)
theorem dX8_judge_21 : decode cX8_judge 21 = .ok (.aload_n 0, 1) := dk_42 (dk_at dksX8_judge_0 21 rfl rfl)
theorem dX8_judge_22 : decode cX8_judge 22 = .ok (.iconst (-1), 1) := dk_2 (dk_at dksX8_judge_0 22 rfl rfl)
theorem dX8_judge_23 : decode cX8_judge 23 = .ok (.iconst 0, 1) := dk_3 (dk_at dksX8_judge_0 23 rfl rfl)
theorem dX8_judge_24 : decode cX8_judge 24 = .ok (.iconst 0, 1) := dk_3 (dk_at dksX8_judge_1 0 rfl rfl)
theorem dX8_judge_25 : decode cX8_judge 25 = .ok (.invokevirtual 383, 3) := dk_182 1 127 (dk_at dksX8_judge_1 1 rfl rfl)
theorem dX8_judge_28 : decode cX8_judge 28 = .ok (.invokevirtual 55, 3) := dk_182 0 55 (dk_at dksX8_judge_1 4 rfl rfl)
theorem dX8_judge_31 : decode cX8_judge 31 = .ok (.ireturn, 1) := dk_172 (dk_at dksX8_judge_1 7 rfl rfl)
abbrev cX8_wrongClaim : ByteArray := prog_26_method_73_code
def yX8_wrongClaim : MethodName := ⟨RX8, "wrongClaim", "(III)I"⟩
def dkwX8_wrongClaim_5 : List UInt8 := [132, 5, 1, 167, 255, 148, 21, 4, 16, 6, 160, 0, 8, 16, 254, 167, 0, 5, 21, 4, 172]
abbrev dktX8_wrongClaim_5 : List UInt8 := dkwX8_wrongClaim_5 ++ []
def dkwX8_wrongClaim_4 : List UInt8 := [46, 42, 180, 1, 60, 180, 1, 44, 21, 6, 46, 159, 0, 7, 21, 6, 54, 4, 132, 6, 1, 167, 255, 185]
abbrev dktX8_wrongClaim_4 : List UInt8 := dkwX8_wrongClaim_4 ++ dktX8_wrongClaim_5
def dkwX8_wrongClaim_3 : List UInt8 := [21, 6, 46, 21, 5, 160, 0, 37, 42, 180, 0, 21, 8, 42, 180, 1, 60, 180, 1, 47, 21, 6, 46, 96]
abbrev dktX8_wrongClaim_3 : List UInt8 := dkwX8_wrongClaim_3 ++ dktX8_wrongClaim_4
def dkwX8_wrongClaim_2 : List UInt8 := [21, 4, 162, 0, 70, 21, 6, 42, 180, 1, 60, 180, 1, 42, 162, 0, 58, 42, 180, 1, 60, 180, 1, 50]
abbrev dktX8_wrongClaim_2 : List UInt8 := dkwX8_wrongClaim_2 ++ dktX8_wrongClaim_3
def dkwX8_wrongClaim_1 : List UInt8 := [27, 160, 0, 12, 42, 180, 0, 21, 28, 29, 184, 1, 89, 42, 21, 5, 182, 1, 100, 3, 54, 6, 21, 6]
abbrev dktX8_wrongClaim_1 : List UInt8 := dkwX8_wrongClaim_1 ++ dktX8_wrongClaim_2
def dkwX8_wrongClaim_0 : List UInt8 := [16, 6, 54, 4, 42, 42, 180, 0, 21, 182, 1, 62, 3, 54, 5, 21, 5, 16, 41, 162, 0, 107, 21, 5]
abbrev dktX8_wrongClaim_0 : List UInt8 := dkwX8_wrongClaim_0 ++ dktX8_wrongClaim_1
theorem dksX8_wrongClaim_0 : cX8_wrongClaim.data.toList.drop 0 = dktX8_wrongClaim_0 := by decide +kernel
theorem dksX8_wrongClaim_1 : cX8_wrongClaim.data.toList.drop 24 = dktX8_wrongClaim_1 := dk_seg dksX8_wrongClaim_0 24 rfl rfl
theorem dksX8_wrongClaim_2 : cX8_wrongClaim.data.toList.drop 48 = dktX8_wrongClaim_2 := dk_seg dksX8_wrongClaim_1 24 rfl rfl
theorem dksX8_wrongClaim_3 : cX8_wrongClaim.data.toList.drop 72 = dktX8_wrongClaim_3 := dk_seg dksX8_wrongClaim_2 24 rfl rfl
theorem dksX8_wrongClaim_4 : cX8_wrongClaim.data.toList.drop 96 = dktX8_wrongClaim_4 := dk_seg dksX8_wrongClaim_3 24 rfl rfl
theorem dksX8_wrongClaim_5 : cX8_wrongClaim.data.toList.drop 120 = dktX8_wrongClaim_5 := dk_seg dksX8_wrongClaim_4 24 rfl rfl
theorem dX8_wrongClaim_0 : decode cX8_wrongClaim 0 = .ok (.bipush 6, 2) := dk_16 6 (dk_at dksX8_wrongClaim_0 0 rfl rfl)
theorem dX8_wrongClaim_2 : decode cX8_wrongClaim 2 = .ok (.istore 4, 2) := dk_54 4 (dk_at dksX8_wrongClaim_0 2 rfl rfl)
theorem dX8_wrongClaim_4 : decode cX8_wrongClaim 4 = .ok (.aload_n 0, 1) := dk_42 (dk_at dksX8_wrongClaim_0 4 rfl rfl)
theorem dX8_wrongClaim_5 : decode cX8_wrongClaim 5 = .ok (.aload_n 0, 1) := dk_42 (dk_at dksX8_wrongClaim_0 5 rfl rfl)
theorem dX8_wrongClaim_6 : decode cX8_wrongClaim 6 = .ok (.getfield 21, 3) := dk_180 0 21 (dk_at dksX8_wrongClaim_0 6 rfl rfl)
theorem dX8_wrongClaim_9 : decode cX8_wrongClaim 9 = .ok (.invokevirtual 318, 3) := dk_182 1 62 (dk_at dksX8_wrongClaim_0 9 rfl rfl)
theorem dX8_wrongClaim_12 : decode cX8_wrongClaim 12 = .ok (.iconst 0, 1) := dk_3 (dk_at dksX8_wrongClaim_0 12 rfl rfl)
theorem dX8_wrongClaim_13 : decode cX8_wrongClaim 13 = .ok (.istore 5, 2) := dk_54 5 (dk_at dksX8_wrongClaim_0 13 rfl rfl)
theorem dX8_wrongClaim_15 : decode cX8_wrongClaim 15 = .ok (.iload 5, 2) := dk_21 5 (dk_at dksX8_wrongClaim_0 15 rfl rfl)
theorem dX8_wrongClaim_17 : decode cX8_wrongClaim 17 = .ok (.bipush 41, 2) := dk_16 41 (dk_at dksX8_wrongClaim_0 17 rfl rfl)
theorem dX8_wrongClaim_19 : decode cX8_wrongClaim 19 = .ok (.if_icmp .ge 107, 3) := dk_162 0 107 (dk_at dksX8_wrongClaim_0 19 rfl rfl)
theorem dX8_wrongClaim_22 : decode cX8_wrongClaim 22 = .ok (.iload 5, 2) := dk_21 5 (dk_at dksX8_wrongClaim_0 22 rfl rfl)
theorem dX8_wrongClaim_24 : decode cX8_wrongClaim 24 = .ok (.iload_n 1, 1) := dk_27 (dk_at dksX8_wrongClaim_1 0 rfl rfl)
theorem dX8_wrongClaim_25 : decode cX8_wrongClaim 25 = .ok (.if_icmp .ne 12, 3) := dk_160 0 12 (dk_at dksX8_wrongClaim_1 1 rfl rfl)
theorem dX8_wrongClaim_28 : decode cX8_wrongClaim 28 = .ok (.aload_n 0, 1) := dk_42 (dk_at dksX8_wrongClaim_1 4 rfl rfl)
theorem dX8_wrongClaim_29 : decode cX8_wrongClaim 29 = .ok (.getfield 21, 3) := dk_180 0 21 (dk_at dksX8_wrongClaim_1 5 rfl rfl)
theorem dX8_wrongClaim_32 : decode cX8_wrongClaim 32 = .ok (.iload_n 2, 1) := dk_28 (dk_at dksX8_wrongClaim_1 8 rfl rfl)
theorem dX8_wrongClaim_33 : decode cX8_wrongClaim 33 = .ok (.iload_n 3, 1) := dk_29 (dk_at dksX8_wrongClaim_1 9 rfl rfl)
theorem dX8_wrongClaim_34 : decode cX8_wrongClaim 34 = .ok (.invokestatic 345, 3) := dk_184 1 89 (dk_at dksX8_wrongClaim_1 10 rfl rfl)
theorem dX8_wrongClaim_37 : decode cX8_wrongClaim 37 = .ok (.aload_n 0, 1) := dk_42 (dk_at dksX8_wrongClaim_1 13 rfl rfl)
theorem dX8_wrongClaim_38 : decode cX8_wrongClaim 38 = .ok (.iload 5, 2) := dk_21 5 (dk_at dksX8_wrongClaim_1 14 rfl rfl)
theorem dX8_wrongClaim_40 : decode cX8_wrongClaim 40 = .ok (.invokevirtual 356, 3) := dk_182 1 100 (dk_at dksX8_wrongClaim_1 16 rfl rfl)
theorem dX8_wrongClaim_43 : decode cX8_wrongClaim 43 = .ok (.iconst 0, 1) := dk_3 (dk_at dksX8_wrongClaim_1 19 rfl rfl)
theorem dX8_wrongClaim_44 : decode cX8_wrongClaim 44 = .ok (.istore 6, 2) := dk_54 6 (dk_at dksX8_wrongClaim_1 20 rfl rfl)
theorem dX8_wrongClaim_46 : decode cX8_wrongClaim 46 = .ok (.iload 6, 2) := dk_21 6 (dk_at dksX8_wrongClaim_1 22 rfl rfl)
theorem dX8_wrongClaim_48 : decode cX8_wrongClaim 48 = .ok (.iload 4, 2) := dk_21 4 (dk_at dksX8_wrongClaim_2 0 rfl rfl)
theorem dX8_wrongClaim_50 : decode cX8_wrongClaim 50 = .ok (.if_icmp .ge 70, 3) := dk_162 0 70 (dk_at dksX8_wrongClaim_2 2 rfl rfl)
theorem dX8_wrongClaim_53 : decode cX8_wrongClaim 53 = .ok (.iload 6, 2) := dk_21 6 (dk_at dksX8_wrongClaim_2 5 rfl rfl)
theorem dX8_wrongClaim_55 : decode cX8_wrongClaim 55 = .ok (.aload_n 0, 1) := dk_42 (dk_at dksX8_wrongClaim_2 7 rfl rfl)
theorem dX8_wrongClaim_56 : decode cX8_wrongClaim 56 = .ok (.getfield 316, 3) := dk_180 1 60 (dk_at dksX8_wrongClaim_2 8 rfl rfl)
theorem dX8_wrongClaim_59 : decode cX8_wrongClaim 59 = .ok (.getfield 298, 3) := dk_180 1 42 (dk_at dksX8_wrongClaim_2 11 rfl rfl)
theorem dX8_wrongClaim_62 : decode cX8_wrongClaim 62 = .ok (.if_icmp .ge 58, 3) := dk_162 0 58 (dk_at dksX8_wrongClaim_2 14 rfl rfl)
theorem dX8_wrongClaim_65 : decode cX8_wrongClaim 65 = .ok (.aload_n 0, 1) := dk_42 (dk_at dksX8_wrongClaim_2 17 rfl rfl)
theorem dX8_wrongClaim_66 : decode cX8_wrongClaim 66 = .ok (.getfield 316, 3) := dk_180 1 60 (dk_at dksX8_wrongClaim_2 18 rfl rfl)
theorem dX8_wrongClaim_69 : decode cX8_wrongClaim 69 = .ok (.getfield 306, 3) := dk_180 1 50 (dk_at dksX8_wrongClaim_2 21 rfl rfl)
theorem dX8_wrongClaim_72 : decode cX8_wrongClaim 72 = .ok (.iload 6, 2) := dk_21 6 (dk_at dksX8_wrongClaim_3 0 rfl rfl)
theorem dX8_wrongClaim_74 : decode cX8_wrongClaim 74 = .ok (.iaload, 1) := dk_46 (dk_at dksX8_wrongClaim_3 2 rfl rfl)
theorem dX8_wrongClaim_75 : decode cX8_wrongClaim 75 = .ok (.iload 5, 2) := dk_21 5 (dk_at dksX8_wrongClaim_3 3 rfl rfl)
theorem dX8_wrongClaim_77 : decode cX8_wrongClaim 77 = .ok (.if_icmp .ne 37, 3) := dk_160 0 37 (dk_at dksX8_wrongClaim_3 5 rfl rfl)
theorem dX8_wrongClaim_80 : decode cX8_wrongClaim 80 = .ok (.aload_n 0, 1) := dk_42 (dk_at dksX8_wrongClaim_3 8 rfl rfl)
theorem dX8_wrongClaim_81 : decode cX8_wrongClaim 81 = .ok (.getfield 21, 3) := dk_180 0 21 (dk_at dksX8_wrongClaim_3 9 rfl rfl)
theorem dX8_wrongClaim_84 : decode cX8_wrongClaim 84 = .ok (.iconst 5, 1) := dk_8 (dk_at dksX8_wrongClaim_3 12 rfl rfl)
theorem dX8_wrongClaim_85 : decode cX8_wrongClaim 85 = .ok (.aload_n 0, 1) := dk_42 (dk_at dksX8_wrongClaim_3 13 rfl rfl)
theorem dX8_wrongClaim_86 : decode cX8_wrongClaim 86 = .ok (.getfield 316, 3) := dk_180 1 60 (dk_at dksX8_wrongClaim_3 14 rfl rfl)
theorem dX8_wrongClaim_89 : decode cX8_wrongClaim 89 = .ok (.getfield 303, 3) := dk_180 1 47 (dk_at dksX8_wrongClaim_3 17 rfl rfl)
theorem dX8_wrongClaim_92 : decode cX8_wrongClaim 92 = .ok (.iload 6, 2) := dk_21 6 (dk_at dksX8_wrongClaim_3 20 rfl rfl)
theorem dX8_wrongClaim_94 : decode cX8_wrongClaim 94 = .ok (.iaload, 1) := dk_46 (dk_at dksX8_wrongClaim_3 22 rfl rfl)
theorem dX8_wrongClaim_95 : decode cX8_wrongClaim 95 = .ok (.iadd, 1) := dk_96 (dk_at dksX8_wrongClaim_3 23 rfl rfl)
theorem dX8_wrongClaim_96 : decode cX8_wrongClaim 96 = .ok (.iaload, 1) := dk_46 (dk_at dksX8_wrongClaim_4 0 rfl rfl)
theorem dX8_wrongClaim_97 : decode cX8_wrongClaim 97 = .ok (.aload_n 0, 1) := dk_42 (dk_at dksX8_wrongClaim_4 1 rfl rfl)
theorem dX8_wrongClaim_98 : decode cX8_wrongClaim 98 = .ok (.getfield 316, 3) := dk_180 1 60 (dk_at dksX8_wrongClaim_4 2 rfl rfl)
theorem dX8_wrongClaim_101 : decode cX8_wrongClaim 101 = .ok (.getfield 300, 3) := dk_180 1 44 (dk_at dksX8_wrongClaim_4 5 rfl rfl)
theorem dX8_wrongClaim_104 : decode cX8_wrongClaim 104 = .ok (.iload 6, 2) := dk_21 6 (dk_at dksX8_wrongClaim_4 8 rfl rfl)
theorem dX8_wrongClaim_106 : decode cX8_wrongClaim 106 = .ok (.iaload, 1) := dk_46 (dk_at dksX8_wrongClaim_4 10 rfl rfl)
theorem dX8_wrongClaim_107 : decode cX8_wrongClaim 107 = .ok (.if_icmp .eq 7, 3) := dk_159 0 7 (dk_at dksX8_wrongClaim_4 11 rfl rfl)
theorem dX8_wrongClaim_110 : decode cX8_wrongClaim 110 = .ok (.iload 6, 2) := dk_21 6 (dk_at dksX8_wrongClaim_4 14 rfl rfl)
theorem dX8_wrongClaim_112 : decode cX8_wrongClaim 112 = .ok (.istore 4, 2) := dk_54 4 (dk_at dksX8_wrongClaim_4 16 rfl rfl)
theorem dX8_wrongClaim_114 : decode cX8_wrongClaim 114 = .ok (.iinc 6 1, 3) := dk_132 6 1 (dk_at dksX8_wrongClaim_4 18 rfl rfl)
theorem dX8_wrongClaim_117 : decode cX8_wrongClaim 117 = .ok (.goto (-71), 3) := dk_167 255 185 (dk_at dksX8_wrongClaim_4 21 rfl rfl)
theorem dX8_wrongClaim_120 : decode cX8_wrongClaim 120 = .ok (.iinc 5 1, 3) := dk_132 5 1 (dk_at dksX8_wrongClaim_5 0 rfl rfl)
theorem dX8_wrongClaim_123 : decode cX8_wrongClaim 123 = .ok (.goto (-108), 3) := dk_167 255 148 (dk_at dksX8_wrongClaim_5 3 rfl rfl)
theorem dX8_wrongClaim_126 : decode cX8_wrongClaim 126 = .ok (.iload 4, 2) := dk_21 4 (dk_at dksX8_wrongClaim_5 6 rfl rfl)
theorem dX8_wrongClaim_128 : decode cX8_wrongClaim 128 = .ok (.bipush 6, 2) := dk_16 6 (dk_at dksX8_wrongClaim_5 8 rfl rfl)
theorem dX8_wrongClaim_130 : decode cX8_wrongClaim 130 = .ok (.if_icmp .ne 8, 3) := dk_160 0 8 (dk_at dksX8_wrongClaim_5 10 rfl rfl)
theorem dX8_wrongClaim_133 : decode cX8_wrongClaim 133 = .ok (.bipush (-2), 2) := dk_16 254 (dk_at dksX8_wrongClaim_5 13 rfl rfl)
theorem dX8_wrongClaim_135 : decode cX8_wrongClaim 135 = .ok (.goto 5, 3) := dk_167 0 5 (dk_at dksX8_wrongClaim_5 15 rfl rfl)
theorem dX8_wrongClaim_138 : decode cX8_wrongClaim 138 = .ok (.iload 4, 2) := dk_21 4 (dk_at dksX8_wrongClaim_5 18 rfl rfl)
theorem dX8_wrongClaim_140 : decode cX8_wrongClaim 140 = .ok (.ireturn, 1) := dk_172 (dk_at dksX8_wrongClaim_5 20 rfl rfl)
abbrev cX8_ways : ByteArray := prog_26_method_76_code
def yX8_ways : MethodName := ⟨RX8, "ways", "()I"⟩
def dkwX8_ways_1 : List UInt8 := [182, 1, 134, 182, 0, 55, 172]
abbrev dktX8_ways_1 : List UInt8 := dkwX8_ways_1 ++ []
def dkwX8_ways_0 : List UInt8 := [42, 3, 181, 0, 45, 42, 180, 1, 60, 199, 0, 11, 42, 4, 182, 0, 51, 167, 0, 12, 42, 42, 2]
abbrev dktX8_ways_0 : List UInt8 := dkwX8_ways_0 ++ dktX8_ways_1
theorem dksX8_ways_0 : cX8_ways.data.toList.drop 0 = dktX8_ways_0 := by decide +kernel
theorem dksX8_ways_1 : cX8_ways.data.toList.drop 23 = dktX8_ways_1 := dk_seg dksX8_ways_0 23 rfl rfl
theorem dX8_ways_0 : decode cX8_ways 0 = .ok (.aload_n 0, 1) := dk_42 (dk_at dksX8_ways_0 0 rfl rfl)
theorem dX8_ways_1 : decode cX8_ways 1 = .ok (.iconst 0, 1) := dk_3 (dk_at dksX8_ways_0 1 rfl rfl)
theorem dX8_ways_2 : decode cX8_ways 2 = .ok (.putfield 45, 3) := dk_181 0 45 (dk_at dksX8_ways_0 2 rfl rfl)
theorem dX8_ways_5 : decode cX8_ways 5 = .ok (.aload_n 0, 1) := dk_42 (dk_at dksX8_ways_0 5 rfl rfl)
theorem dX8_ways_6 : decode cX8_ways 6 = .ok (.getfield 316, 3) := dk_180 1 60 (dk_at dksX8_ways_0 6 rfl rfl)
theorem dX8_ways_9 : decode cX8_ways 9 = .ok (.ifnonnull 11, 3) := dk_199 0 11 (dk_at dksX8_ways_0 9 rfl rfl)
theorem dX8_ways_12 : decode cX8_ways 12 = .ok (.aload_n 0, 1) := dk_42 (dk_at dksX8_ways_0 12 rfl rfl)
theorem dX8_ways_13 : decode cX8_ways 13 = .ok (.iconst 1, 1) := dk_4 (dk_at dksX8_ways_0 13 rfl rfl)
theorem dX8_ways_14 : decode cX8_ways 14 = .ok (.invokevirtual 51, 3) := dk_182 0 51 (dk_at dksX8_ways_0 14 rfl rfl)
theorem dX8_ways_17 : decode cX8_ways 17 = .ok (.goto 12, 3) := dk_167 0 12 (dk_at dksX8_ways_0 17 rfl rfl)
theorem dX8_ways_20 : decode cX8_ways 20 = .ok (.aload_n 0, 1) := dk_42 (dk_at dksX8_ways_0 20 rfl rfl)
theorem dX8_ways_21 : decode cX8_ways 21 = .ok (.aload_n 0, 1) := dk_42 (dk_at dksX8_ways_0 21 rfl rfl)
theorem dX8_ways_22 : decode cX8_ways 22 = .ok (.iconst (-1), 1) := dk_2 (dk_at dksX8_ways_0 22 rfl rfl)
theorem dX8_ways_23 : decode cX8_ways 23 = .ok (.invokevirtual 390, 3) := dk_182 1 134 (dk_at dksX8_ways_1 0 rfl rfl)
theorem dX8_ways_26 : decode cX8_ways 26 = .ok (.invokevirtual 55, 3) := dk_182 0 55 (dk_at dksX8_ways_1 3 rfl rfl)
theorem dX8_ways_29 : decode cX8_ways 29 = .ok (.ireturn, 1) := dk_172 (dk_at dksX8_ways_1 6 rfl rfl)
abbrev cX8_countsWays : ByteArray := prog_26_method_75_code
def yX8_countsWays : MethodName := ⟨RX8, "countsWays", "(I)I"⟩
def dkwX8_countsWays_5 : List UInt8 := [132, 2, 1, 132, 3, 1, 167, 255, 165, 28, 172]
abbrev dktX8_countsWays_5 : List UInt8 := dkwX8_countsWays_5 ++ []
def dkwX8_countsWays_4 : List UInt8 := [21, 5, 182, 1, 127, 16, 254, 159, 0, 6, 167, 0, 16, 28, 27, 160, 0, 8, 42, 29, 181, 1, 131]
abbrev dktX8_countsWays_4 : List UInt8 := dkwX8_countsWays_4 ++ dktX8_countsWays_5
def dkwX8_countsWays_3 : List UInt8 := [162, 0, 50, 42, 180, 1, 60, 21, 4, 21, 5, 182, 1, 112, 153, 0, 36, 42, 29, 16, 100, 108, 21, 4]
abbrev dktX8_countsWays_3 : List UInt8 := dkwX8_countsWays_3 ++ dktX8_countsWays_4
def dkwX8_countsWays_2 : List UInt8 := [54, 4, 29, 16, 10, 112, 54, 5, 21, 4, 21, 5, 162, 0, 62, 21, 5, 42, 180, 1, 60, 180, 0, 194]
abbrev dktX8_countsWays_2 : List UInt8 := dkwX8_countsWays_2 ++ dktX8_countsWays_3
def dkwX8_countsWays_1 : List UInt8 := [16, 254, 181, 1, 131, 132, 2, 1, 3, 62, 29, 17, 16, 4, 162, 0, 90, 29, 16, 10, 108, 16, 10, 112]
abbrev dktX8_countsWays_1 : List UInt8 := dkwX8_countsWays_1 ++ dktX8_countsWays_2
def dkwX8_countsWays_0 : List UInt8 := [3, 61, 42, 2, 181, 1, 131, 42, 2, 3, 3, 182, 1, 127, 16, 254, 160, 0, 16, 27, 154, 0, 9, 42]
abbrev dktX8_countsWays_0 : List UInt8 := dkwX8_countsWays_0 ++ dktX8_countsWays_1
theorem dksX8_countsWays_0 : cX8_countsWays.data.toList.drop 0 = dktX8_countsWays_0 := by decide +kernel
theorem dksX8_countsWays_1 : cX8_countsWays.data.toList.drop 24 = dktX8_countsWays_1 := dk_seg dksX8_countsWays_0 24 rfl rfl
theorem dksX8_countsWays_2 : cX8_countsWays.data.toList.drop 48 = dktX8_countsWays_2 := dk_seg dksX8_countsWays_1 24 rfl rfl
theorem dksX8_countsWays_3 : cX8_countsWays.data.toList.drop 72 = dktX8_countsWays_3 := dk_seg dksX8_countsWays_2 24 rfl rfl
theorem dksX8_countsWays_4 : cX8_countsWays.data.toList.drop 96 = dktX8_countsWays_4 := dk_seg dksX8_countsWays_3 24 rfl rfl
theorem dksX8_countsWays_5 : cX8_countsWays.data.toList.drop 119 = dktX8_countsWays_5 := dk_seg dksX8_countsWays_4 23 rfl rfl
theorem dX8_countsWays_0 : decode cX8_countsWays 0 = .ok (.iconst 0, 1) := dk_3 (dk_at dksX8_countsWays_0 0 rfl rfl)
theorem dX8_countsWays_1 : decode cX8_countsWays 1 = .ok (.istore_n 2, 1) := dk_61 (dk_at dksX8_countsWays_0 1 rfl rfl)
theorem dX8_countsWays_2 : decode cX8_countsWays 2 = .ok (.aload_n 0, 1) := dk_42 (dk_at dksX8_countsWays_0 2 rfl rfl)
theorem dX8_countsWays_3 : decode cX8_countsWays 3 = .ok (.iconst (-1), 1) := dk_2 (dk_at dksX8_countsWays_0 3 rfl rfl)
theorem dX8_countsWays_4 : decode cX8_countsWays 4 = .ok (.putfield 387, 3) := dk_181 1 131 (dk_at dksX8_countsWays_0 4 rfl rfl)
theorem dX8_countsWays_7 : decode cX8_countsWays 7 = .ok (.aload_n 0, 1) := dk_42 (dk_at dksX8_countsWays_0 7 rfl rfl)
theorem dX8_countsWays_8 : decode cX8_countsWays 8 = .ok (.iconst (-1), 1) := dk_2 (dk_at dksX8_countsWays_0 8 rfl rfl)
theorem dX8_countsWays_9 : decode cX8_countsWays 9 = .ok (.iconst 0, 1) := dk_3 (dk_at dksX8_countsWays_0 9 rfl rfl)
theorem dX8_countsWays_10 : decode cX8_countsWays 10 = .ok (.iconst 0, 1) := dk_3 (dk_at dksX8_countsWays_0 10 rfl rfl)
theorem dX8_countsWays_11 : decode cX8_countsWays 11 = .ok (.invokevirtual 383, 3) := dk_182 1 127 (dk_at dksX8_countsWays_0 11 rfl rfl)
theorem dX8_countsWays_14 : decode cX8_countsWays 14 = .ok (.bipush (-2), 2) := dk_16 254 (dk_at dksX8_countsWays_0 14 rfl rfl)
theorem dX8_countsWays_16 : decode cX8_countsWays 16 = .ok (.if_icmp .ne 16, 3) := dk_160 0 16 (dk_at dksX8_countsWays_0 16 rfl rfl)
theorem dX8_countsWays_19 : decode cX8_countsWays 19 = .ok (.iload_n 1, 1) := dk_27 (dk_at dksX8_countsWays_0 19 rfl rfl)
theorem dX8_countsWays_20 : decode cX8_countsWays 20 = .ok (.ifCond .ne 9, 3) := dk_154 0 9 (dk_at dksX8_countsWays_0 20 rfl rfl)
theorem dX8_countsWays_23 : decode cX8_countsWays 23 = .ok (.aload_n 0, 1) := dk_42 (dk_at dksX8_countsWays_0 23 rfl rfl)
theorem dX8_countsWays_24 : decode cX8_countsWays 24 = .ok (.bipush (-2), 2) := dk_16 254 (dk_at dksX8_countsWays_1 0 rfl rfl)
theorem dX8_countsWays_26 : decode cX8_countsWays 26 = .ok (.putfield 387, 3) := dk_181 1 131 (dk_at dksX8_countsWays_1 2 rfl rfl)
theorem dX8_countsWays_29 : decode cX8_countsWays 29 = .ok (.iinc 2 1, 3) := dk_132 2 1 (dk_at dksX8_countsWays_1 5 rfl rfl)
theorem dX8_countsWays_32 : decode cX8_countsWays 32 = .ok (.iconst 0, 1) := dk_3 (dk_at dksX8_countsWays_1 8 rfl rfl)
theorem dX8_countsWays_33 : decode cX8_countsWays 33 = .ok (.istore_n 3, 1) := dk_62 (dk_at dksX8_countsWays_1 9 rfl rfl)
theorem dX8_countsWays_34 : decode cX8_countsWays 34 = .ok (.iload_n 3, 1) := dk_29 (dk_at dksX8_countsWays_1 10 rfl rfl)
theorem dX8_countsWays_35 : decode cX8_countsWays 35 = .ok (.sipush 4100, 3) := dk_17 16 4 (dk_at dksX8_countsWays_1 11 rfl rfl)
theorem dX8_countsWays_38 : decode cX8_countsWays 38 = .ok (.if_icmp .ge 90, 3) := dk_162 0 90 (dk_at dksX8_countsWays_1 14 rfl rfl)
theorem dX8_countsWays_41 : decode cX8_countsWays 41 = .ok (.iload_n 3, 1) := dk_29 (dk_at dksX8_countsWays_1 17 rfl rfl)
theorem dX8_countsWays_42 : decode cX8_countsWays 42 = .ok (.bipush 10, 2) := dk_16 10 (dk_at dksX8_countsWays_1 18 rfl rfl)
theorem dX8_countsWays_44 : decode cX8_countsWays 44 = .ok (.idiv, 1) := dk_108 (dk_at dksX8_countsWays_1 20 rfl rfl)
theorem dX8_countsWays_45 : decode cX8_countsWays 45 = .ok (.bipush 10, 2) := dk_16 10 (dk_at dksX8_countsWays_1 21 rfl rfl)
theorem dX8_countsWays_47 : decode cX8_countsWays 47 = .ok (.irem, 1) := dk_112 (dk_at dksX8_countsWays_1 23 rfl rfl)
theorem dX8_countsWays_48 : decode cX8_countsWays 48 = .ok (.istore 4, 2) := dk_54 4 (dk_at dksX8_countsWays_2 0 rfl rfl)
theorem dX8_countsWays_50 : decode cX8_countsWays 50 = .ok (.iload_n 3, 1) := dk_29 (dk_at dksX8_countsWays_2 2 rfl rfl)
theorem dX8_countsWays_51 : decode cX8_countsWays 51 = .ok (.bipush 10, 2) := dk_16 10 (dk_at dksX8_countsWays_2 3 rfl rfl)
theorem dX8_countsWays_53 : decode cX8_countsWays 53 = .ok (.irem, 1) := dk_112 (dk_at dksX8_countsWays_2 5 rfl rfl)
theorem dX8_countsWays_54 : decode cX8_countsWays 54 = .ok (.istore 5, 2) := dk_54 5 (dk_at dksX8_countsWays_2 6 rfl rfl)
theorem dX8_countsWays_56 : decode cX8_countsWays 56 = .ok (.iload 4, 2) := dk_21 4 (dk_at dksX8_countsWays_2 8 rfl rfl)
theorem dX8_countsWays_58 : decode cX8_countsWays 58 = .ok (.iload 5, 2) := dk_21 5 (dk_at dksX8_countsWays_2 10 rfl rfl)
theorem dX8_countsWays_60 : decode cX8_countsWays 60 = .ok (.if_icmp .ge 62, 3) := dk_162 0 62 (dk_at dksX8_countsWays_2 12 rfl rfl)
theorem dX8_countsWays_63 : decode cX8_countsWays 63 = .ok (.iload 5, 2) := dk_21 5 (dk_at dksX8_countsWays_2 15 rfl rfl)
theorem dX8_countsWays_65 : decode cX8_countsWays 65 = .ok (.aload_n 0, 1) := dk_42 (dk_at dksX8_countsWays_2 17 rfl rfl)
theorem dX8_countsWays_66 : decode cX8_countsWays 66 = .ok (.getfield 316, 3) := dk_180 1 60 (dk_at dksX8_countsWays_2 18 rfl rfl)
theorem dX8_countsWays_69 : decode cX8_countsWays 69 = .ok (.getfield 194, 3) := dk_180 0 194 (dk_at dksX8_countsWays_2 21 rfl rfl)
theorem dX8_countsWays_72 : decode cX8_countsWays 72 = .ok (.if_icmp .ge 50, 3) := dk_162 0 50 (dk_at dksX8_countsWays_3 0 rfl rfl)
theorem dX8_countsWays_75 : decode cX8_countsWays 75 = .ok (.aload_n 0, 1) := dk_42 (dk_at dksX8_countsWays_3 3 rfl rfl)
theorem dX8_countsWays_76 : decode cX8_countsWays 76 = .ok (.getfield 316, 3) := dk_180 1 60 (dk_at dksX8_countsWays_3 4 rfl rfl)
theorem dX8_countsWays_79 : decode cX8_countsWays 79 = .ok (.iload 4, 2) := dk_21 4 (dk_at dksX8_countsWays_3 7 rfl rfl)
theorem dX8_countsWays_81 : decode cX8_countsWays 81 = .ok (.iload 5, 2) := dk_21 5 (dk_at dksX8_countsWays_3 9 rfl rfl)
theorem dX8_countsWays_83 : decode cX8_countsWays 83 = .ok (.invokevirtual 368, 3) := dk_182 1 112 (dk_at dksX8_countsWays_3 11 rfl rfl)
theorem dX8_countsWays_86 : decode cX8_countsWays 86 = .ok (.ifCond .eq 36, 3) := dk_153 0 36 (dk_at dksX8_countsWays_3 14 rfl rfl)
theorem dX8_countsWays_89 : decode cX8_countsWays 89 = .ok (.aload_n 0, 1) := dk_42 (dk_at dksX8_countsWays_3 17 rfl rfl)
theorem dX8_countsWays_90 : decode cX8_countsWays 90 = .ok (.iload_n 3, 1) := dk_29 (dk_at dksX8_countsWays_3 18 rfl rfl)
theorem dX8_countsWays_91 : decode cX8_countsWays 91 = .ok (.bipush 100, 2) := dk_16 100 (dk_at dksX8_countsWays_3 19 rfl rfl)
theorem dX8_countsWays_93 : decode cX8_countsWays 93 = .ok (.idiv, 1) := dk_108 (dk_at dksX8_countsWays_3 21 rfl rfl)
theorem dX8_countsWays_94 : decode cX8_countsWays 94 = .ok (.iload 4, 2) := dk_21 4 (dk_at dksX8_countsWays_3 22 rfl rfl)
theorem dX8_countsWays_96 : decode cX8_countsWays 96 = .ok (.iload 5, 2) := dk_21 5 (dk_at dksX8_countsWays_4 0 rfl rfl)
theorem dX8_countsWays_98 : decode cX8_countsWays 98 = .ok (.invokevirtual 383, 3) := dk_182 1 127 (dk_at dksX8_countsWays_4 2 rfl rfl)
theorem dX8_countsWays_101 : decode cX8_countsWays 101 = .ok (.bipush (-2), 2) := dk_16 254 (dk_at dksX8_countsWays_4 5 rfl rfl)
theorem dX8_countsWays_103 : decode cX8_countsWays 103 = .ok (.if_icmp .eq 6, 3) := dk_159 0 6 (dk_at dksX8_countsWays_4 7 rfl rfl)
theorem dX8_countsWays_106 : decode cX8_countsWays 106 = .ok (.goto 16, 3) := dk_167 0 16 (dk_at dksX8_countsWays_4 10 rfl rfl)
theorem dX8_countsWays_109 : decode cX8_countsWays 109 = .ok (.iload_n 2, 1) := dk_28 (dk_at dksX8_countsWays_4 13 rfl rfl)
theorem dX8_countsWays_110 : decode cX8_countsWays 110 = .ok (.iload_n 1, 1) := dk_27 (dk_at dksX8_countsWays_4 14 rfl rfl)
theorem dX8_countsWays_111 : decode cX8_countsWays 111 = .ok (.if_icmp .ne 8, 3) := dk_160 0 8 (dk_at dksX8_countsWays_4 15 rfl rfl)
theorem dX8_countsWays_114 : decode cX8_countsWays 114 = .ok (.aload_n 0, 1) := dk_42 (dk_at dksX8_countsWays_4 18 rfl rfl)
theorem dX8_countsWays_115 : decode cX8_countsWays 115 = .ok (.iload_n 3, 1) := dk_29 (dk_at dksX8_countsWays_4 19 rfl rfl)
theorem dX8_countsWays_116 : decode cX8_countsWays 116 = .ok (.putfield 387, 3) := dk_181 1 131 (dk_at dksX8_countsWays_4 20 rfl rfl)
theorem dX8_countsWays_119 : decode cX8_countsWays 119 = .ok (.iinc 2 1, 3) := dk_132 2 1 (dk_at dksX8_countsWays_5 0 rfl rfl)
theorem dX8_countsWays_122 : decode cX8_countsWays 122 = .ok (.iinc 3 1, 3) := dk_132 3 1 (dk_at dksX8_countsWays_5 3 rfl rfl)
theorem dX8_countsWays_125 : decode cX8_countsWays 125 = .ok (.goto (-91), 3) := dk_167 255 165 (dk_at dksX8_countsWays_5 6 rfl rfl)
theorem dX8_countsWays_128 : decode cX8_countsWays 128 = .ok (.iload_n 2, 1) := dk_28 (dk_at dksX8_countsWays_5 9 rfl rfl)
theorem dX8_countsWays_129 : decode cX8_countsWays 129 = .ok (.ireturn, 1) := dk_172 (dk_at dksX8_countsWays_5 10 rfl rfl)
abbrev cX8_wayAt : ByteArray := prog_26_method_77_code
def yX8_wayAt : MethodName := ⟨RX8, "wayAt", "(I)I"⟩
def dkwX8_wayAt_1 : List UInt8 := [27, 182, 1, 134, 162, 0, 14, 42, 42, 180, 1, 131, 182, 0, 55, 167, 0, 8, 42, 4, 182, 0, 51, 172]
abbrev dktX8_wayAt_1 : List UInt8 := dkwX8_wayAt_1 ++ []
def dkwX8_wayAt_0 : List UInt8 := [42, 3, 181, 0, 45, 42, 180, 1, 60, 199, 0, 9, 42, 4, 182, 0, 51, 172, 27, 155, 0, 23, 27, 42]
abbrev dktX8_wayAt_0 : List UInt8 := dkwX8_wayAt_0 ++ dktX8_wayAt_1
theorem dksX8_wayAt_0 : cX8_wayAt.data.toList.drop 0 = dktX8_wayAt_0 := by decide +kernel
theorem dksX8_wayAt_1 : cX8_wayAt.data.toList.drop 24 = dktX8_wayAt_1 := dk_seg dksX8_wayAt_0 24 rfl rfl
theorem dX8_wayAt_0 : decode cX8_wayAt 0 = .ok (.aload_n 0, 1) := dk_42 (dk_at dksX8_wayAt_0 0 rfl rfl)
theorem dX8_wayAt_1 : decode cX8_wayAt 1 = .ok (.iconst 0, 1) := dk_3 (dk_at dksX8_wayAt_0 1 rfl rfl)
theorem dX8_wayAt_2 : decode cX8_wayAt 2 = .ok (.putfield 45, 3) := dk_181 0 45 (dk_at dksX8_wayAt_0 2 rfl rfl)
theorem dX8_wayAt_5 : decode cX8_wayAt 5 = .ok (.aload_n 0, 1) := dk_42 (dk_at dksX8_wayAt_0 5 rfl rfl)
theorem dX8_wayAt_6 : decode cX8_wayAt 6 = .ok (.getfield 316, 3) := dk_180 1 60 (dk_at dksX8_wayAt_0 6 rfl rfl)
theorem dX8_wayAt_9 : decode cX8_wayAt 9 = .ok (.ifnonnull 9, 3) := dk_199 0 9 (dk_at dksX8_wayAt_0 9 rfl rfl)
theorem dX8_wayAt_12 : decode cX8_wayAt 12 = .ok (.aload_n 0, 1) := dk_42 (dk_at dksX8_wayAt_0 12 rfl rfl)
theorem dX8_wayAt_13 : decode cX8_wayAt 13 = .ok (.iconst 1, 1) := dk_4 (dk_at dksX8_wayAt_0 13 rfl rfl)
theorem dX8_wayAt_14 : decode cX8_wayAt 14 = .ok (.invokevirtual 51, 3) := dk_182 0 51 (dk_at dksX8_wayAt_0 14 rfl rfl)
theorem dX8_wayAt_17 : decode cX8_wayAt 17 = .ok (.ireturn, 1) := dk_172 (dk_at dksX8_wayAt_0 17 rfl rfl)
theorem dX8_wayAt_18 : decode cX8_wayAt 18 = .ok (.iload_n 1, 1) := dk_27 (dk_at dksX8_wayAt_0 18 rfl rfl)
theorem dX8_wayAt_19 : decode cX8_wayAt 19 = .ok (.ifCond .lt 23, 3) := dk_155 0 23 (dk_at dksX8_wayAt_0 19 rfl rfl)
theorem dX8_wayAt_22 : decode cX8_wayAt 22 = .ok (.iload_n 1, 1) := dk_27 (dk_at dksX8_wayAt_0 22 rfl rfl)
theorem dX8_wayAt_23 : decode cX8_wayAt 23 = .ok (.aload_n 0, 1) := dk_42 (dk_at dksX8_wayAt_0 23 rfl rfl)
theorem dX8_wayAt_24 : decode cX8_wayAt 24 = .ok (.iload_n 1, 1) := dk_27 (dk_at dksX8_wayAt_1 0 rfl rfl)
theorem dX8_wayAt_25 : decode cX8_wayAt 25 = .ok (.invokevirtual 390, 3) := dk_182 1 134 (dk_at dksX8_wayAt_1 1 rfl rfl)
theorem dX8_wayAt_28 : decode cX8_wayAt 28 = .ok (.if_icmp .ge 14, 3) := dk_162 0 14 (dk_at dksX8_wayAt_1 4 rfl rfl)
theorem dX8_wayAt_31 : decode cX8_wayAt 31 = .ok (.aload_n 0, 1) := dk_42 (dk_at dksX8_wayAt_1 7 rfl rfl)
theorem dX8_wayAt_32 : decode cX8_wayAt 32 = .ok (.aload_n 0, 1) := dk_42 (dk_at dksX8_wayAt_1 8 rfl rfl)
theorem dX8_wayAt_33 : decode cX8_wayAt 33 = .ok (.getfield 387, 3) := dk_180 1 131 (dk_at dksX8_wayAt_1 9 rfl rfl)
theorem dX8_wayAt_36 : decode cX8_wayAt 36 = .ok (.invokevirtual 55, 3) := dk_182 0 55 (dk_at dksX8_wayAt_1 12 rfl rfl)
theorem dX8_wayAt_39 : decode cX8_wayAt 39 = .ok (.goto 8, 3) := dk_167 0 8 (dk_at dksX8_wayAt_1 15 rfl rfl)
theorem dX8_wayAt_42 : decode cX8_wayAt 42 = .ok (.aload_n 0, 1) := dk_42 (dk_at dksX8_wayAt_1 18 rfl rfl)
theorem dX8_wayAt_43 : decode cX8_wayAt 43 = .ok (.iconst 1, 1) := dk_4 (dk_at dksX8_wayAt_1 19 rfl rfl)
theorem dX8_wayAt_44 : decode cX8_wayAt 44 = .ok (.invokevirtual 51, 3) := dk_182 0 51 (dk_at dksX8_wayAt_1 20 rfl rfl)
theorem dX8_wayAt_47 : decode cX8_wayAt 47 = .ok (.ireturn, 1) := dk_172 (dk_at dksX8_wayAt_1 23 rfl rfl)
abbrev cX8_owing : ByteArray := prog_26_method_78_code
def yX8_owing : MethodName := ⟨RX8, "owing", "(II)I"⟩
def dkwX8_owing_4 : List UInt8 := [182, 0, 55, 172]
abbrev dktX8_owing_4 : List UInt8 := dkwX8_owing_4 ++ []
def dkwX8_owing_3 : List UInt8 := [96, 46, 28, 160, 0, 10, 4, 21, 4, 120, 167, 0, 4, 3, 128, 62, 132, 4, 1, 167, 255, 204, 42, 29]
abbrev dktX8_owing_3 : List UInt8 := dkwX8_owing_3 ++ dktX8_owing_4
def dkwX8_owing_2 : List UInt8 := [162, 0, 46, 29, 42, 180, 0, 17, 8, 21, 4, 96, 46, 27, 160, 0, 23, 42, 180, 0, 17, 3, 21, 4]
abbrev dktX8_owing_2 : List UInt8 := dkwX8_owing_2 ++ dktX8_owing_3
def dkwX8_owing_1 : List UInt8 := [160, 0, 9, 42, 4, 182, 0, 51, 172, 3, 62, 3, 54, 4, 21, 4, 42, 180, 1, 60, 180, 0, 194]
abbrev dktX8_owing_1 : List UInt8 := dkwX8_owing_1 ++ dktX8_owing_2
def dkwX8_owing_0 : List UInt8 := [42, 3, 181, 0, 45, 42, 27, 182, 1, 106, 153, 0, 16, 42, 28, 182, 1, 106, 153, 0, 8, 27, 28]
abbrev dktX8_owing_0 : List UInt8 := dkwX8_owing_0 ++ dktX8_owing_1
theorem dksX8_owing_0 : cX8_owing.data.toList.drop 0 = dktX8_owing_0 := by decide +kernel
theorem dksX8_owing_1 : cX8_owing.data.toList.drop 23 = dktX8_owing_1 := dk_seg dksX8_owing_0 23 rfl rfl
theorem dksX8_owing_2 : cX8_owing.data.toList.drop 46 = dktX8_owing_2 := dk_seg dksX8_owing_1 23 rfl rfl
theorem dksX8_owing_3 : cX8_owing.data.toList.drop 70 = dktX8_owing_3 := dk_seg dksX8_owing_2 24 rfl rfl
theorem dksX8_owing_4 : cX8_owing.data.toList.drop 94 = dktX8_owing_4 := dk_seg dksX8_owing_3 24 rfl rfl
theorem dX8_owing_0 : decode cX8_owing 0 = .ok (.aload_n 0, 1) := dk_42 (dk_at dksX8_owing_0 0 rfl rfl)
theorem dX8_owing_1 : decode cX8_owing 1 = .ok (.iconst 0, 1) := dk_3 (dk_at dksX8_owing_0 1 rfl rfl)
theorem dX8_owing_2 : decode cX8_owing 2 = .ok (.putfield 45, 3) := dk_181 0 45 (dk_at dksX8_owing_0 2 rfl rfl)
theorem dX8_owing_5 : decode cX8_owing 5 = .ok (.aload_n 0, 1) := dk_42 (dk_at dksX8_owing_0 5 rfl rfl)
theorem dX8_owing_6 : decode cX8_owing 6 = .ok (.iload_n 1, 1) := dk_27 (dk_at dksX8_owing_0 6 rfl rfl)
theorem dX8_owing_7 : decode cX8_owing 7 = .ok (.invokevirtual 362, 3) := dk_182 1 106 (dk_at dksX8_owing_0 7 rfl rfl)
theorem dX8_owing_10 : decode cX8_owing 10 = .ok (.ifCond .eq 16, 3) := dk_153 0 16 (dk_at dksX8_owing_0 10 rfl rfl)
theorem dX8_owing_13 : decode cX8_owing 13 = .ok (.aload_n 0, 1) := dk_42 (dk_at dksX8_owing_0 13 rfl rfl)
theorem dX8_owing_14 : decode cX8_owing 14 = .ok (.iload_n 2, 1) := dk_28 (dk_at dksX8_owing_0 14 rfl rfl)
theorem dX8_owing_15 : decode cX8_owing 15 = .ok (.invokevirtual 362, 3) := dk_182 1 106 (dk_at dksX8_owing_0 15 rfl rfl)
theorem dX8_owing_18 : decode cX8_owing 18 = .ok (.ifCond .eq 8, 3) := dk_153 0 8 (dk_at dksX8_owing_0 18 rfl rfl)
theorem dX8_owing_21 : decode cX8_owing 21 = .ok (.iload_n 1, 1) := dk_27 (dk_at dksX8_owing_0 21 rfl rfl)
theorem dX8_owing_22 : decode cX8_owing 22 = .ok (.iload_n 2, 1) := dk_28 (dk_at dksX8_owing_0 22 rfl rfl)
theorem dX8_owing_23 : decode cX8_owing 23 = .ok (.if_icmp .ne 9, 3) := dk_160 0 9 (dk_at dksX8_owing_1 0 rfl rfl)
theorem dX8_owing_26 : decode cX8_owing 26 = .ok (.aload_n 0, 1) := dk_42 (dk_at dksX8_owing_1 3 rfl rfl)
theorem dX8_owing_27 : decode cX8_owing 27 = .ok (.iconst 1, 1) := dk_4 (dk_at dksX8_owing_1 4 rfl rfl)
theorem dX8_owing_28 : decode cX8_owing 28 = .ok (.invokevirtual 51, 3) := dk_182 0 51 (dk_at dksX8_owing_1 5 rfl rfl)
theorem dX8_owing_31 : decode cX8_owing 31 = .ok (.ireturn, 1) := dk_172 (dk_at dksX8_owing_1 8 rfl rfl)
theorem dX8_owing_32 : decode cX8_owing 32 = .ok (.iconst 0, 1) := dk_3 (dk_at dksX8_owing_1 9 rfl rfl)
theorem dX8_owing_33 : decode cX8_owing 33 = .ok (.istore_n 3, 1) := dk_62 (dk_at dksX8_owing_1 10 rfl rfl)
theorem dX8_owing_34 : decode cX8_owing 34 = .ok (.iconst 0, 1) := dk_3 (dk_at dksX8_owing_1 11 rfl rfl)
theorem dX8_owing_35 : decode cX8_owing 35 = .ok (.istore 4, 2) := dk_54 4 (dk_at dksX8_owing_1 12 rfl rfl)
theorem dX8_owing_37 : decode cX8_owing 37 = .ok (.iload 4, 2) := dk_21 4 (dk_at dksX8_owing_1 14 rfl rfl)
theorem dX8_owing_39 : decode cX8_owing 39 = .ok (.aload_n 0, 1) := dk_42 (dk_at dksX8_owing_1 16 rfl rfl)
theorem dX8_owing_40 : decode cX8_owing 40 = .ok (.getfield 316, 3) := dk_180 1 60 (dk_at dksX8_owing_1 17 rfl rfl)
theorem dX8_owing_43 : decode cX8_owing 43 = .ok (.getfield 194, 3) := dk_180 0 194 (dk_at dksX8_owing_1 20 rfl rfl)
theorem dX8_owing_46 : decode cX8_owing 46 = .ok (.if_icmp .ge 46, 3) := dk_162 0 46 (dk_at dksX8_owing_2 0 rfl rfl)
theorem dX8_owing_49 : decode cX8_owing 49 = .ok (.iload_n 3, 1) := dk_29 (dk_at dksX8_owing_2 3 rfl rfl)
theorem dX8_owing_50 : decode cX8_owing 50 = .ok (.aload_n 0, 1) := dk_42 (dk_at dksX8_owing_2 4 rfl rfl)
theorem dX8_owing_51 : decode cX8_owing 51 = .ok (.getfield 17, 3) := dk_180 0 17 (dk_at dksX8_owing_2 5 rfl rfl)
theorem dX8_owing_54 : decode cX8_owing 54 = .ok (.iconst 5, 1) := dk_8 (dk_at dksX8_owing_2 8 rfl rfl)
theorem dX8_owing_55 : decode cX8_owing 55 = .ok (.iload 4, 2) := dk_21 4 (dk_at dksX8_owing_2 9 rfl rfl)
theorem dX8_owing_57 : decode cX8_owing 57 = .ok (.iadd, 1) := dk_96 (dk_at dksX8_owing_2 11 rfl rfl)
theorem dX8_owing_58 : decode cX8_owing 58 = .ok (.iaload, 1) := dk_46 (dk_at dksX8_owing_2 12 rfl rfl)
theorem dX8_owing_59 : decode cX8_owing 59 = .ok (.iload_n 1, 1) := dk_27 (dk_at dksX8_owing_2 13 rfl rfl)
theorem dX8_owing_60 : decode cX8_owing 60 = .ok (.if_icmp .ne 23, 3) := dk_160 0 23 (dk_at dksX8_owing_2 14 rfl rfl)
theorem dX8_owing_63 : decode cX8_owing 63 = .ok (.aload_n 0, 1) := dk_42 (dk_at dksX8_owing_2 17 rfl rfl)
theorem dX8_owing_64 : decode cX8_owing 64 = .ok (.getfield 17, 3) := dk_180 0 17 (dk_at dksX8_owing_2 18 rfl rfl)
theorem dX8_owing_67 : decode cX8_owing 67 = .ok (.iconst 0, 1) := dk_3 (dk_at dksX8_owing_2 21 rfl rfl)
theorem dX8_owing_68 : decode cX8_owing 68 = .ok (.iload 4, 2) := dk_21 4 (dk_at dksX8_owing_2 22 rfl rfl)
theorem dX8_owing_70 : decode cX8_owing 70 = .ok (.iadd, 1) := dk_96 (dk_at dksX8_owing_3 0 rfl rfl)
theorem dX8_owing_71 : decode cX8_owing 71 = .ok (.iaload, 1) := dk_46 (dk_at dksX8_owing_3 1 rfl rfl)
theorem dX8_owing_72 : decode cX8_owing 72 = .ok (.iload_n 2, 1) := dk_28 (dk_at dksX8_owing_3 2 rfl rfl)
theorem dX8_owing_73 : decode cX8_owing 73 = .ok (.if_icmp .ne 10, 3) := dk_160 0 10 (dk_at dksX8_owing_3 3 rfl rfl)
theorem dX8_owing_76 : decode cX8_owing 76 = .ok (.iconst 1, 1) := dk_4 (dk_at dksX8_owing_3 6 rfl rfl)
theorem dX8_owing_77 : decode cX8_owing 77 = .ok (.iload 4, 2) := dk_21 4 (dk_at dksX8_owing_3 7 rfl rfl)
theorem dX8_owing_79 : decode cX8_owing 79 = .ok (.ishl, 1) := dk_120 (dk_at dksX8_owing_3 9 rfl rfl)
theorem dX8_owing_80 : decode cX8_owing 80 = .ok (.goto 4, 3) := dk_167 0 4 (dk_at dksX8_owing_3 10 rfl rfl)
theorem dX8_owing_83 : decode cX8_owing 83 = .ok (.iconst 0, 1) := dk_3 (dk_at dksX8_owing_3 13 rfl rfl)
theorem dX8_owing_84 : decode cX8_owing 84 = .ok (.ior, 1) := dk_128 (dk_at dksX8_owing_3 14 rfl rfl)
theorem dX8_owing_85 : decode cX8_owing 85 = .ok (.istore_n 3, 1) := dk_62 (dk_at dksX8_owing_3 15 rfl rfl)
theorem dX8_owing_86 : decode cX8_owing 86 = .ok (.iinc 4 1, 3) := dk_132 4 1 (dk_at dksX8_owing_3 16 rfl rfl)
theorem dX8_owing_89 : decode cX8_owing 89 = .ok (.goto (-52), 3) := dk_167 255 204 (dk_at dksX8_owing_3 19 rfl rfl)
theorem dX8_owing_92 : decode cX8_owing 92 = .ok (.aload_n 0, 1) := dk_42 (dk_at dksX8_owing_3 22 rfl rfl)
theorem dX8_owing_93 : decode cX8_owing 93 = .ok (.iload_n 3, 1) := dk_29 (dk_at dksX8_owing_3 23 rfl rfl)
theorem dX8_owing_94 : decode cX8_owing 94 = .ok (.invokevirtual 55, 3) := dk_182 0 55 (dk_at dksX8_owing_4 0 rfl rfl)
theorem dX8_owing_97 : decode cX8_owing 97 = .ok (.ireturn, 1) := dk_172 (dk_at dksX8_owing_4 3 rfl rfl)
abbrev cX8_change : ByteArray := prog_26_method_79_code
def yX8_change : MethodName := ⟨RX8, "change", "(IZ)I"⟩
def dkwX8_change_2 : List UInt8 := [180, 0, 17, 27, 182, 1, 109, 100, 182, 0, 55, 172]
abbrev dktX8_change_2 : List UInt8 := dkwX8_change_2 ++ []
def dkwX8_change_1 : List UInt8 := [182, 1, 137, 42, 42, 180, 0, 21, 28, 182, 1, 96, 42, 42, 42, 180, 0, 21, 27, 182, 1, 109, 42, 42]
abbrev dktX8_change_1 : List UInt8 := dkwX8_change_1 ++ dktX8_change_2
def dkwX8_change_0 : List UInt8 := [42, 3, 181, 0, 45, 42, 27, 182, 1, 106, 154, 0, 13, 42, 4, 182, 0, 51, 87, 17, 252, 24, 172, 42]
abbrev dktX8_change_0 : List UInt8 := dkwX8_change_0 ++ dktX8_change_1
theorem dksX8_change_0 : cX8_change.data.toList.drop 0 = dktX8_change_0 := by decide +kernel
theorem dksX8_change_1 : cX8_change.data.toList.drop 24 = dktX8_change_1 := dk_seg dksX8_change_0 24 rfl rfl
theorem dksX8_change_2 : cX8_change.data.toList.drop 48 = dktX8_change_2 := dk_seg dksX8_change_1 24 rfl rfl
theorem dX8_change_0 : decode cX8_change 0 = .ok (.aload_n 0, 1) := dk_42 (dk_at dksX8_change_0 0 rfl rfl)
theorem dX8_change_1 : decode cX8_change 1 = .ok (.iconst 0, 1) := dk_3 (dk_at dksX8_change_0 1 rfl rfl)
theorem dX8_change_2 : decode cX8_change 2 = .ok (.putfield 45, 3) := dk_181 0 45 (dk_at dksX8_change_0 2 rfl rfl)
theorem dX8_change_5 : decode cX8_change 5 = .ok (.aload_n 0, 1) := dk_42 (dk_at dksX8_change_0 5 rfl rfl)
theorem dX8_change_6 : decode cX8_change 6 = .ok (.iload_n 1, 1) := dk_27 (dk_at dksX8_change_0 6 rfl rfl)
theorem dX8_change_7 : decode cX8_change 7 = .ok (.invokevirtual 362, 3) := dk_182 1 106 (dk_at dksX8_change_0 7 rfl rfl)
theorem dX8_change_10 : decode cX8_change 10 = .ok (.ifCond .ne 13, 3) := dk_154 0 13 (dk_at dksX8_change_0 10 rfl rfl)
theorem dX8_change_13 : decode cX8_change 13 = .ok (.aload_n 0, 1) := dk_42 (dk_at dksX8_change_0 13 rfl rfl)
theorem dX8_change_14 : decode cX8_change 14 = .ok (.iconst 1, 1) := dk_4 (dk_at dksX8_change_0 14 rfl rfl)
theorem dX8_change_15 : decode cX8_change 15 = .ok (.invokevirtual 51, 3) := dk_182 0 51 (dk_at dksX8_change_0 15 rfl rfl)
theorem dX8_change_18 : decode cX8_change 18 = .ok (.pop, 1) := dk_87 (dk_at dksX8_change_0 18 rfl rfl)
theorem dX8_change_19 : decode cX8_change 19 = .ok (.sipush (-1000), 3) := dk_17 252 24 (dk_at dksX8_change_0 19 rfl rfl)
theorem dX8_change_22 : decode cX8_change 22 = .ok (.ireturn, 1) := dk_172 (dk_at dksX8_change_0 22 rfl rfl)
theorem dX8_change_23 : decode cX8_change 23 = .ok (.aload_n 0, 1) := dk_42 (dk_at dksX8_change_0 23 rfl rfl)
theorem dX8_change_24 : decode cX8_change 24 = .ok (.invokevirtual 393, 3) := dk_182 1 137 (dk_at dksX8_change_1 0 rfl rfl)
theorem dX8_change_27 : decode cX8_change 27 = .ok (.aload_n 0, 1) := dk_42 (dk_at dksX8_change_1 3 rfl rfl)
theorem dX8_change_28 : decode cX8_change 28 = .ok (.aload_n 0, 1) := dk_42 (dk_at dksX8_change_1 4 rfl rfl)
theorem dX8_change_29 : decode cX8_change 29 = .ok (.getfield 21, 3) := dk_180 0 21 (dk_at dksX8_change_1 5 rfl rfl)
theorem dX8_change_32 : decode cX8_change 32 = .ok (.iload_n 2, 1) := dk_28 (dk_at dksX8_change_1 8 rfl rfl)
theorem dX8_change_33 : decode cX8_change 33 = .ok (.invokevirtual 352, 3) := dk_182 1 96 (dk_at dksX8_change_1 9 rfl rfl)
theorem dX8_change_36 : decode cX8_change 36 = .ok (.aload_n 0, 1) := dk_42 (dk_at dksX8_change_1 12 rfl rfl)
theorem dX8_change_37 : decode cX8_change 37 = .ok (.aload_n 0, 1) := dk_42 (dk_at dksX8_change_1 13 rfl rfl)
theorem dX8_change_38 : decode cX8_change 38 = .ok (.aload_n 0, 1) := dk_42 (dk_at dksX8_change_1 14 rfl rfl)
theorem dX8_change_39 : decode cX8_change 39 = .ok (.getfield 21, 3) := dk_180 0 21 (dk_at dksX8_change_1 15 rfl rfl)
theorem dX8_change_42 : decode cX8_change 42 = .ok (.iload_n 1, 1) := dk_27 (dk_at dksX8_change_1 18 rfl rfl)
theorem dX8_change_43 : decode cX8_change 43 = .ok (.invokevirtual 365, 3) := dk_182 1 109 (dk_at dksX8_change_1 19 rfl rfl)
theorem dX8_change_46 : decode cX8_change 46 = .ok (.aload_n 0, 1) := dk_42 (dk_at dksX8_change_1 22 rfl rfl)
theorem dX8_change_47 : decode cX8_change 47 = .ok (.aload_n 0, 1) := dk_42 (dk_at dksX8_change_1 23 rfl rfl)
theorem dX8_change_48 : decode cX8_change 48 = .ok (.getfield 17, 3) := dk_180 0 17 (dk_at dksX8_change_2 0 rfl rfl)
theorem dX8_change_51 : decode cX8_change 51 = .ok (.iload_n 1, 1) := dk_27 (dk_at dksX8_change_2 3 rfl rfl)
theorem dX8_change_52 : decode cX8_change 52 = .ok (.invokevirtual 365, 3) := dk_182 1 109 (dk_at dksX8_change_2 4 rfl rfl)
theorem dX8_change_55 : decode cX8_change 55 = .ok (.isub, 1) := dk_100 (dk_at dksX8_change_2 7 rfl rfl)
theorem dX8_change_56 : decode cX8_change 56 = .ok (.invokevirtual 55, 3) := dk_182 0 55 (dk_at dksX8_change_2 8 rfl rfl)
theorem dX8_change_59 : decode cX8_change 59 = .ok (.ireturn, 1) := dk_172 (dk_at dksX8_change_2 11 rfl rfl)
abbrev cX8_tries : ByteArray := prog_26_method_47_code
def yX8_tries : MethodName := ⟨RX8, "tries", "()V"⟩
def dkwX8_tries_1 : List UInt8 := [167, 255, 235, 177]
abbrev dktX8_tries_1 : List UInt8 := dkwX8_tries_1 ++ []
def dkwX8_tries_0 : List UInt8 := [3, 60, 27, 16, 11, 162, 0, 21, 42, 180, 0, 21, 27, 42, 180, 0, 17, 27, 46, 79, 132, 1, 1]
abbrev dktX8_tries_0 : List UInt8 := dkwX8_tries_0 ++ dktX8_tries_1
theorem dksX8_tries_0 : cX8_tries.data.toList.drop 0 = dktX8_tries_0 := by decide +kernel
theorem dksX8_tries_1 : cX8_tries.data.toList.drop 23 = dktX8_tries_1 := dk_seg dksX8_tries_0 23 rfl rfl
theorem dX8_tries_0 : decode cX8_tries 0 = .ok (.iconst 0, 1) := dk_3 (dk_at dksX8_tries_0 0 rfl rfl)
theorem dX8_tries_1 : decode cX8_tries 1 = .ok (.istore_n 1, 1) := dk_60 (dk_at dksX8_tries_0 1 rfl rfl)
theorem dX8_tries_2 : decode cX8_tries 2 = .ok (.iload_n 1, 1) := dk_27 (dk_at dksX8_tries_0 2 rfl rfl)
theorem dX8_tries_3 : decode cX8_tries 3 = .ok (.bipush 11, 2) := dk_16 11 (dk_at dksX8_tries_0 3 rfl rfl)
theorem dX8_tries_5 : decode cX8_tries 5 = .ok (.if_icmp .ge 21, 3) := dk_162 0 21 (dk_at dksX8_tries_0 5 rfl rfl)
theorem dX8_tries_8 : decode cX8_tries 8 = .ok (.aload_n 0, 1) := dk_42 (dk_at dksX8_tries_0 8 rfl rfl)
theorem dX8_tries_9 : decode cX8_tries 9 = .ok (.getfield 21, 3) := dk_180 0 21 (dk_at dksX8_tries_0 9 rfl rfl)
theorem dX8_tries_12 : decode cX8_tries 12 = .ok (.iload_n 1, 1) := dk_27 (dk_at dksX8_tries_0 12 rfl rfl)
theorem dX8_tries_13 : decode cX8_tries 13 = .ok (.aload_n 0, 1) := dk_42 (dk_at dksX8_tries_0 13 rfl rfl)
theorem dX8_tries_14 : decode cX8_tries 14 = .ok (.getfield 17, 3) := dk_180 0 17 (dk_at dksX8_tries_0 14 rfl rfl)
theorem dX8_tries_17 : decode cX8_tries 17 = .ok (.iload_n 1, 1) := dk_27 (dk_at dksX8_tries_0 17 rfl rfl)
theorem dX8_tries_18 : decode cX8_tries 18 = .ok (.iaload, 1) := dk_46 (dk_at dksX8_tries_0 18 rfl rfl)
theorem dX8_tries_19 : decode cX8_tries 19 = .ok (.iastore, 1) := dk_79 (dk_at dksX8_tries_0 19 rfl rfl)
theorem dX8_tries_20 : decode cX8_tries 20 = .ok (.iinc 1 1, 3) := dk_132 1 1 (dk_at dksX8_tries_0 20 rfl rfl)
theorem dX8_tries_23 : decode cX8_tries 23 = .ok (.goto (-21), 3) := dk_167 255 235 (dk_at dksX8_tries_1 0 rfl rfl)
theorem dX8_tries_26 : decode cX8_tries 26 = .ok (.return_, 1) := dk_177 (dk_at dksX8_tries_1 3 rfl rfl)
abbrev cX8_lapsesIn : ByteArray := prog_26_method_80_code
def yX8_lapsesIn : MethodName := ⟨RX8, "lapsesIn", "(I)I"⟩
def dkwX8_lapsesIn_3 : List UInt8 := [182, 0, 55, 172]
abbrev dktX8_lapsesIn_3 : List UInt8 := dkwX8_lapsesIn_3 ++ []
def dkwX8_lapsesIn_2 : List UInt8 := [182, 0, 55, 172, 42, 42, 180, 0, 21, 3, 182, 1, 96, 132, 2, 1, 167, 255, 219, 42, 16, 254]
abbrev dktX8_lapsesIn_2 : List UInt8 := dkwX8_lapsesIn_2 ++ dktX8_lapsesIn_3
def dkwX8_lapsesIn_1 : List UInt8 := [61, 28, 16, 30, 163, 0, 37, 42, 180, 0, 21, 8, 27, 96, 46, 16, 254, 160, 0, 9, 42, 28]
abbrev dktX8_lapsesIn_1 : List UInt8 := dkwX8_lapsesIn_1 ++ dktX8_lapsesIn_2
def dkwX8_lapsesIn_0 : List UInt8 := [42, 3, 181, 0, 45, 42, 27, 182, 1, 103, 154, 0, 9, 42, 4, 182, 0, 51, 172, 42, 182, 1, 137, 3]
abbrev dktX8_lapsesIn_0 : List UInt8 := dkwX8_lapsesIn_0 ++ dktX8_lapsesIn_1
theorem dksX8_lapsesIn_0 : cX8_lapsesIn.data.toList.drop 0 = dktX8_lapsesIn_0 := by decide +kernel
theorem dksX8_lapsesIn_1 : cX8_lapsesIn.data.toList.drop 24 = dktX8_lapsesIn_1 := dk_seg dksX8_lapsesIn_0 24 rfl rfl
theorem dksX8_lapsesIn_2 : cX8_lapsesIn.data.toList.drop 46 = dktX8_lapsesIn_2 := dk_seg dksX8_lapsesIn_1 22 rfl rfl
theorem dksX8_lapsesIn_3 : cX8_lapsesIn.data.toList.drop 68 = dktX8_lapsesIn_3 := dk_seg dksX8_lapsesIn_2 22 rfl rfl
theorem dX8_lapsesIn_0 : decode cX8_lapsesIn 0 = .ok (.aload_n 0, 1) := dk_42 (dk_at dksX8_lapsesIn_0 0 rfl rfl)
theorem dX8_lapsesIn_1 : decode cX8_lapsesIn 1 = .ok (.iconst 0, 1) := dk_3 (dk_at dksX8_lapsesIn_0 1 rfl rfl)
theorem dX8_lapsesIn_2 : decode cX8_lapsesIn 2 = .ok (.putfield 45, 3) := dk_181 0 45 (dk_at dksX8_lapsesIn_0 2 rfl rfl)
theorem dX8_lapsesIn_5 : decode cX8_lapsesIn 5 = .ok (.aload_n 0, 1) := dk_42 (dk_at dksX8_lapsesIn_0 5 rfl rfl)
theorem dX8_lapsesIn_6 : decode cX8_lapsesIn 6 = .ok (.iload_n 1, 1) := dk_27 (dk_at dksX8_lapsesIn_0 6 rfl rfl)
theorem dX8_lapsesIn_7 : decode cX8_lapsesIn 7 = .ok (.invokevirtual 359, 3) := dk_182 1 103 (dk_at dksX8_lapsesIn_0 7 rfl rfl)
theorem dX8_lapsesIn_10 : decode cX8_lapsesIn 10 = .ok (.ifCond .ne 9, 3) := dk_154 0 9 (dk_at dksX8_lapsesIn_0 10 rfl rfl)
theorem dX8_lapsesIn_13 : decode cX8_lapsesIn 13 = .ok (.aload_n 0, 1) := dk_42 (dk_at dksX8_lapsesIn_0 13 rfl rfl)
theorem dX8_lapsesIn_14 : decode cX8_lapsesIn 14 = .ok (.iconst 1, 1) := dk_4 (dk_at dksX8_lapsesIn_0 14 rfl rfl)
theorem dX8_lapsesIn_15 : decode cX8_lapsesIn 15 = .ok (.invokevirtual 51, 3) := dk_182 0 51 (dk_at dksX8_lapsesIn_0 15 rfl rfl)
theorem dX8_lapsesIn_18 : decode cX8_lapsesIn 18 = .ok (.ireturn, 1) := dk_172 (dk_at dksX8_lapsesIn_0 18 rfl rfl)
theorem dX8_lapsesIn_19 : decode cX8_lapsesIn 19 = .ok (.aload_n 0, 1) := dk_42 (dk_at dksX8_lapsesIn_0 19 rfl rfl)
theorem dX8_lapsesIn_20 : decode cX8_lapsesIn 20 = .ok (.invokevirtual 393, 3) := dk_182 1 137 (dk_at dksX8_lapsesIn_0 20 rfl rfl)
theorem dX8_lapsesIn_23 : decode cX8_lapsesIn 23 = .ok (.iconst 0, 1) := dk_3 (dk_at dksX8_lapsesIn_0 23 rfl rfl)
theorem dX8_lapsesIn_24 : decode cX8_lapsesIn 24 = .ok (.istore_n 2, 1) := dk_61 (dk_at dksX8_lapsesIn_1 0 rfl rfl)
theorem dX8_lapsesIn_25 : decode cX8_lapsesIn 25 = .ok (.iload_n 2, 1) := dk_28 (dk_at dksX8_lapsesIn_1 1 rfl rfl)
theorem dX8_lapsesIn_26 : decode cX8_lapsesIn 26 = .ok (.bipush 30, 2) := dk_16 30 (dk_at dksX8_lapsesIn_1 2 rfl rfl)
theorem dX8_lapsesIn_28 : decode cX8_lapsesIn 28 = .ok (.if_icmp .gt 37, 3) := dk_163 0 37 (dk_at dksX8_lapsesIn_1 4 rfl rfl)
theorem dX8_lapsesIn_31 : decode cX8_lapsesIn 31 = .ok (.aload_n 0, 1) := dk_42 (dk_at dksX8_lapsesIn_1 7 rfl rfl)
theorem dX8_lapsesIn_32 : decode cX8_lapsesIn 32 = .ok (.getfield 21, 3) := dk_180 0 21 (dk_at dksX8_lapsesIn_1 8 rfl rfl)
theorem dX8_lapsesIn_35 : decode cX8_lapsesIn 35 = .ok (.iconst 5, 1) := dk_8 (dk_at dksX8_lapsesIn_1 11 rfl rfl)
theorem dX8_lapsesIn_36 : decode cX8_lapsesIn 36 = .ok (.iload_n 1, 1) := dk_27 (dk_at dksX8_lapsesIn_1 12 rfl rfl)
theorem dX8_lapsesIn_37 : decode cX8_lapsesIn 37 = .ok (.iadd, 1) := dk_96 (dk_at dksX8_lapsesIn_1 13 rfl rfl)
theorem dX8_lapsesIn_38 : decode cX8_lapsesIn 38 = .ok (.iaload, 1) := dk_46 (dk_at dksX8_lapsesIn_1 14 rfl rfl)
theorem dX8_lapsesIn_39 : decode cX8_lapsesIn 39 = .ok (.bipush (-2), 2) := dk_16 254 (dk_at dksX8_lapsesIn_1 15 rfl rfl)
theorem dX8_lapsesIn_41 : decode cX8_lapsesIn 41 = .ok (.if_icmp .ne 9, 3) := dk_160 0 9 (dk_at dksX8_lapsesIn_1 17 rfl rfl)
theorem dX8_lapsesIn_44 : decode cX8_lapsesIn 44 = .ok (.aload_n 0, 1) := dk_42 (dk_at dksX8_lapsesIn_1 20 rfl rfl)
theorem dX8_lapsesIn_45 : decode cX8_lapsesIn 45 = .ok (.iload_n 2, 1) := dk_28 (dk_at dksX8_lapsesIn_1 21 rfl rfl)
theorem dX8_lapsesIn_46 : decode cX8_lapsesIn 46 = .ok (.invokevirtual 55, 3) := dk_182 0 55 (dk_at dksX8_lapsesIn_2 0 rfl rfl)
theorem dX8_lapsesIn_49 : decode cX8_lapsesIn 49 = .ok (.ireturn, 1) := dk_172 (dk_at dksX8_lapsesIn_2 3 rfl rfl)
theorem dX8_lapsesIn_50 : decode cX8_lapsesIn 50 = .ok (.aload_n 0, 1) := dk_42 (dk_at dksX8_lapsesIn_2 4 rfl rfl)
theorem dX8_lapsesIn_51 : decode cX8_lapsesIn 51 = .ok (.aload_n 0, 1) := dk_42 (dk_at dksX8_lapsesIn_2 5 rfl rfl)
theorem dX8_lapsesIn_52 : decode cX8_lapsesIn 52 = .ok (.getfield 21, 3) := dk_180 0 21 (dk_at dksX8_lapsesIn_2 6 rfl rfl)
theorem dX8_lapsesIn_55 : decode cX8_lapsesIn 55 = .ok (.iconst 0, 1) := dk_3 (dk_at dksX8_lapsesIn_2 9 rfl rfl)
theorem dX8_lapsesIn_56 : decode cX8_lapsesIn 56 = .ok (.invokevirtual 352, 3) := dk_182 1 96 (dk_at dksX8_lapsesIn_2 10 rfl rfl)
theorem dX8_lapsesIn_59 : decode cX8_lapsesIn 59 = .ok (.iinc 2 1, 3) := dk_132 2 1 (dk_at dksX8_lapsesIn_2 13 rfl rfl)
theorem dX8_lapsesIn_62 : decode cX8_lapsesIn 62 = .ok (.goto (-37), 3) := dk_167 255 219 (dk_at dksX8_lapsesIn_2 16 rfl rfl)
theorem dX8_lapsesIn_65 : decode cX8_lapsesIn 65 = .ok (.aload_n 0, 1) := dk_42 (dk_at dksX8_lapsesIn_2 19 rfl rfl)
theorem dX8_lapsesIn_66 : decode cX8_lapsesIn 66 = .ok (.bipush (-2), 2) := dk_16 254 (dk_at dksX8_lapsesIn_2 20 rfl rfl)
theorem dX8_lapsesIn_68 : decode cX8_lapsesIn 68 = .ok (.invokevirtual 55, 3) := dk_182 0 55 (dk_at dksX8_lapsesIn_3 0 rfl rfl)
theorem dX8_lapsesIn_71 : decode cX8_lapsesIn 71 = .ok (.ireturn, 1) := dk_172 (dk_at dksX8_lapsesIn_3 3 rfl rfl)
abbrev cX8_putRight : ByteArray := prog_26_method_86_code
def yX8_putRight : MethodName := ⟨RX8, "putRight", "()I"⟩
def dkwX8_putRight_1 : List UInt8 := [180, 1, 140, 182, 0, 55, 172]
abbrev dktX8_putRight_1 : List UInt8 := dkwX8_putRight_1 ++ []
def dkwX8_putRight_0 : List UInt8 := [42, 3, 181, 0, 45, 42, 180, 1, 60, 199, 0, 9, 42, 4, 182, 0, 51, 172, 42, 182, 1, 159, 42, 42]
abbrev dktX8_putRight_0 : List UInt8 := dkwX8_putRight_0 ++ dktX8_putRight_1
theorem dksX8_putRight_0 : cX8_putRight.data.toList.drop 0 = dktX8_putRight_0 := by decide +kernel
theorem dksX8_putRight_1 : cX8_putRight.data.toList.drop 24 = dktX8_putRight_1 := dk_seg dksX8_putRight_0 24 rfl rfl
theorem dX8_putRight_0 : decode cX8_putRight 0 = .ok (.aload_n 0, 1) := dk_42 (dk_at dksX8_putRight_0 0 rfl rfl)
theorem dX8_putRight_1 : decode cX8_putRight 1 = .ok (.iconst 0, 1) := dk_3 (dk_at dksX8_putRight_0 1 rfl rfl)
theorem dX8_putRight_2 : decode cX8_putRight 2 = .ok (.putfield 45, 3) := dk_181 0 45 (dk_at dksX8_putRight_0 2 rfl rfl)
theorem dX8_putRight_5 : decode cX8_putRight 5 = .ok (.aload_n 0, 1) := dk_42 (dk_at dksX8_putRight_0 5 rfl rfl)
theorem dX8_putRight_6 : decode cX8_putRight 6 = .ok (.getfield 316, 3) := dk_180 1 60 (dk_at dksX8_putRight_0 6 rfl rfl)
theorem dX8_putRight_9 : decode cX8_putRight 9 = .ok (.ifnonnull 9, 3) := dk_199 0 9 (dk_at dksX8_putRight_0 9 rfl rfl)
theorem dX8_putRight_12 : decode cX8_putRight 12 = .ok (.aload_n 0, 1) := dk_42 (dk_at dksX8_putRight_0 12 rfl rfl)
theorem dX8_putRight_13 : decode cX8_putRight 13 = .ok (.iconst 1, 1) := dk_4 (dk_at dksX8_putRight_0 13 rfl rfl)
theorem dX8_putRight_14 : decode cX8_putRight 14 = .ok (.invokevirtual 51, 3) := dk_182 0 51 (dk_at dksX8_putRight_0 14 rfl rfl)
theorem dX8_putRight_17 : decode cX8_putRight 17 = .ok (.ireturn, 1) := dk_172 (dk_at dksX8_putRight_0 17 rfl rfl)
theorem dX8_putRight_18 : decode cX8_putRight 18 = .ok (.aload_n 0, 1) := dk_42 (dk_at dksX8_putRight_0 18 rfl rfl)
theorem dX8_putRight_19 : decode cX8_putRight 19 = .ok (.invokevirtual 415, 3) := dk_182 1 159 (dk_at dksX8_putRight_0 19 rfl rfl)
theorem dX8_putRight_22 : decode cX8_putRight 22 = .ok (.aload_n 0, 1) := dk_42 (dk_at dksX8_putRight_0 22 rfl rfl)
theorem dX8_putRight_23 : decode cX8_putRight 23 = .ok (.aload_n 0, 1) := dk_42 (dk_at dksX8_putRight_0 23 rfl rfl)
theorem dX8_putRight_24 : decode cX8_putRight 24 = .ok (.getfield 396, 3) := dk_180 1 140 (dk_at dksX8_putRight_1 0 rfl rfl)
theorem dX8_putRight_27 : decode cX8_putRight 27 = .ok (.invokevirtual 55, 3) := dk_182 0 55 (dk_at dksX8_putRight_1 3 rfl rfl)
theorem dX8_putRight_30 : decode cX8_putRight 30 = .ok (.ireturn, 1) := dk_172 (dk_at dksX8_putRight_1 6 rfl rfl)
abbrev cX8_seeks : ByteArray := prog_26_method_82_code
def yX8_seeks : MethodName := ⟨RX8, "seeks", "()V"⟩
def dkwX8_seeks_2 : List UInt8 := [153, 0, 8, 42, 27, 182, 1, 146, 42, 27, 182, 1, 149, 61, 167, 255, 229, 132, 1, 1, 167, 255, 196, 177]
abbrev dktX8_seeks_2 : List UInt8 := dkwX8_seeks_2 ++ []
def dkwX8_seeks_1 : List UInt8 := [3, 79, 132, 2, 1, 167, 255, 241, 4, 61, 28, 153, 0, 29, 42, 182, 1, 137, 42, 27, 182, 1, 143]
abbrev dktX8_seeks_1 : List UInt8 := dkwX8_seeks_1 ++ dktX8_seeks_2
def dkwX8_seeks_0 : List UInt8 := [42, 2, 181, 1, 140, 3, 60, 27, 6, 163, 0, 61, 3, 61, 28, 27, 162, 0, 16, 42, 180, 0, 30, 28]
abbrev dktX8_seeks_0 : List UInt8 := dkwX8_seeks_0 ++ dktX8_seeks_1
theorem dksX8_seeks_0 : cX8_seeks.data.toList.drop 0 = dktX8_seeks_0 := by decide +kernel
theorem dksX8_seeks_1 : cX8_seeks.data.toList.drop 24 = dktX8_seeks_1 := dk_seg dksX8_seeks_0 24 rfl rfl
theorem dksX8_seeks_2 : cX8_seeks.data.toList.drop 47 = dktX8_seeks_2 := dk_seg dksX8_seeks_1 23 rfl rfl
theorem dX8_seeks_0 : decode cX8_seeks 0 = .ok (.aload_n 0, 1) := dk_42 (dk_at dksX8_seeks_0 0 rfl rfl)
theorem dX8_seeks_1 : decode cX8_seeks 1 = .ok (.iconst (-1), 1) := dk_2 (dk_at dksX8_seeks_0 1 rfl rfl)
theorem dX8_seeks_2 : decode cX8_seeks 2 = .ok (.putfield 396, 3) := dk_181 1 140 (dk_at dksX8_seeks_0 2 rfl rfl)
theorem dX8_seeks_5 : decode cX8_seeks 5 = .ok (.iconst 0, 1) := dk_3 (dk_at dksX8_seeks_0 5 rfl rfl)
theorem dX8_seeks_6 : decode cX8_seeks 6 = .ok (.istore_n 1, 1) := dk_60 (dk_at dksX8_seeks_0 6 rfl rfl)
theorem dX8_seeks_7 : decode cX8_seeks 7 = .ok (.iload_n 1, 1) := dk_27 (dk_at dksX8_seeks_0 7 rfl rfl)
theorem dX8_seeks_8 : decode cX8_seeks 8 = .ok (.iconst 3, 1) := dk_6 (dk_at dksX8_seeks_0 8 rfl rfl)
theorem dX8_seeks_9 : decode cX8_seeks 9 = .ok (.if_icmp .gt 61, 3) := dk_163 0 61 (dk_at dksX8_seeks_0 9 rfl rfl)
theorem dX8_seeks_12 : decode cX8_seeks 12 = .ok (.iconst 0, 1) := dk_3 (dk_at dksX8_seeks_0 12 rfl rfl)
theorem dX8_seeks_13 : decode cX8_seeks 13 = .ok (.istore_n 2, 1) := dk_61 (dk_at dksX8_seeks_0 13 rfl rfl)
theorem dX8_seeks_14 : decode cX8_seeks 14 = .ok (.iload_n 2, 1) := dk_28 (dk_at dksX8_seeks_0 14 rfl rfl)
theorem dX8_seeks_15 : decode cX8_seeks 15 = .ok (.iload_n 1, 1) := dk_27 (dk_at dksX8_seeks_0 15 rfl rfl)
theorem dX8_seeks_16 : decode cX8_seeks 16 = .ok (.if_icmp .ge 16, 3) := dk_162 0 16 (dk_at dksX8_seeks_0 16 rfl rfl)
theorem dX8_seeks_19 : decode cX8_seeks 19 = .ok (.aload_n 0, 1) := dk_42 (dk_at dksX8_seeks_0 19 rfl rfl)
theorem dX8_seeks_20 : decode cX8_seeks 20 = .ok (.getfield 30, 3) := dk_180 0 30 (dk_at dksX8_seeks_0 20 rfl rfl)
theorem dX8_seeks_23 : decode cX8_seeks 23 = .ok (.iload_n 2, 1) := dk_28 (dk_at dksX8_seeks_0 23 rfl rfl)
theorem dX8_seeks_24 : decode cX8_seeks 24 = .ok (.iconst 0, 1) := dk_3 (dk_at dksX8_seeks_1 0 rfl rfl)
theorem dX8_seeks_25 : decode cX8_seeks 25 = .ok (.iastore, 1) := dk_79 (dk_at dksX8_seeks_1 1 rfl rfl)
theorem dX8_seeks_26 : decode cX8_seeks 26 = .ok (.iinc 2 1, 3) := dk_132 2 1 (dk_at dksX8_seeks_1 2 rfl rfl)
theorem dX8_seeks_29 : decode cX8_seeks 29 = .ok (.goto (-15), 3) := dk_167 255 241 (dk_at dksX8_seeks_1 5 rfl rfl)
theorem dX8_seeks_32 : decode cX8_seeks 32 = .ok (.iconst 1, 1) := dk_4 (dk_at dksX8_seeks_1 8 rfl rfl)
theorem dX8_seeks_33 : decode cX8_seeks 33 = .ok (.istore_n 2, 1) := dk_61 (dk_at dksX8_seeks_1 9 rfl rfl)
theorem dX8_seeks_34 : decode cX8_seeks 34 = .ok (.iload_n 2, 1) := dk_28 (dk_at dksX8_seeks_1 10 rfl rfl)
theorem dX8_seeks_35 : decode cX8_seeks 35 = .ok (.ifCond .eq 29, 3) := dk_153 0 29 (dk_at dksX8_seeks_1 11 rfl rfl)
theorem dX8_seeks_38 : decode cX8_seeks 38 = .ok (.aload_n 0, 1) := dk_42 (dk_at dksX8_seeks_1 14 rfl rfl)
theorem dX8_seeks_39 : decode cX8_seeks 39 = .ok (.invokevirtual 393, 3) := dk_182 1 137 (dk_at dksX8_seeks_1 15 rfl rfl)
theorem dX8_seeks_42 : decode cX8_seeks 42 = .ok (.aload_n 0, 1) := dk_42 (dk_at dksX8_seeks_1 18 rfl rfl)
theorem dX8_seeks_43 : decode cX8_seeks 43 = .ok (.iload_n 1, 1) := dk_27 (dk_at dksX8_seeks_1 19 rfl rfl)
theorem dX8_seeks_44 : decode cX8_seeks 44 = .ok (.invokevirtual 399, 3) := dk_182 1 143 (dk_at dksX8_seeks_1 20 rfl rfl)
theorem dX8_seeks_47 : decode cX8_seeks 47 = .ok (.ifCond .eq 8, 3) := dk_153 0 8 (dk_at dksX8_seeks_2 0 rfl rfl)
theorem dX8_seeks_50 : decode cX8_seeks 50 = .ok (.aload_n 0, 1) := dk_42 (dk_at dksX8_seeks_2 3 rfl rfl)
theorem dX8_seeks_51 : decode cX8_seeks 51 = .ok (.iload_n 1, 1) := dk_27 (dk_at dksX8_seeks_2 4 rfl rfl)
theorem dX8_seeks_52 : decode cX8_seeks 52 = .ok (.invokevirtual 402, 3) := dk_182 1 146 (dk_at dksX8_seeks_2 5 rfl rfl)
theorem dX8_seeks_55 : decode cX8_seeks 55 = .ok (.aload_n 0, 1) := dk_42 (dk_at dksX8_seeks_2 8 rfl rfl)
theorem dX8_seeks_56 : decode cX8_seeks 56 = .ok (.iload_n 1, 1) := dk_27 (dk_at dksX8_seeks_2 9 rfl rfl)
theorem dX8_seeks_57 : decode cX8_seeks 57 = .ok (.invokevirtual 405, 3) := dk_182 1 149 (dk_at dksX8_seeks_2 10 rfl rfl)
theorem dX8_seeks_60 : decode cX8_seeks 60 = .ok (.istore_n 2, 1) := dk_61 (dk_at dksX8_seeks_2 13 rfl rfl)
theorem dX8_seeks_61 : decode cX8_seeks 61 = .ok (.goto (-27), 3) := dk_167 255 229 (dk_at dksX8_seeks_2 14 rfl rfl)
theorem dX8_seeks_64 : decode cX8_seeks 64 = .ok (.iinc 1 1, 3) := dk_132 1 1 (dk_at dksX8_seeks_2 17 rfl rfl)
theorem dX8_seeks_67 : decode cX8_seeks 67 = .ok (.goto (-60), 3) := dk_167 255 196 (dk_at dksX8_seeks_2 20 rfl rfl)
theorem dX8_seeks_70 : decode cX8_seeks 70 = .ok (.return_, 1) := dk_177 (dk_at dksX8_seeks_2 23 rfl rfl)
abbrev cX8_isDone : ByteArray := prog_26_method_84_code
def yX8_isDone : MethodName := ⟨RX8, "isDone", "(I)Z"⟩
def dkwX8_isDone_3 : List UInt8 := [184, 1, 89, 132, 2, 1, 167, 255, 183, 4, 172]
abbrev dktX8_isDone_3 : List UInt8 := dkwX8_isDone_3 ++ []
def dkwX8_isDone_2 : List UInt8 := [42, 180, 0, 21, 29, 21, 4, 182, 1, 155, 154, 0, 5, 3, 172, 42, 180, 0, 21, 29, 21, 4]
abbrev dktX8_isDone_2 : List UInt8 := dkwX8_isDone_2 ++ dktX8_isDone_3
def dkwX8_isDone_1 : List UInt8 := [16, 10, 112, 54, 4, 29, 21, 4, 162, 0, 29, 21, 4, 42, 180, 1, 60, 180, 0, 194, 162, 0, 17, 42]
abbrev dktX8_isDone_1 : List UInt8 := dkwX8_isDone_1 ++ dktX8_isDone_2
def dkwX8_isDone_0 : List UInt8 := [3, 61, 28, 27, 162, 0, 74, 42, 180, 0, 30, 28, 46, 16, 10, 108, 62, 42, 180, 0, 30, 28, 46]
abbrev dktX8_isDone_0 : List UInt8 := dkwX8_isDone_0 ++ dktX8_isDone_1
theorem dksX8_isDone_0 : cX8_isDone.data.toList.drop 0 = dktX8_isDone_0 := by decide +kernel
theorem dksX8_isDone_1 : cX8_isDone.data.toList.drop 23 = dktX8_isDone_1 := dk_seg dksX8_isDone_0 23 rfl rfl
theorem dksX8_isDone_2 : cX8_isDone.data.toList.drop 47 = dktX8_isDone_2 := dk_seg dksX8_isDone_1 24 rfl rfl
theorem dksX8_isDone_3 : cX8_isDone.data.toList.drop 69 = dktX8_isDone_3 := dk_seg dksX8_isDone_2 22 rfl rfl
theorem dX8_isDone_0 : decode cX8_isDone 0 = .ok (.iconst 0, 1) := dk_3 (dk_at dksX8_isDone_0 0 rfl rfl)
theorem dX8_isDone_1 : decode cX8_isDone 1 = .ok (.istore_n 2, 1) := dk_61 (dk_at dksX8_isDone_0 1 rfl rfl)
theorem dX8_isDone_2 : decode cX8_isDone 2 = .ok (.iload_n 2, 1) := dk_28 (dk_at dksX8_isDone_0 2 rfl rfl)
theorem dX8_isDone_3 : decode cX8_isDone 3 = .ok (.iload_n 1, 1) := dk_27 (dk_at dksX8_isDone_0 3 rfl rfl)
theorem dX8_isDone_4 : decode cX8_isDone 4 = .ok (.if_icmp .ge 74, 3) := dk_162 0 74 (dk_at dksX8_isDone_0 4 rfl rfl)
theorem dX8_isDone_7 : decode cX8_isDone 7 = .ok (.aload_n 0, 1) := dk_42 (dk_at dksX8_isDone_0 7 rfl rfl)
theorem dX8_isDone_8 : decode cX8_isDone 8 = .ok (.getfield 30, 3) := dk_180 0 30 (dk_at dksX8_isDone_0 8 rfl rfl)
theorem dX8_isDone_11 : decode cX8_isDone 11 = .ok (.iload_n 2, 1) := dk_28 (dk_at dksX8_isDone_0 11 rfl rfl)
theorem dX8_isDone_12 : decode cX8_isDone 12 = .ok (.iaload, 1) := dk_46 (dk_at dksX8_isDone_0 12 rfl rfl)
theorem dX8_isDone_13 : decode cX8_isDone 13 = .ok (.bipush 10, 2) := dk_16 10 (dk_at dksX8_isDone_0 13 rfl rfl)
theorem dX8_isDone_15 : decode cX8_isDone 15 = .ok (.idiv, 1) := dk_108 (dk_at dksX8_isDone_0 15 rfl rfl)
theorem dX8_isDone_16 : decode cX8_isDone 16 = .ok (.istore_n 3, 1) := dk_62 (dk_at dksX8_isDone_0 16 rfl rfl)
theorem dX8_isDone_17 : decode cX8_isDone 17 = .ok (.aload_n 0, 1) := dk_42 (dk_at dksX8_isDone_0 17 rfl rfl)
theorem dX8_isDone_18 : decode cX8_isDone 18 = .ok (.getfield 30, 3) := dk_180 0 30 (dk_at dksX8_isDone_0 18 rfl rfl)
theorem dX8_isDone_21 : decode cX8_isDone 21 = .ok (.iload_n 2, 1) := dk_28 (dk_at dksX8_isDone_0 21 rfl rfl)
theorem dX8_isDone_22 : decode cX8_isDone 22 = .ok (.iaload, 1) := dk_46 (dk_at dksX8_isDone_0 22 rfl rfl)
theorem dX8_isDone_23 : decode cX8_isDone 23 = .ok (.bipush 10, 2) := dk_16 10 (dk_at dksX8_isDone_1 0 rfl rfl)
theorem dX8_isDone_25 : decode cX8_isDone 25 = .ok (.irem, 1) := dk_112 (dk_at dksX8_isDone_1 2 rfl rfl)
theorem dX8_isDone_26 : decode cX8_isDone 26 = .ok (.istore 4, 2) := dk_54 4 (dk_at dksX8_isDone_1 3 rfl rfl)
theorem dX8_isDone_28 : decode cX8_isDone 28 = .ok (.iload_n 3, 1) := dk_29 (dk_at dksX8_isDone_1 5 rfl rfl)
theorem dX8_isDone_29 : decode cX8_isDone 29 = .ok (.iload 4, 2) := dk_21 4 (dk_at dksX8_isDone_1 6 rfl rfl)
theorem dX8_isDone_31 : decode cX8_isDone 31 = .ok (.if_icmp .ge 29, 3) := dk_162 0 29 (dk_at dksX8_isDone_1 8 rfl rfl)
theorem dX8_isDone_34 : decode cX8_isDone 34 = .ok (.iload 4, 2) := dk_21 4 (dk_at dksX8_isDone_1 11 rfl rfl)
theorem dX8_isDone_36 : decode cX8_isDone 36 = .ok (.aload_n 0, 1) := dk_42 (dk_at dksX8_isDone_1 13 rfl rfl)
theorem dX8_isDone_37 : decode cX8_isDone 37 = .ok (.getfield 316, 3) := dk_180 1 60 (dk_at dksX8_isDone_1 14 rfl rfl)
theorem dX8_isDone_40 : decode cX8_isDone 40 = .ok (.getfield 194, 3) := dk_180 0 194 (dk_at dksX8_isDone_1 17 rfl rfl)
theorem dX8_isDone_43 : decode cX8_isDone 43 = .ok (.if_icmp .ge 17, 3) := dk_162 0 17 (dk_at dksX8_isDone_1 20 rfl rfl)
theorem dX8_isDone_46 : decode cX8_isDone 46 = .ok (.aload_n 0, 1) := dk_42 (dk_at dksX8_isDone_1 23 rfl rfl)
theorem dX8_isDone_47 : decode cX8_isDone 47 = .ok (.aload_n 0, 1) := dk_42 (dk_at dksX8_isDone_2 0 rfl rfl)
theorem dX8_isDone_48 : decode cX8_isDone 48 = .ok (.getfield 21, 3) := dk_180 0 21 (dk_at dksX8_isDone_2 1 rfl rfl)
theorem dX8_isDone_51 : decode cX8_isDone 51 = .ok (.iload_n 3, 1) := dk_29 (dk_at dksX8_isDone_2 4 rfl rfl)
theorem dX8_isDone_52 : decode cX8_isDone 52 = .ok (.iload 4, 2) := dk_21 4 (dk_at dksX8_isDone_2 5 rfl rfl)
theorem dX8_isDone_54 : decode cX8_isDone 54 = .ok (.invokevirtual 411, 3) := dk_182 1 155 (dk_at dksX8_isDone_2 7 rfl rfl)
theorem dX8_isDone_57 : decode cX8_isDone 57 = .ok (.ifCond .ne 5, 3) := dk_154 0 5 (dk_at dksX8_isDone_2 10 rfl rfl)
theorem dX8_isDone_60 : decode cX8_isDone 60 = .ok (.iconst 0, 1) := dk_3 (dk_at dksX8_isDone_2 13 rfl rfl)
theorem dX8_isDone_61 : decode cX8_isDone 61 = .ok (.ireturn, 1) := dk_172 (dk_at dksX8_isDone_2 14 rfl rfl)
theorem dX8_isDone_62 : decode cX8_isDone 62 = .ok (.aload_n 0, 1) := dk_42 (dk_at dksX8_isDone_2 15 rfl rfl)
theorem dX8_isDone_63 : decode cX8_isDone 63 = .ok (.getfield 21, 3) := dk_180 0 21 (dk_at dksX8_isDone_2 16 rfl rfl)
theorem dX8_isDone_66 : decode cX8_isDone 66 = .ok (.iload_n 3, 1) := dk_29 (dk_at dksX8_isDone_2 19 rfl rfl)
theorem dX8_isDone_67 : decode cX8_isDone 67 = .ok (.iload 4, 2) := dk_21 4 (dk_at dksX8_isDone_2 20 rfl rfl)
theorem dX8_isDone_69 : decode cX8_isDone 69 = .ok (.invokestatic 345, 3) := dk_184 1 89 (dk_at dksX8_isDone_3 0 rfl rfl)
theorem dX8_isDone_72 : decode cX8_isDone 72 = .ok (.iinc 2 1, 3) := dk_132 2 1 (dk_at dksX8_isDone_3 3 rfl rfl)
theorem dX8_isDone_75 : decode cX8_isDone 75 = .ok (.goto (-73), 3) := dk_167 255 183 (dk_at dksX8_isDone_3 6 rfl rfl)
theorem dX8_isDone_78 : decode cX8_isDone 78 = .ok (.iconst 1, 1) := dk_4 (dk_at dksX8_isDone_3 9 rfl rfl)
theorem dX8_isDone_79 : decode cX8_isDone 79 = .ok (.ireturn, 1) := dk_172 (dk_at dksX8_isDone_3 10 rfl rfl)
abbrev cX8_canExchange : ByteArray := prog_26_method_81_code
def yX8_canExchange : MethodName := ⟨RX8, "canExchange", "([III)Z"⟩
def dkwX8_canExchange_0 : List UInt8 := [28, 29, 159, 0, 20, 43, 3, 28, 96, 46, 43, 3, 29, 96, 46, 159, 0, 7, 4, 167, 0, 4, 3, 172]
abbrev dktX8_canExchange_0 : List UInt8 := dkwX8_canExchange_0 ++ []
theorem dksX8_canExchange_0 : cX8_canExchange.data.toList.drop 0 = dktX8_canExchange_0 := by decide +kernel
theorem dX8_canExchange_0 : decode cX8_canExchange 0 = .ok (.iload_n 2, 1) := dk_28 (dk_at dksX8_canExchange_0 0 rfl rfl)
theorem dX8_canExchange_1 : decode cX8_canExchange 1 = .ok (.iload_n 3, 1) := dk_29 (dk_at dksX8_canExchange_0 1 rfl rfl)
theorem dX8_canExchange_2 : decode cX8_canExchange 2 = .ok (.if_icmp .eq 20, 3) := dk_159 0 20 (dk_at dksX8_canExchange_0 2 rfl rfl)
theorem dX8_canExchange_5 : decode cX8_canExchange 5 = .ok (.aload_n 1, 1) := dk_43 (dk_at dksX8_canExchange_0 5 rfl rfl)
theorem dX8_canExchange_6 : decode cX8_canExchange 6 = .ok (.iconst 0, 1) := dk_3 (dk_at dksX8_canExchange_0 6 rfl rfl)
theorem dX8_canExchange_7 : decode cX8_canExchange 7 = .ok (.iload_n 2, 1) := dk_28 (dk_at dksX8_canExchange_0 7 rfl rfl)
theorem dX8_canExchange_8 : decode cX8_canExchange 8 = .ok (.iadd, 1) := dk_96 (dk_at dksX8_canExchange_0 8 rfl rfl)
theorem dX8_canExchange_9 : decode cX8_canExchange 9 = .ok (.iaload, 1) := dk_46 (dk_at dksX8_canExchange_0 9 rfl rfl)
theorem dX8_canExchange_10 : decode cX8_canExchange 10 = .ok (.aload_n 1, 1) := dk_43 (dk_at dksX8_canExchange_0 10 rfl rfl)
theorem dX8_canExchange_11 : decode cX8_canExchange 11 = .ok (.iconst 0, 1) := dk_3 (dk_at dksX8_canExchange_0 11 rfl rfl)
theorem dX8_canExchange_12 : decode cX8_canExchange 12 = .ok (.iload_n 3, 1) := dk_29 (dk_at dksX8_canExchange_0 12 rfl rfl)
theorem dX8_canExchange_13 : decode cX8_canExchange 13 = .ok (.iadd, 1) := dk_96 (dk_at dksX8_canExchange_0 13 rfl rfl)
theorem dX8_canExchange_14 : decode cX8_canExchange 14 = .ok (.iaload, 1) := dk_46 (dk_at dksX8_canExchange_0 14 rfl rfl)
theorem dX8_canExchange_15 : decode cX8_canExchange 15 = .ok (.if_icmp .eq 7, 3) := dk_159 0 7 (dk_at dksX8_canExchange_0 15 rfl rfl)
theorem dX8_canExchange_18 : decode cX8_canExchange 18 = .ok (.iconst 1, 1) := dk_4 (dk_at dksX8_canExchange_0 18 rfl rfl)
theorem dX8_canExchange_19 : decode cX8_canExchange 19 = .ok (.goto 4, 3) := dk_167 0 4 (dk_at dksX8_canExchange_0 19 rfl rfl)
theorem dX8_canExchange_22 : decode cX8_canExchange 22 = .ok (.iconst 0, 1) := dk_3 (dk_at dksX8_canExchange_0 22 rfl rfl)
theorem dX8_canExchange_23 : decode cX8_canExchange 23 = .ok (.ireturn, 1) := dk_172 (dk_at dksX8_canExchange_0 23 rfl rfl)
abbrev cX8_takes : ByteArray := prog_26_method_83_code
def yX8_takes : MethodName := ⟨RX8, "takes", "(I)V"⟩
def dkwX8_takes_2 : List UInt8 := [29, 46, 79, 132, 3, 1, 167, 255, 236, 177]
abbrev dktX8_takes_2 : List UInt8 := dkwX8_takes_2 ++ []
def dkwX8_takes_1 : List UInt8 := [181, 1, 140, 42, 27, 181, 1, 152, 3, 62, 29, 27, 162, 0, 21, 42, 180, 0, 33, 29, 42, 180, 0, 30]
abbrev dktX8_takes_1 : List UInt8 := dkwX8_takes_1 ++ dktX8_takes_2
def dkwX8_takes_0 : List UInt8 := [42, 42, 180, 0, 21, 182, 1, 116, 184, 1, 86, 61, 28, 42, 180, 1, 140, 163, 0, 4, 177, 42, 28]
abbrev dktX8_takes_0 : List UInt8 := dkwX8_takes_0 ++ dktX8_takes_1
theorem dksX8_takes_0 : cX8_takes.data.toList.drop 0 = dktX8_takes_0 := by decide +kernel
theorem dksX8_takes_1 : cX8_takes.data.toList.drop 23 = dktX8_takes_1 := dk_seg dksX8_takes_0 23 rfl rfl
theorem dksX8_takes_2 : cX8_takes.data.toList.drop 47 = dktX8_takes_2 := dk_seg dksX8_takes_1 24 rfl rfl
theorem dX8_takes_0 : decode cX8_takes 0 = .ok (.aload_n 0, 1) := dk_42 (dk_at dksX8_takes_0 0 rfl rfl)
theorem dX8_takes_1 : decode cX8_takes 1 = .ok (.aload_n 0, 1) := dk_42 (dk_at dksX8_takes_0 1 rfl rfl)
theorem dX8_takes_2 : decode cX8_takes 2 = .ok (.getfield 21, 3) := dk_180 0 21 (dk_at dksX8_takes_0 2 rfl rfl)
theorem dX8_takes_5 : decode cX8_takes 5 = .ok (.invokevirtual 372, 3) := dk_182 1 116 (dk_at dksX8_takes_0 5 rfl rfl)
theorem dX8_takes_8 : decode cX8_takes 8 = .ok (.invokestatic 342, 3) := dk_184 1 86 (dk_at dksX8_takes_0 8 rfl rfl)
theorem dX8_takes_11 : decode cX8_takes 11 = .ok (.istore_n 2, 1) := dk_61 (dk_at dksX8_takes_0 11 rfl rfl)
theorem dX8_takes_12 : decode cX8_takes 12 = .ok (.iload_n 2, 1) := dk_28 (dk_at dksX8_takes_0 12 rfl rfl)
theorem dX8_takes_13 : decode cX8_takes 13 = .ok (.aload_n 0, 1) := dk_42 (dk_at dksX8_takes_0 13 rfl rfl)
theorem dX8_takes_14 : decode cX8_takes 14 = .ok (.getfield 396, 3) := dk_180 1 140 (dk_at dksX8_takes_0 14 rfl rfl)
theorem dX8_takes_17 : decode cX8_takes 17 = .ok (.if_icmp .gt 4, 3) := dk_163 0 4 (dk_at dksX8_takes_0 17 rfl rfl)
theorem dX8_takes_20 : decode cX8_takes 20 = .ok (.return_, 1) := dk_177 (dk_at dksX8_takes_0 20 rfl rfl)
theorem dX8_takes_21 : decode cX8_takes 21 = .ok (.aload_n 0, 1) := dk_42 (dk_at dksX8_takes_0 21 rfl rfl)
theorem dX8_takes_22 : decode cX8_takes 22 = .ok (.iload_n 2, 1) := dk_28 (dk_at dksX8_takes_0 22 rfl rfl)
theorem dX8_takes_23 : decode cX8_takes 23 = .ok (.putfield 396, 3) := dk_181 1 140 (dk_at dksX8_takes_1 0 rfl rfl)
theorem dX8_takes_26 : decode cX8_takes 26 = .ok (.aload_n 0, 1) := dk_42 (dk_at dksX8_takes_1 3 rfl rfl)
theorem dX8_takes_27 : decode cX8_takes 27 = .ok (.iload_n 1, 1) := dk_27 (dk_at dksX8_takes_1 4 rfl rfl)
theorem dX8_takes_28 : decode cX8_takes 28 = .ok (.putfield 408, 3) := dk_181 1 152 (dk_at dksX8_takes_1 5 rfl rfl)
theorem dX8_takes_31 : decode cX8_takes 31 = .ok (.iconst 0, 1) := dk_3 (dk_at dksX8_takes_1 8 rfl rfl)
theorem dX8_takes_32 : decode cX8_takes 32 = .ok (.istore_n 3, 1) := dk_62 (dk_at dksX8_takes_1 9 rfl rfl)
theorem dX8_takes_33 : decode cX8_takes 33 = .ok (.iload_n 3, 1) := dk_29 (dk_at dksX8_takes_1 10 rfl rfl)
theorem dX8_takes_34 : decode cX8_takes 34 = .ok (.iload_n 1, 1) := dk_27 (dk_at dksX8_takes_1 11 rfl rfl)
theorem dX8_takes_35 : decode cX8_takes 35 = .ok (.if_icmp .ge 21, 3) := dk_162 0 21 (dk_at dksX8_takes_1 12 rfl rfl)
theorem dX8_takes_38 : decode cX8_takes 38 = .ok (.aload_n 0, 1) := dk_42 (dk_at dksX8_takes_1 15 rfl rfl)
theorem dX8_takes_39 : decode cX8_takes 39 = .ok (.getfield 33, 3) := dk_180 0 33 (dk_at dksX8_takes_1 16 rfl rfl)
theorem dX8_takes_42 : decode cX8_takes 42 = .ok (.iload_n 3, 1) := dk_29 (dk_at dksX8_takes_1 19 rfl rfl)
theorem dX8_takes_43 : decode cX8_takes 43 = .ok (.aload_n 0, 1) := dk_42 (dk_at dksX8_takes_1 20 rfl rfl)
theorem dX8_takes_44 : decode cX8_takes 44 = .ok (.getfield 30, 3) := dk_180 0 30 (dk_at dksX8_takes_1 21 rfl rfl)
theorem dX8_takes_47 : decode cX8_takes 47 = .ok (.iload_n 3, 1) := dk_29 (dk_at dksX8_takes_2 0 rfl rfl)
theorem dX8_takes_48 : decode cX8_takes 48 = .ok (.iaload, 1) := dk_46 (dk_at dksX8_takes_2 1 rfl rfl)
theorem dX8_takes_49 : decode cX8_takes 49 = .ok (.iastore, 1) := dk_79 (dk_at dksX8_takes_2 2 rfl rfl)
theorem dX8_takes_50 : decode cX8_takes 50 = .ok (.iinc 3 1, 3) := dk_132 3 1 (dk_at dksX8_takes_2 3 rfl rfl)
theorem dX8_takes_53 : decode cX8_takes 53 = .ok (.goto (-20), 3) := dk_167 255 236 (dk_at dksX8_takes_2 6 rfl rfl)
theorem dX8_takes_56 : decode cX8_takes 56 = .ok (.return_, 1) := dk_177 (dk_at dksX8_takes_2 9 rfl rfl)
abbrev cX8_nextRow : ByteArray := prog_26_method_85_code
def yX8_nextRow : MethodName := ⟨RX8, "nextRow", "(I)Z"⟩
def dkwX8_nextRow_1 : List UInt8 := [16, 50, 162, 0, 5, 4, 172, 42, 180, 0, 30, 28, 3, 79, 132, 2, 255, 167, 255, 219, 3, 172]
abbrev dktX8_nextRow_1 : List UInt8 := dkwX8_nextRow_1 ++ []
def dkwX8_nextRow_0 : List UInt8 := [27, 4, 100, 61, 28, 155, 0, 39, 42, 180, 0, 30, 28, 92, 46, 4, 96, 79, 42, 180, 0, 30, 28, 46]
abbrev dktX8_nextRow_0 : List UInt8 := dkwX8_nextRow_0 ++ dktX8_nextRow_1
theorem dksX8_nextRow_0 : cX8_nextRow.data.toList.drop 0 = dktX8_nextRow_0 := by decide +kernel
theorem dksX8_nextRow_1 : cX8_nextRow.data.toList.drop 24 = dktX8_nextRow_1 := dk_seg dksX8_nextRow_0 24 rfl rfl
theorem dX8_nextRow_0 : decode cX8_nextRow 0 = .ok (.iload_n 1, 1) := dk_27 (dk_at dksX8_nextRow_0 0 rfl rfl)
theorem dX8_nextRow_1 : decode cX8_nextRow 1 = .ok (.iconst 1, 1) := dk_4 (dk_at dksX8_nextRow_0 1 rfl rfl)
theorem dX8_nextRow_2 : decode cX8_nextRow 2 = .ok (.isub, 1) := dk_100 (dk_at dksX8_nextRow_0 2 rfl rfl)
theorem dX8_nextRow_3 : decode cX8_nextRow 3 = .ok (.istore_n 2, 1) := dk_61 (dk_at dksX8_nextRow_0 3 rfl rfl)
theorem dX8_nextRow_4 : decode cX8_nextRow 4 = .ok (.iload_n 2, 1) := dk_28 (dk_at dksX8_nextRow_0 4 rfl rfl)
theorem dX8_nextRow_5 : decode cX8_nextRow 5 = .ok (.ifCond .lt 39, 3) := dk_155 0 39 (dk_at dksX8_nextRow_0 5 rfl rfl)
theorem dX8_nextRow_8 : decode cX8_nextRow 8 = .ok (.aload_n 0, 1) := dk_42 (dk_at dksX8_nextRow_0 8 rfl rfl)
theorem dX8_nextRow_9 : decode cX8_nextRow 9 = .ok (.getfield 30, 3) := dk_180 0 30 (dk_at dksX8_nextRow_0 9 rfl rfl)
theorem dX8_nextRow_12 : decode cX8_nextRow 12 = .ok (.iload_n 2, 1) := dk_28 (dk_at dksX8_nextRow_0 12 rfl rfl)
theorem dX8_nextRow_13 : decode cX8_nextRow 13 = .ok (.dup2, 1) := dk_92 (dk_at dksX8_nextRow_0 13 rfl rfl)
theorem dX8_nextRow_14 : decode cX8_nextRow 14 = .ok (.iaload, 1) := dk_46 (dk_at dksX8_nextRow_0 14 rfl rfl)
theorem dX8_nextRow_15 : decode cX8_nextRow 15 = .ok (.iconst 1, 1) := dk_4 (dk_at dksX8_nextRow_0 15 rfl rfl)
theorem dX8_nextRow_16 : decode cX8_nextRow 16 = .ok (.iadd, 1) := dk_96 (dk_at dksX8_nextRow_0 16 rfl rfl)
theorem dX8_nextRow_17 : decode cX8_nextRow 17 = .ok (.iastore, 1) := dk_79 (dk_at dksX8_nextRow_0 17 rfl rfl)
theorem dX8_nextRow_18 : decode cX8_nextRow 18 = .ok (.aload_n 0, 1) := dk_42 (dk_at dksX8_nextRow_0 18 rfl rfl)
theorem dX8_nextRow_19 : decode cX8_nextRow 19 = .ok (.getfield 30, 3) := dk_180 0 30 (dk_at dksX8_nextRow_0 19 rfl rfl)
theorem dX8_nextRow_22 : decode cX8_nextRow 22 = .ok (.iload_n 2, 1) := dk_28 (dk_at dksX8_nextRow_0 22 rfl rfl)
theorem dX8_nextRow_23 : decode cX8_nextRow 23 = .ok (.iaload, 1) := dk_46 (dk_at dksX8_nextRow_0 23 rfl rfl)
theorem dX8_nextRow_24 : decode cX8_nextRow 24 = .ok (.bipush 50, 2) := dk_16 50 (dk_at dksX8_nextRow_1 0 rfl rfl)
theorem dX8_nextRow_26 : decode cX8_nextRow 26 = .ok (.if_icmp .ge 5, 3) := dk_162 0 5 (dk_at dksX8_nextRow_1 2 rfl rfl)
theorem dX8_nextRow_29 : decode cX8_nextRow 29 = .ok (.iconst 1, 1) := dk_4 (dk_at dksX8_nextRow_1 5 rfl rfl)
theorem dX8_nextRow_30 : decode cX8_nextRow 30 = .ok (.ireturn, 1) := dk_172 (dk_at dksX8_nextRow_1 6 rfl rfl)
theorem dX8_nextRow_31 : decode cX8_nextRow 31 = .ok (.aload_n 0, 1) := dk_42 (dk_at dksX8_nextRow_1 7 rfl rfl)
theorem dX8_nextRow_32 : decode cX8_nextRow 32 = .ok (.getfield 30, 3) := dk_180 0 30 (dk_at dksX8_nextRow_1 8 rfl rfl)
theorem dX8_nextRow_35 : decode cX8_nextRow 35 = .ok (.iload_n 2, 1) := dk_28 (dk_at dksX8_nextRow_1 11 rfl rfl)
theorem dX8_nextRow_36 : decode cX8_nextRow 36 = .ok (.iconst 0, 1) := dk_3 (dk_at dksX8_nextRow_1 12 rfl rfl)
theorem dX8_nextRow_37 : decode cX8_nextRow 37 = .ok (.iastore, 1) := dk_79 (dk_at dksX8_nextRow_1 13 rfl rfl)
theorem dX8_nextRow_38 : decode cX8_nextRow 38 = .ok (.iinc 2 (-1), 3) := dk_132 2 255 (dk_at dksX8_nextRow_1 14 rfl rfl)
theorem dX8_nextRow_41 : decode cX8_nextRow 41 = .ok (.goto (-37), 3) := dk_167 255 219 (dk_at dksX8_nextRow_1 17 rfl rfl)
theorem dX8_nextRow_44 : decode cX8_nextRow 44 = .ok (.iconst 0, 1) := dk_3 (dk_at dksX8_nextRow_1 20 rfl rfl)
theorem dX8_nextRow_45 : decode cX8_nextRow 45 = .ok (.ireturn, 1) := dk_172 (dk_at dksX8_nextRow_1 21 rfl rfl)
abbrev cX8_exchanges : ByteArray := prog_26_method_87_code
def yX8_exchanges : MethodName := ⟨RX8, "exchanges", "()I"⟩
def dkwX8_exchanges_1 : List UInt8 := [180, 1, 152, 182, 0, 55, 172]
abbrev dktX8_exchanges_1 : List UInt8 := dkwX8_exchanges_1 ++ []
def dkwX8_exchanges_0 : List UInt8 := [42, 3, 181, 0, 45, 42, 180, 1, 60, 199, 0, 9, 42, 4, 182, 0, 51, 172, 42, 182, 1, 159, 42, 42]
abbrev dktX8_exchanges_0 : List UInt8 := dkwX8_exchanges_0 ++ dktX8_exchanges_1
theorem dksX8_exchanges_0 : cX8_exchanges.data.toList.drop 0 = dktX8_exchanges_0 := by decide +kernel
theorem dksX8_exchanges_1 : cX8_exchanges.data.toList.drop 24 = dktX8_exchanges_1 := dk_seg dksX8_exchanges_0 24 rfl rfl
theorem dX8_exchanges_0 : decode cX8_exchanges 0 = .ok (.aload_n 0, 1) := dk_42 (dk_at dksX8_exchanges_0 0 rfl rfl)
theorem dX8_exchanges_1 : decode cX8_exchanges 1 = .ok (.iconst 0, 1) := dk_3 (dk_at dksX8_exchanges_0 1 rfl rfl)
theorem dX8_exchanges_2 : decode cX8_exchanges 2 = .ok (.putfield 45, 3) := dk_181 0 45 (dk_at dksX8_exchanges_0 2 rfl rfl)
theorem dX8_exchanges_5 : decode cX8_exchanges 5 = .ok (.aload_n 0, 1) := dk_42 (dk_at dksX8_exchanges_0 5 rfl rfl)
theorem dX8_exchanges_6 : decode cX8_exchanges 6 = .ok (.getfield 316, 3) := dk_180 1 60 (dk_at dksX8_exchanges_0 6 rfl rfl)
theorem dX8_exchanges_9 : decode cX8_exchanges 9 = .ok (.ifnonnull 9, 3) := dk_199 0 9 (dk_at dksX8_exchanges_0 9 rfl rfl)
theorem dX8_exchanges_12 : decode cX8_exchanges 12 = .ok (.aload_n 0, 1) := dk_42 (dk_at dksX8_exchanges_0 12 rfl rfl)
theorem dX8_exchanges_13 : decode cX8_exchanges 13 = .ok (.iconst 1, 1) := dk_4 (dk_at dksX8_exchanges_0 13 rfl rfl)
theorem dX8_exchanges_14 : decode cX8_exchanges 14 = .ok (.invokevirtual 51, 3) := dk_182 0 51 (dk_at dksX8_exchanges_0 14 rfl rfl)
theorem dX8_exchanges_17 : decode cX8_exchanges 17 = .ok (.ireturn, 1) := dk_172 (dk_at dksX8_exchanges_0 17 rfl rfl)
theorem dX8_exchanges_18 : decode cX8_exchanges 18 = .ok (.aload_n 0, 1) := dk_42 (dk_at dksX8_exchanges_0 18 rfl rfl)
theorem dX8_exchanges_19 : decode cX8_exchanges 19 = .ok (.invokevirtual 415, 3) := dk_182 1 159 (dk_at dksX8_exchanges_0 19 rfl rfl)
theorem dX8_exchanges_22 : decode cX8_exchanges 22 = .ok (.aload_n 0, 1) := dk_42 (dk_at dksX8_exchanges_0 22 rfl rfl)
theorem dX8_exchanges_23 : decode cX8_exchanges 23 = .ok (.aload_n 0, 1) := dk_42 (dk_at dksX8_exchanges_0 23 rfl rfl)
theorem dX8_exchanges_24 : decode cX8_exchanges 24 = .ok (.getfield 408, 3) := dk_180 1 152 (dk_at dksX8_exchanges_1 0 rfl rfl)
theorem dX8_exchanges_27 : decode cX8_exchanges 27 = .ok (.invokevirtual 55, 3) := dk_182 0 55 (dk_at dksX8_exchanges_1 3 rfl rfl)
theorem dX8_exchanges_30 : decode cX8_exchanges 30 = .ok (.ireturn, 1) := dk_172 (dk_at dksX8_exchanges_1 6 rfl rfl)
abbrev cX8_exchangeAt : ByteArray := prog_26_method_88_code
def yX8_exchangeAt : MethodName := ⟨RX8, "exchangeAt", "(I)I"⟩
def dkwX8_exchangeAt_2 : List UInt8 := [42, 4, 182, 0, 51, 172]
abbrev dktX8_exchangeAt_2 : List UInt8 := dkwX8_exchangeAt_2 ++ []
def dkwX8_exchangeAt_1 : List UInt8 := [155, 0, 24, 27, 42, 180, 1, 152, 162, 0, 16, 42, 42, 180, 0, 33, 27, 46, 182, 0, 55, 167, 0, 8]
abbrev dktX8_exchangeAt_1 : List UInt8 := dkwX8_exchangeAt_1 ++ dktX8_exchangeAt_2
def dkwX8_exchangeAt_0 : List UInt8 := [42, 3, 181, 0, 45, 42, 180, 1, 60, 199, 0, 9, 42, 4, 182, 0, 51, 172, 42, 182, 1, 159, 27]
abbrev dktX8_exchangeAt_0 : List UInt8 := dkwX8_exchangeAt_0 ++ dktX8_exchangeAt_1
theorem dksX8_exchangeAt_0 : cX8_exchangeAt.data.toList.drop 0 = dktX8_exchangeAt_0 := by decide +kernel
theorem dksX8_exchangeAt_1 : cX8_exchangeAt.data.toList.drop 23 = dktX8_exchangeAt_1 := dk_seg dksX8_exchangeAt_0 23 rfl rfl
theorem dksX8_exchangeAt_2 : cX8_exchangeAt.data.toList.drop 47 = dktX8_exchangeAt_2 := dk_seg dksX8_exchangeAt_1 24 rfl rfl
theorem dX8_exchangeAt_0 : decode cX8_exchangeAt 0 = .ok (.aload_n 0, 1) := dk_42 (dk_at dksX8_exchangeAt_0 0 rfl rfl)
theorem dX8_exchangeAt_1 : decode cX8_exchangeAt 1 = .ok (.iconst 0, 1) := dk_3 (dk_at dksX8_exchangeAt_0 1 rfl rfl)
theorem dX8_exchangeAt_2 : decode cX8_exchangeAt 2 = .ok (.putfield 45, 3) := dk_181 0 45 (dk_at dksX8_exchangeAt_0 2 rfl rfl)
theorem dX8_exchangeAt_5 : decode cX8_exchangeAt 5 = .ok (.aload_n 0, 1) := dk_42 (dk_at dksX8_exchangeAt_0 5 rfl rfl)
theorem dX8_exchangeAt_6 : decode cX8_exchangeAt 6 = .ok (.getfield 316, 3) := dk_180 1 60 (dk_at dksX8_exchangeAt_0 6 rfl rfl)
theorem dX8_exchangeAt_9 : decode cX8_exchangeAt 9 = .ok (.ifnonnull 9, 3) := dk_199 0 9 (dk_at dksX8_exchangeAt_0 9 rfl rfl)
theorem dX8_exchangeAt_12 : decode cX8_exchangeAt 12 = .ok (.aload_n 0, 1) := dk_42 (dk_at dksX8_exchangeAt_0 12 rfl rfl)
theorem dX8_exchangeAt_13 : decode cX8_exchangeAt 13 = .ok (.iconst 1, 1) := dk_4 (dk_at dksX8_exchangeAt_0 13 rfl rfl)
theorem dX8_exchangeAt_14 : decode cX8_exchangeAt 14 = .ok (.invokevirtual 51, 3) := dk_182 0 51 (dk_at dksX8_exchangeAt_0 14 rfl rfl)
theorem dX8_exchangeAt_17 : decode cX8_exchangeAt 17 = .ok (.ireturn, 1) := dk_172 (dk_at dksX8_exchangeAt_0 17 rfl rfl)
theorem dX8_exchangeAt_18 : decode cX8_exchangeAt 18 = .ok (.aload_n 0, 1) := dk_42 (dk_at dksX8_exchangeAt_0 18 rfl rfl)
theorem dX8_exchangeAt_19 : decode cX8_exchangeAt 19 = .ok (.invokevirtual 415, 3) := dk_182 1 159 (dk_at dksX8_exchangeAt_0 19 rfl rfl)
theorem dX8_exchangeAt_22 : decode cX8_exchangeAt 22 = .ok (.iload_n 1, 1) := dk_27 (dk_at dksX8_exchangeAt_0 22 rfl rfl)
theorem dX8_exchangeAt_23 : decode cX8_exchangeAt 23 = .ok (.ifCond .lt 24, 3) := dk_155 0 24 (dk_at dksX8_exchangeAt_1 0 rfl rfl)
theorem dX8_exchangeAt_26 : decode cX8_exchangeAt 26 = .ok (.iload_n 1, 1) := dk_27 (dk_at dksX8_exchangeAt_1 3 rfl rfl)
theorem dX8_exchangeAt_27 : decode cX8_exchangeAt 27 = .ok (.aload_n 0, 1) := dk_42 (dk_at dksX8_exchangeAt_1 4 rfl rfl)
theorem dX8_exchangeAt_28 : decode cX8_exchangeAt 28 = .ok (.getfield 408, 3) := dk_180 1 152 (dk_at dksX8_exchangeAt_1 5 rfl rfl)
theorem dX8_exchangeAt_31 : decode cX8_exchangeAt 31 = .ok (.if_icmp .ge 16, 3) := dk_162 0 16 (dk_at dksX8_exchangeAt_1 8 rfl rfl)
theorem dX8_exchangeAt_34 : decode cX8_exchangeAt 34 = .ok (.aload_n 0, 1) := dk_42 (dk_at dksX8_exchangeAt_1 11 rfl rfl)
theorem dX8_exchangeAt_35 : decode cX8_exchangeAt 35 = .ok (.aload_n 0, 1) := dk_42 (dk_at dksX8_exchangeAt_1 12 rfl rfl)
theorem dX8_exchangeAt_36 : decode cX8_exchangeAt 36 = .ok (.getfield 33, 3) := dk_180 0 33 (dk_at dksX8_exchangeAt_1 13 rfl rfl)
theorem dX8_exchangeAt_39 : decode cX8_exchangeAt 39 = .ok (.iload_n 1, 1) := dk_27 (dk_at dksX8_exchangeAt_1 16 rfl rfl)
theorem dX8_exchangeAt_40 : decode cX8_exchangeAt 40 = .ok (.iaload, 1) := dk_46 (dk_at dksX8_exchangeAt_1 17 rfl rfl)
theorem dX8_exchangeAt_41 : decode cX8_exchangeAt 41 = .ok (.invokevirtual 55, 3) := dk_182 0 55 (dk_at dksX8_exchangeAt_1 18 rfl rfl)
theorem dX8_exchangeAt_44 : decode cX8_exchangeAt 44 = .ok (.goto 8, 3) := dk_167 0 8 (dk_at dksX8_exchangeAt_1 21 rfl rfl)
theorem dX8_exchangeAt_47 : decode cX8_exchangeAt 47 = .ok (.aload_n 0, 1) := dk_42 (dk_at dksX8_exchangeAt_2 0 rfl rfl)
theorem dX8_exchangeAt_48 : decode cX8_exchangeAt 48 = .ok (.iconst 1, 1) := dk_4 (dk_at dksX8_exchangeAt_2 1 rfl rfl)
theorem dX8_exchangeAt_49 : decode cX8_exchangeAt 49 = .ok (.invokevirtual 51, 3) := dk_182 0 51 (dk_at dksX8_exchangeAt_2 2 rfl rfl)
theorem dX8_exchangeAt_52 : decode cX8_exchangeAt 52 = .ok (.ireturn, 1) := dk_172 (dk_at dksX8_exchangeAt_2 5 rfl rfl)
abbrev cX8_party : ByteArray := prog_26_method_94_code
def yX8_party : MethodName := ⟨RX8, "party", "(I)I"⟩
def dkwX8_party_1 : List UInt8 := [42, 42, 180, 1, 165, 182, 0, 55, 172]
abbrev dktX8_party_1 : List UInt8 := dkwX8_party_1 ++ []
def dkwX8_party_0 : List UInt8 := [42, 3, 181, 0, 45, 42, 27, 182, 1, 177, 154, 0, 9, 42, 4, 182, 0, 51, 172, 42, 27, 182, 1, 180]
abbrev dktX8_party_0 : List UInt8 := dkwX8_party_0 ++ dktX8_party_1
theorem dksX8_party_0 : cX8_party.data.toList.drop 0 = dktX8_party_0 := by decide +kernel
theorem dksX8_party_1 : cX8_party.data.toList.drop 24 = dktX8_party_1 := dk_seg dksX8_party_0 24 rfl rfl
theorem dX8_party_0 : decode cX8_party 0 = .ok (.aload_n 0, 1) := dk_42 (dk_at dksX8_party_0 0 rfl rfl)
theorem dX8_party_1 : decode cX8_party 1 = .ok (.iconst 0, 1) := dk_3 (dk_at dksX8_party_0 1 rfl rfl)
theorem dX8_party_2 : decode cX8_party 2 = .ok (.putfield 45, 3) := dk_181 0 45 (dk_at dksX8_party_0 2 rfl rfl)
theorem dX8_party_5 : decode cX8_party 5 = .ok (.aload_n 0, 1) := dk_42 (dk_at dksX8_party_0 5 rfl rfl)
theorem dX8_party_6 : decode cX8_party 6 = .ok (.iload_n 1, 1) := dk_27 (dk_at dksX8_party_0 6 rfl rfl)
theorem dX8_party_7 : decode cX8_party 7 = .ok (.invokevirtual 433, 3) := dk_182 1 177 (dk_at dksX8_party_0 7 rfl rfl)
theorem dX8_party_10 : decode cX8_party 10 = .ok (.ifCond .ne 9, 3) := dk_154 0 9 (dk_at dksX8_party_0 10 rfl rfl)
theorem dX8_party_13 : decode cX8_party 13 = .ok (.aload_n 0, 1) := dk_42 (dk_at dksX8_party_0 13 rfl rfl)
theorem dX8_party_14 : decode cX8_party 14 = .ok (.iconst 1, 1) := dk_4 (dk_at dksX8_party_0 14 rfl rfl)
theorem dX8_party_15 : decode cX8_party 15 = .ok (.invokevirtual 51, 3) := dk_182 0 51 (dk_at dksX8_party_0 15 rfl rfl)
theorem dX8_party_18 : decode cX8_party 18 = .ok (.ireturn, 1) := dk_172 (dk_at dksX8_party_0 18 rfl rfl)
theorem dX8_party_19 : decode cX8_party 19 = .ok (.aload_n 0, 1) := dk_42 (dk_at dksX8_party_0 19 rfl rfl)
theorem dX8_party_20 : decode cX8_party 20 = .ok (.iload_n 1, 1) := dk_27 (dk_at dksX8_party_0 20 rfl rfl)
theorem dX8_party_21 : decode cX8_party 21 = .ok (.invokevirtual 436, 3) := dk_182 1 180 (dk_at dksX8_party_0 21 rfl rfl)
theorem dX8_party_24 : decode cX8_party 24 = .ok (.aload_n 0, 1) := dk_42 (dk_at dksX8_party_1 0 rfl rfl)
theorem dX8_party_25 : decode cX8_party 25 = .ok (.aload_n 0, 1) := dk_42 (dk_at dksX8_party_1 1 rfl rfl)
theorem dX8_party_26 : decode cX8_party 26 = .ok (.getfield 421, 3) := dk_180 1 165 (dk_at dksX8_party_1 2 rfl rfl)
theorem dX8_party_29 : decode cX8_party 29 = .ok (.invokevirtual 55, 3) := dk_182 0 55 (dk_at dksX8_party_1 5 rfl rfl)
theorem dX8_party_32 : decode cX8_party 32 = .ok (.ireturn, 1) := dk_172 (dk_at dksX8_party_1 8 rfl rfl)
abbrev cX8_isParty : ByteArray := prog_26_method_89_code
def yX8_isParty : MethodName := ⟨RX8, "isParty", "(I)Z"⟩
def dkwX8_isParty_1 : List UInt8 := [153, 0, 7, 4, 167, 0, 4, 3, 172]
abbrev dktX8_isParty_1 : List UInt8 := dkwX8_isParty_1 ++ []
def dkwX8_isParty_0 : List UInt8 := [42, 180, 1, 60, 198, 0, 26, 27, 4, 4, 42, 180, 1, 60, 180, 0, 191, 120, 4, 100, 184, 0, 124]
abbrev dktX8_isParty_0 : List UInt8 := dkwX8_isParty_0 ++ dktX8_isParty_1
theorem dksX8_isParty_0 : cX8_isParty.data.toList.drop 0 = dktX8_isParty_0 := by decide +kernel
theorem dksX8_isParty_1 : cX8_isParty.data.toList.drop 23 = dktX8_isParty_1 := dk_seg dksX8_isParty_0 23 rfl rfl
theorem dX8_isParty_0 : decode cX8_isParty 0 = .ok (.aload_n 0, 1) := dk_42 (dk_at dksX8_isParty_0 0 rfl rfl)
theorem dX8_isParty_1 : decode cX8_isParty 1 = .ok (.getfield 316, 3) := dk_180 1 60 (dk_at dksX8_isParty_0 1 rfl rfl)
theorem dX8_isParty_4 : decode cX8_isParty 4 = .ok (.ifnull 26, 3) := dk_198 0 26 (dk_at dksX8_isParty_0 4 rfl rfl)
theorem dX8_isParty_7 : decode cX8_isParty 7 = .ok (.iload_n 1, 1) := dk_27 (dk_at dksX8_isParty_0 7 rfl rfl)
theorem dX8_isParty_8 : decode cX8_isParty 8 = .ok (.iconst 1, 1) := dk_4 (dk_at dksX8_isParty_0 8 rfl rfl)
theorem dX8_isParty_9 : decode cX8_isParty 9 = .ok (.iconst 1, 1) := dk_4 (dk_at dksX8_isParty_0 9 rfl rfl)
theorem dX8_isParty_10 : decode cX8_isParty 10 = .ok (.aload_n 0, 1) := dk_42 (dk_at dksX8_isParty_0 10 rfl rfl)
theorem dX8_isParty_11 : decode cX8_isParty 11 = .ok (.getfield 316, 3) := dk_180 1 60 (dk_at dksX8_isParty_0 11 rfl rfl)
theorem dX8_isParty_14 : decode cX8_isParty 14 = .ok (.getfield 191, 3) := dk_180 0 191 (dk_at dksX8_isParty_0 14 rfl rfl)
theorem dX8_isParty_17 : decode cX8_isParty 17 = .ok (.ishl, 1) := dk_120 (dk_at dksX8_isParty_0 17 rfl rfl)
theorem dX8_isParty_18 : decode cX8_isParty 18 = .ok (.iconst 1, 1) := dk_4 (dk_at dksX8_isParty_0 18 rfl rfl)
theorem dX8_isParty_19 : decode cX8_isParty 19 = .ok (.isub, 1) := dk_100 (dk_at dksX8_isParty_0 19 rfl rfl)
theorem dX8_isParty_20 : decode cX8_isParty 20 = .ok (.invokestatic 124, 3) := dk_184 0 124 (dk_at dksX8_isParty_0 20 rfl rfl)
theorem dX8_isParty_23 : decode cX8_isParty 23 = .ok (.ifCond .eq 7, 3) := dk_153 0 7 (dk_at dksX8_isParty_1 0 rfl rfl)
theorem dX8_isParty_26 : decode cX8_isParty 26 = .ok (.iconst 1, 1) := dk_4 (dk_at dksX8_isParty_1 3 rfl rfl)
theorem dX8_isParty_27 : decode cX8_isParty 27 = .ok (.goto 4, 3) := dk_167 0 4 (dk_at dksX8_isParty_1 4 rfl rfl)
theorem dX8_isParty_30 : decode cX8_isParty 30 = .ok (.iconst 0, 1) := dk_3 (dk_at dksX8_isParty_1 7 rfl rfl)
theorem dX8_isParty_31 : decode cX8_isParty 31 = .ok (.ireturn, 1) := dk_172 (dk_at dksX8_isParty_1 8 rfl rfl)
abbrev cX8_parties : ByteArray := prog_26_method_91_code
def yX8_parties : MethodName := ⟨RX8, "parties", "(I)V"⟩
def dkwX8_parties_4 : List UInt8 := [167, 255, 232, 42, 27, 182, 1, 171, 61, 167, 255, 182, 177]
abbrev dktX8_parties_4 : List UInt8 := dkwX8_parties_4 ++ []
def dkwX8_parties_3 : List UInt8 := [21, 4, 16, 6, 162, 0, 23, 42, 180, 0, 39, 21, 4, 42, 180, 0, 36, 21, 4, 46, 79, 132, 4, 1]
abbrev dktX8_parties_3 : List UInt8 := dkwX8_parties_3 ++ dktX8_parties_4
def dkwX8_parties_2 : List UInt8 := [180, 1, 165, 16, 254, 159, 0, 11, 29, 42, 180, 1, 165, 162, 0, 38, 42, 29, 181, 1, 165, 3, 54, 4]
abbrev dktX8_parties_2 : List UInt8 := dkwX8_parties_2 ++ dktX8_parties_3
def dkwX8_parties_1 : List UInt8 := [167, 255, 240, 4, 61, 28, 153, 0, 76, 42, 27, 182, 1, 168, 62, 29, 16, 254, 159, 0, 55, 42]
abbrev dktX8_parties_1 : List UInt8 := dkwX8_parties_1 ++ dktX8_parties_2
def dkwX8_parties_0 : List UInt8 := [42, 16, 254, 181, 1, 165, 3, 61, 28, 16, 6, 162, 0, 16, 42, 180, 0, 36, 28, 3, 79, 132, 2, 1]
abbrev dktX8_parties_0 : List UInt8 := dkwX8_parties_0 ++ dktX8_parties_1
theorem dksX8_parties_0 : cX8_parties.data.toList.drop 0 = dktX8_parties_0 := by decide +kernel
theorem dksX8_parties_1 : cX8_parties.data.toList.drop 24 = dktX8_parties_1 := dk_seg dksX8_parties_0 24 rfl rfl
theorem dksX8_parties_2 : cX8_parties.data.toList.drop 46 = dktX8_parties_2 := dk_seg dksX8_parties_1 22 rfl rfl
theorem dksX8_parties_3 : cX8_parties.data.toList.drop 70 = dktX8_parties_3 := dk_seg dksX8_parties_2 24 rfl rfl
theorem dksX8_parties_4 : cX8_parties.data.toList.drop 94 = dktX8_parties_4 := dk_seg dksX8_parties_3 24 rfl rfl
theorem dX8_parties_0 : decode cX8_parties 0 = .ok (.aload_n 0, 1) := dk_42 (dk_at dksX8_parties_0 0 rfl rfl)
theorem dX8_parties_1 : decode cX8_parties 1 = .ok (.bipush (-2), 2) := dk_16 254 (dk_at dksX8_parties_0 1 rfl rfl)
theorem dX8_parties_3 : decode cX8_parties 3 = .ok (.putfield 421, 3) := dk_181 1 165 (dk_at dksX8_parties_0 3 rfl rfl)
theorem dX8_parties_6 : decode cX8_parties 6 = .ok (.iconst 0, 1) := dk_3 (dk_at dksX8_parties_0 6 rfl rfl)
theorem dX8_parties_7 : decode cX8_parties 7 = .ok (.istore_n 2, 1) := dk_61 (dk_at dksX8_parties_0 7 rfl rfl)
theorem dX8_parties_8 : decode cX8_parties 8 = .ok (.iload_n 2, 1) := dk_28 (dk_at dksX8_parties_0 8 rfl rfl)
theorem dX8_parties_9 : decode cX8_parties 9 = .ok (.bipush 6, 2) := dk_16 6 (dk_at dksX8_parties_0 9 rfl rfl)
theorem dX8_parties_11 : decode cX8_parties 11 = .ok (.if_icmp .ge 16, 3) := dk_162 0 16 (dk_at dksX8_parties_0 11 rfl rfl)
theorem dX8_parties_14 : decode cX8_parties 14 = .ok (.aload_n 0, 1) := dk_42 (dk_at dksX8_parties_0 14 rfl rfl)
theorem dX8_parties_15 : decode cX8_parties 15 = .ok (.getfield 36, 3) := dk_180 0 36 (dk_at dksX8_parties_0 15 rfl rfl)
theorem dX8_parties_18 : decode cX8_parties 18 = .ok (.iload_n 2, 1) := dk_28 (dk_at dksX8_parties_0 18 rfl rfl)
theorem dX8_parties_19 : decode cX8_parties 19 = .ok (.iconst 0, 1) := dk_3 (dk_at dksX8_parties_0 19 rfl rfl)
theorem dX8_parties_20 : decode cX8_parties 20 = .ok (.iastore, 1) := dk_79 (dk_at dksX8_parties_0 20 rfl rfl)
theorem dX8_parties_21 : decode cX8_parties 21 = .ok (.iinc 2 1, 3) := dk_132 2 1 (dk_at dksX8_parties_0 21 rfl rfl)
theorem dX8_parties_24 : decode cX8_parties 24 = .ok (.goto (-16), 3) := dk_167 255 240 (dk_at dksX8_parties_1 0 rfl rfl)
theorem dX8_parties_27 : decode cX8_parties 27 = .ok (.iconst 1, 1) := dk_4 (dk_at dksX8_parties_1 3 rfl rfl)
theorem dX8_parties_28 : decode cX8_parties 28 = .ok (.istore_n 2, 1) := dk_61 (dk_at dksX8_parties_1 4 rfl rfl)
theorem dX8_parties_29 : decode cX8_parties 29 = .ok (.iload_n 2, 1) := dk_28 (dk_at dksX8_parties_1 5 rfl rfl)
theorem dX8_parties_30 : decode cX8_parties 30 = .ok (.ifCond .eq 76, 3) := dk_153 0 76 (dk_at dksX8_parties_1 6 rfl rfl)
theorem dX8_parties_33 : decode cX8_parties 33 = .ok (.aload_n 0, 1) := dk_42 (dk_at dksX8_parties_1 9 rfl rfl)
theorem dX8_parties_34 : decode cX8_parties 34 = .ok (.iload_n 1, 1) := dk_27 (dk_at dksX8_parties_1 10 rfl rfl)
theorem dX8_parties_35 : decode cX8_parties 35 = .ok (.invokevirtual 424, 3) := dk_182 1 168 (dk_at dksX8_parties_1 11 rfl rfl)
theorem dX8_parties_38 : decode cX8_parties 38 = .ok (.istore_n 3, 1) := dk_62 (dk_at dksX8_parties_1 14 rfl rfl)
theorem dX8_parties_39 : decode cX8_parties 39 = .ok (.iload_n 3, 1) := dk_29 (dk_at dksX8_parties_1 15 rfl rfl)
theorem dX8_parties_40 : decode cX8_parties 40 = .ok (.bipush (-2), 2) := dk_16 254 (dk_at dksX8_parties_1 16 rfl rfl)
theorem dX8_parties_42 : decode cX8_parties 42 = .ok (.if_icmp .eq 55, 3) := dk_159 0 55 (dk_at dksX8_parties_1 18 rfl rfl)
theorem dX8_parties_45 : decode cX8_parties 45 = .ok (.aload_n 0, 1) := dk_42 (dk_at dksX8_parties_1 21 rfl rfl)
theorem dX8_parties_46 : decode cX8_parties 46 = .ok (.getfield 421, 3) := dk_180 1 165 (dk_at dksX8_parties_2 0 rfl rfl)
theorem dX8_parties_49 : decode cX8_parties 49 = .ok (.bipush (-2), 2) := dk_16 254 (dk_at dksX8_parties_2 3 rfl rfl)
theorem dX8_parties_51 : decode cX8_parties 51 = .ok (.if_icmp .eq 11, 3) := dk_159 0 11 (dk_at dksX8_parties_2 5 rfl rfl)
theorem dX8_parties_54 : decode cX8_parties 54 = .ok (.iload_n 3, 1) := dk_29 (dk_at dksX8_parties_2 8 rfl rfl)
theorem dX8_parties_55 : decode cX8_parties 55 = .ok (.aload_n 0, 1) := dk_42 (dk_at dksX8_parties_2 9 rfl rfl)
theorem dX8_parties_56 : decode cX8_parties 56 = .ok (.getfield 421, 3) := dk_180 1 165 (dk_at dksX8_parties_2 10 rfl rfl)
theorem dX8_parties_59 : decode cX8_parties 59 = .ok (.if_icmp .ge 38, 3) := dk_162 0 38 (dk_at dksX8_parties_2 13 rfl rfl)
theorem dX8_parties_62 : decode cX8_parties 62 = .ok (.aload_n 0, 1) := dk_42 (dk_at dksX8_parties_2 16 rfl rfl)
theorem dX8_parties_63 : decode cX8_parties 63 = .ok (.iload_n 3, 1) := dk_29 (dk_at dksX8_parties_2 17 rfl rfl)
theorem dX8_parties_64 : decode cX8_parties 64 = .ok (.putfield 421, 3) := dk_181 1 165 (dk_at dksX8_parties_2 18 rfl rfl)
theorem dX8_parties_67 : decode cX8_parties 67 = .ok (.iconst 0, 1) := dk_3 (dk_at dksX8_parties_2 21 rfl rfl)
theorem dX8_parties_68 : decode cX8_parties 68 = .ok (.istore 4, 2) := dk_54 4 (dk_at dksX8_parties_2 22 rfl rfl)
theorem dX8_parties_70 : decode cX8_parties 70 = .ok (.iload 4, 2) := dk_21 4 (dk_at dksX8_parties_3 0 rfl rfl)
theorem dX8_parties_72 : decode cX8_parties 72 = .ok (.bipush 6, 2) := dk_16 6 (dk_at dksX8_parties_3 2 rfl rfl)
theorem dX8_parties_74 : decode cX8_parties 74 = .ok (.if_icmp .ge 23, 3) := dk_162 0 23 (dk_at dksX8_parties_3 4 rfl rfl)
theorem dX8_parties_77 : decode cX8_parties 77 = .ok (.aload_n 0, 1) := dk_42 (dk_at dksX8_parties_3 7 rfl rfl)
theorem dX8_parties_78 : decode cX8_parties 78 = .ok (.getfield 39, 3) := dk_180 0 39 (dk_at dksX8_parties_3 8 rfl rfl)
theorem dX8_parties_81 : decode cX8_parties 81 = .ok (.iload 4, 2) := dk_21 4 (dk_at dksX8_parties_3 11 rfl rfl)
theorem dX8_parties_83 : decode cX8_parties 83 = .ok (.aload_n 0, 1) := dk_42 (dk_at dksX8_parties_3 13 rfl rfl)
theorem dX8_parties_84 : decode cX8_parties 84 = .ok (.getfield 36, 3) := dk_180 0 36 (dk_at dksX8_parties_3 14 rfl rfl)
theorem dX8_parties_87 : decode cX8_parties 87 = .ok (.iload 4, 2) := dk_21 4 (dk_at dksX8_parties_3 17 rfl rfl)
theorem dX8_parties_89 : decode cX8_parties 89 = .ok (.iaload, 1) := dk_46 (dk_at dksX8_parties_3 19 rfl rfl)
theorem dX8_parties_90 : decode cX8_parties 90 = .ok (.iastore, 1) := dk_79 (dk_at dksX8_parties_3 20 rfl rfl)
theorem dX8_parties_91 : decode cX8_parties 91 = .ok (.iinc 4 1, 3) := dk_132 4 1 (dk_at dksX8_parties_3 21 rfl rfl)
theorem dX8_parties_94 : decode cX8_parties 94 = .ok (.goto (-24), 3) := dk_167 255 232 (dk_at dksX8_parties_4 0 rfl rfl)
theorem dX8_parties_97 : decode cX8_parties 97 = .ok (.aload_n 0, 1) := dk_42 (dk_at dksX8_parties_4 3 rfl rfl)
theorem dX8_parties_98 : decode cX8_parties 98 = .ok (.iload_n 1, 1) := dk_27 (dk_at dksX8_parties_4 4 rfl rfl)
theorem dX8_parties_99 : decode cX8_parties 99 = .ok (.invokevirtual 427, 3) := dk_182 1 171 (dk_at dksX8_parties_4 5 rfl rfl)
theorem dX8_parties_102 : decode cX8_parties 102 = .ok (.istore_n 2, 1) := dk_61 (dk_at dksX8_parties_4 8 rfl rfl)
theorem dX8_parties_103 : decode cX8_parties 103 = .ok (.goto (-74), 3) := dk_167 255 182 (dk_at dksX8_parties_4 9 rfl rfl)
theorem dX8_parties_106 : decode cX8_parties 106 = .ok (.return_, 1) := dk_177 (dk_at dksX8_parties_4 12 rfl rfl)
abbrev cX8_dangerOf : ByteArray := prog_26_method_92_code
def yX8_dangerOf : MethodName := ⟨RX8, "dangerOf", "(I)I"⟩
def dkwX8_dangerOf_5 : List UInt8 := [132, 3, 1, 167, 255, 169, 28, 172]
abbrev dktX8_dangerOf_5 : List UInt8 := dkwX8_dangerOf_5 ++ []
def dkwX8_dangerOf_4 : List UInt8 := [21, 4, 96, 46, 29, 160, 0, 7, 3, 167, 0, 13, 42, 180, 1, 60, 180, 1, 17, 21, 4, 46, 96, 61]
abbrev dktX8_dangerOf_4 : List UInt8 := dkwX8_dangerOf_4 ++ dktX8_dangerOf_5
def dkwX8_dangerOf_3 : List UInt8 := [92, 46, 4, 100, 79, 42, 180, 0, 42, 21, 4, 46, 156, 0, 6, 16, 254, 172, 28, 42, 180, 0, 17, 8]
abbrev dktX8_dangerOf_3 : List UInt8 := dkwX8_dangerOf_3 ++ dktX8_dangerOf_4
def dkwX8_dangerOf_2 : List UInt8 := [29, 184, 1, 162, 154, 0, 6, 167, 0, 65, 42, 180, 0, 36, 29, 46, 54, 4, 42, 180, 0, 42, 21, 4]
abbrev dktX8_dangerOf_2 : List UInt8 := dkwX8_dangerOf_2 ++ dktX8_dangerOf_3
def dkwX8_dangerOf_1 : List UInt8 := [182, 1, 174, 79, 132, 3, 1, 167, 255, 230, 3, 62, 29, 42, 180, 1, 60, 180, 0, 191, 162, 0, 82, 27]
abbrev dktX8_dangerOf_1 : List UInt8 := dkwX8_dangerOf_1 ++ dktX8_dangerOf_2
def dkwX8_dangerOf_0 : List UInt8 := [3, 61, 3, 62, 29, 42, 180, 1, 60, 180, 0, 194, 162, 0, 21, 42, 180, 0, 42, 29, 42, 29, 27]
abbrev dktX8_dangerOf_0 : List UInt8 := dkwX8_dangerOf_0 ++ dktX8_dangerOf_1
theorem dksX8_dangerOf_0 : cX8_dangerOf.data.toList.drop 0 = dktX8_dangerOf_0 := by decide +kernel
theorem dksX8_dangerOf_1 : cX8_dangerOf.data.toList.drop 23 = dktX8_dangerOf_1 := dk_seg dksX8_dangerOf_0 23 rfl rfl
theorem dksX8_dangerOf_2 : cX8_dangerOf.data.toList.drop 47 = dktX8_dangerOf_2 := dk_seg dksX8_dangerOf_1 24 rfl rfl
theorem dksX8_dangerOf_3 : cX8_dangerOf.data.toList.drop 71 = dktX8_dangerOf_3 := dk_seg dksX8_dangerOf_2 24 rfl rfl
theorem dksX8_dangerOf_4 : cX8_dangerOf.data.toList.drop 95 = dktX8_dangerOf_4 := dk_seg dksX8_dangerOf_3 24 rfl rfl
theorem dksX8_dangerOf_5 : cX8_dangerOf.data.toList.drop 119 = dktX8_dangerOf_5 := dk_seg dksX8_dangerOf_4 24 rfl rfl
theorem dX8_dangerOf_0 : decode cX8_dangerOf 0 = .ok (.iconst 0, 1) := dk_3 (dk_at dksX8_dangerOf_0 0 rfl rfl)
theorem dX8_dangerOf_1 : decode cX8_dangerOf 1 = .ok (.istore_n 2, 1) := dk_61 (dk_at dksX8_dangerOf_0 1 rfl rfl)
theorem dX8_dangerOf_2 : decode cX8_dangerOf 2 = .ok (.iconst 0, 1) := dk_3 (dk_at dksX8_dangerOf_0 2 rfl rfl)
theorem dX8_dangerOf_3 : decode cX8_dangerOf 3 = .ok (.istore_n 3, 1) := dk_62 (dk_at dksX8_dangerOf_0 3 rfl rfl)
theorem dX8_dangerOf_4 : decode cX8_dangerOf 4 = .ok (.iload_n 3, 1) := dk_29 (dk_at dksX8_dangerOf_0 4 rfl rfl)
theorem dX8_dangerOf_5 : decode cX8_dangerOf 5 = .ok (.aload_n 0, 1) := dk_42 (dk_at dksX8_dangerOf_0 5 rfl rfl)
theorem dX8_dangerOf_6 : decode cX8_dangerOf 6 = .ok (.getfield 316, 3) := dk_180 1 60 (dk_at dksX8_dangerOf_0 6 rfl rfl)
theorem dX8_dangerOf_9 : decode cX8_dangerOf 9 = .ok (.getfield 194, 3) := dk_180 0 194 (dk_at dksX8_dangerOf_0 9 rfl rfl)
theorem dX8_dangerOf_12 : decode cX8_dangerOf 12 = .ok (.if_icmp .ge 21, 3) := dk_162 0 21 (dk_at dksX8_dangerOf_0 12 rfl rfl)
theorem dX8_dangerOf_15 : decode cX8_dangerOf 15 = .ok (.aload_n 0, 1) := dk_42 (dk_at dksX8_dangerOf_0 15 rfl rfl)
theorem dX8_dangerOf_16 : decode cX8_dangerOf 16 = .ok (.getfield 42, 3) := dk_180 0 42 (dk_at dksX8_dangerOf_0 16 rfl rfl)
theorem dX8_dangerOf_19 : decode cX8_dangerOf 19 = .ok (.iload_n 3, 1) := dk_29 (dk_at dksX8_dangerOf_0 19 rfl rfl)
theorem dX8_dangerOf_20 : decode cX8_dangerOf 20 = .ok (.aload_n 0, 1) := dk_42 (dk_at dksX8_dangerOf_0 20 rfl rfl)
theorem dX8_dangerOf_21 : decode cX8_dangerOf 21 = .ok (.iload_n 3, 1) := dk_29 (dk_at dksX8_dangerOf_0 21 rfl rfl)
theorem dX8_dangerOf_22 : decode cX8_dangerOf 22 = .ok (.iload_n 1, 1) := dk_27 (dk_at dksX8_dangerOf_0 22 rfl rfl)
theorem dX8_dangerOf_23 : decode cX8_dangerOf 23 = .ok (.invokevirtual 430, 3) := dk_182 1 174 (dk_at dksX8_dangerOf_1 0 rfl rfl)
theorem dX8_dangerOf_26 : decode cX8_dangerOf 26 = .ok (.iastore, 1) := dk_79 (dk_at dksX8_dangerOf_1 3 rfl rfl)
theorem dX8_dangerOf_27 : decode cX8_dangerOf 27 = .ok (.iinc 3 1, 3) := dk_132 3 1 (dk_at dksX8_dangerOf_1 4 rfl rfl)
theorem dX8_dangerOf_30 : decode cX8_dangerOf 30 = .ok (.goto (-26), 3) := dk_167 255 230 (dk_at dksX8_dangerOf_1 7 rfl rfl)
theorem dX8_dangerOf_33 : decode cX8_dangerOf 33 = .ok (.iconst 0, 1) := dk_3 (dk_at dksX8_dangerOf_1 10 rfl rfl)
theorem dX8_dangerOf_34 : decode cX8_dangerOf 34 = .ok (.istore_n 3, 1) := dk_62 (dk_at dksX8_dangerOf_1 11 rfl rfl)
theorem dX8_dangerOf_35 : decode cX8_dangerOf 35 = .ok (.iload_n 3, 1) := dk_29 (dk_at dksX8_dangerOf_1 12 rfl rfl)
theorem dX8_dangerOf_36 : decode cX8_dangerOf 36 = .ok (.aload_n 0, 1) := dk_42 (dk_at dksX8_dangerOf_1 13 rfl rfl)
theorem dX8_dangerOf_37 : decode cX8_dangerOf 37 = .ok (.getfield 316, 3) := dk_180 1 60 (dk_at dksX8_dangerOf_1 14 rfl rfl)
theorem dX8_dangerOf_40 : decode cX8_dangerOf 40 = .ok (.getfield 191, 3) := dk_180 0 191 (dk_at dksX8_dangerOf_1 17 rfl rfl)
theorem dX8_dangerOf_43 : decode cX8_dangerOf 43 = .ok (.if_icmp .ge 82, 3) := dk_162 0 82 (dk_at dksX8_dangerOf_1 20 rfl rfl)
theorem dX8_dangerOf_46 : decode cX8_dangerOf 46 = .ok (.iload_n 1, 1) := dk_27 (dk_at dksX8_dangerOf_1 23 rfl rfl)
theorem dX8_dangerOf_47 : decode cX8_dangerOf 47 = .ok (.iload_n 3, 1) := dk_29 (dk_at dksX8_dangerOf_2 0 rfl rfl)
theorem dX8_dangerOf_48 : decode cX8_dangerOf 48 = .ok (.invokestatic 418, 3) := dk_184 1 162 (dk_at dksX8_dangerOf_2 1 rfl rfl)
theorem dX8_dangerOf_51 : decode cX8_dangerOf 51 = .ok (.ifCond .ne 6, 3) := dk_154 0 6 (dk_at dksX8_dangerOf_2 4 rfl rfl)
theorem dX8_dangerOf_54 : decode cX8_dangerOf 54 = .ok (.goto 65, 3) := dk_167 0 65 (dk_at dksX8_dangerOf_2 7 rfl rfl)
theorem dX8_dangerOf_57 : decode cX8_dangerOf 57 = .ok (.aload_n 0, 1) := dk_42 (dk_at dksX8_dangerOf_2 10 rfl rfl)
theorem dX8_dangerOf_58 : decode cX8_dangerOf 58 = .ok (.getfield 36, 3) := dk_180 0 36 (dk_at dksX8_dangerOf_2 11 rfl rfl)
theorem dX8_dangerOf_61 : decode cX8_dangerOf 61 = .ok (.iload_n 3, 1) := dk_29 (dk_at dksX8_dangerOf_2 14 rfl rfl)
theorem dX8_dangerOf_62 : decode cX8_dangerOf 62 = .ok (.iaload, 1) := dk_46 (dk_at dksX8_dangerOf_2 15 rfl rfl)
theorem dX8_dangerOf_63 : decode cX8_dangerOf 63 = .ok (.istore 4, 2) := dk_54 4 (dk_at dksX8_dangerOf_2 16 rfl rfl)
theorem dX8_dangerOf_65 : decode cX8_dangerOf 65 = .ok (.aload_n 0, 1) := dk_42 (dk_at dksX8_dangerOf_2 18 rfl rfl)
theorem dX8_dangerOf_66 : decode cX8_dangerOf 66 = .ok (.getfield 42, 3) := dk_180 0 42 (dk_at dksX8_dangerOf_2 19 rfl rfl)
theorem dX8_dangerOf_69 : decode cX8_dangerOf 69 = .ok (.iload 4, 2) := dk_21 4 (dk_at dksX8_dangerOf_2 22 rfl rfl)
theorem dX8_dangerOf_71 : decode cX8_dangerOf 71 = .ok (.dup2, 1) := dk_92 (dk_at dksX8_dangerOf_3 0 rfl rfl)
theorem dX8_dangerOf_72 : decode cX8_dangerOf 72 = .ok (.iaload, 1) := dk_46 (dk_at dksX8_dangerOf_3 1 rfl rfl)
theorem dX8_dangerOf_73 : decode cX8_dangerOf 73 = .ok (.iconst 1, 1) := dk_4 (dk_at dksX8_dangerOf_3 2 rfl rfl)
theorem dX8_dangerOf_74 : decode cX8_dangerOf 74 = .ok (.isub, 1) := dk_100 (dk_at dksX8_dangerOf_3 3 rfl rfl)
theorem dX8_dangerOf_75 : decode cX8_dangerOf 75 = .ok (.iastore, 1) := dk_79 (dk_at dksX8_dangerOf_3 4 rfl rfl)
theorem dX8_dangerOf_76 : decode cX8_dangerOf 76 = .ok (.aload_n 0, 1) := dk_42 (dk_at dksX8_dangerOf_3 5 rfl rfl)
theorem dX8_dangerOf_77 : decode cX8_dangerOf 77 = .ok (.getfield 42, 3) := dk_180 0 42 (dk_at dksX8_dangerOf_3 6 rfl rfl)
theorem dX8_dangerOf_80 : decode cX8_dangerOf 80 = .ok (.iload 4, 2) := dk_21 4 (dk_at dksX8_dangerOf_3 9 rfl rfl)
theorem dX8_dangerOf_82 : decode cX8_dangerOf 82 = .ok (.iaload, 1) := dk_46 (dk_at dksX8_dangerOf_3 11 rfl rfl)
theorem dX8_dangerOf_83 : decode cX8_dangerOf 83 = .ok (.ifCond .ge 6, 3) := dk_156 0 6 (dk_at dksX8_dangerOf_3 12 rfl rfl)
theorem dX8_dangerOf_86 : decode cX8_dangerOf 86 = .ok (.bipush (-2), 2) := dk_16 254 (dk_at dksX8_dangerOf_3 15 rfl rfl)
theorem dX8_dangerOf_88 : decode cX8_dangerOf 88 = .ok (.ireturn, 1) := dk_172 (dk_at dksX8_dangerOf_3 17 rfl rfl)
theorem dX8_dangerOf_89 : decode cX8_dangerOf 89 = .ok (.iload_n 2, 1) := dk_28 (dk_at dksX8_dangerOf_3 18 rfl rfl)
theorem dX8_dangerOf_90 : decode cX8_dangerOf 90 = .ok (.aload_n 0, 1) := dk_42 (dk_at dksX8_dangerOf_3 19 rfl rfl)
theorem dX8_dangerOf_91 : decode cX8_dangerOf 91 = .ok (.getfield 17, 3) := dk_180 0 17 (dk_at dksX8_dangerOf_3 20 rfl rfl)
theorem dX8_dangerOf_94 : decode cX8_dangerOf 94 = .ok (.iconst 5, 1) := dk_8 (dk_at dksX8_dangerOf_3 23 rfl rfl)
theorem dX8_dangerOf_95 : decode cX8_dangerOf 95 = .ok (.iload 4, 2) := dk_21 4 (dk_at dksX8_dangerOf_4 0 rfl rfl)
theorem dX8_dangerOf_97 : decode cX8_dangerOf 97 = .ok (.iadd, 1) := dk_96 (dk_at dksX8_dangerOf_4 2 rfl rfl)
theorem dX8_dangerOf_98 : decode cX8_dangerOf 98 = .ok (.iaload, 1) := dk_46 (dk_at dksX8_dangerOf_4 3 rfl rfl)
theorem dX8_dangerOf_99 : decode cX8_dangerOf 99 = .ok (.iload_n 3, 1) := dk_29 (dk_at dksX8_dangerOf_4 4 rfl rfl)
theorem dX8_dangerOf_100 : decode cX8_dangerOf 100 = .ok (.if_icmp .ne 7, 3) := dk_160 0 7 (dk_at dksX8_dangerOf_4 5 rfl rfl)
theorem dX8_dangerOf_103 : decode cX8_dangerOf 103 = .ok (.iconst 0, 1) := dk_3 (dk_at dksX8_dangerOf_4 8 rfl rfl)
theorem dX8_dangerOf_104 : decode cX8_dangerOf 104 = .ok (.goto 13, 3) := dk_167 0 13 (dk_at dksX8_dangerOf_4 9 rfl rfl)
theorem dX8_dangerOf_107 : decode cX8_dangerOf 107 = .ok (.aload_n 0, 1) := dk_42 (dk_at dksX8_dangerOf_4 12 rfl rfl)
theorem dX8_dangerOf_108 : decode cX8_dangerOf 108 = .ok (.getfield 316, 3) := dk_180 1 60 (dk_at dksX8_dangerOf_4 13 rfl rfl)
theorem dX8_dangerOf_111 : decode cX8_dangerOf 111 = .ok (.getfield 273, 3) := dk_180 1 17 (dk_at dksX8_dangerOf_4 16 rfl rfl)
theorem dX8_dangerOf_114 : decode cX8_dangerOf 114 = .ok (.iload 4, 2) := dk_21 4 (dk_at dksX8_dangerOf_4 19 rfl rfl)
theorem dX8_dangerOf_116 : decode cX8_dangerOf 116 = .ok (.iaload, 1) := dk_46 (dk_at dksX8_dangerOf_4 21 rfl rfl)
theorem dX8_dangerOf_117 : decode cX8_dangerOf 117 = .ok (.iadd, 1) := dk_96 (dk_at dksX8_dangerOf_4 22 rfl rfl)
theorem dX8_dangerOf_118 : decode cX8_dangerOf 118 = .ok (.istore_n 2, 1) := dk_61 (dk_at dksX8_dangerOf_4 23 rfl rfl)
theorem dX8_dangerOf_119 : decode cX8_dangerOf 119 = .ok (.iinc 3 1, 3) := dk_132 3 1 (dk_at dksX8_dangerOf_5 0 rfl rfl)
theorem dX8_dangerOf_122 : decode cX8_dangerOf 122 = .ok (.goto (-87), 3) := dk_167 255 169 (dk_at dksX8_dangerOf_5 3 rfl rfl)
theorem dX8_dangerOf_125 : decode cX8_dangerOf 125 = .ok (.iload_n 2, 1) := dk_28 (dk_at dksX8_dangerOf_5 6 rfl rfl)
theorem dX8_dangerOf_126 : decode cX8_dangerOf 126 = .ok (.ireturn, 1) := dk_172 (dk_at dksX8_dangerOf_5 7 rfl rfl)
abbrev cX8_roomOf : ByteArray := prog_26_method_90_code
def yX8_roomOf : MethodName := ⟨RX8, "roomOf", "(II)I"⟩
def dkwX8_roomOf_1 : List UInt8 := [184, 1, 162, 153, 0, 17, 42, 180, 1, 60, 180, 1, 19, 27, 46, 7, 108, 167, 0, 4, 3, 172]
abbrev dktX8_roomOf_1 : List UInt8 := dkwX8_roomOf_1 ++ []
def dkwX8_roomOf_0 : List UInt8 := [42, 180, 0, 17, 3, 27, 96, 46, 16, 254, 159, 0, 32, 28, 42, 180, 0, 17, 3, 27, 96, 46]
abbrev dktX8_roomOf_0 : List UInt8 := dkwX8_roomOf_0 ++ dktX8_roomOf_1
theorem dksX8_roomOf_0 : cX8_roomOf.data.toList.drop 0 = dktX8_roomOf_0 := by decide +kernel
theorem dksX8_roomOf_1 : cX8_roomOf.data.toList.drop 22 = dktX8_roomOf_1 := dk_seg dksX8_roomOf_0 22 rfl rfl
theorem dX8_roomOf_0 : decode cX8_roomOf 0 = .ok (.aload_n 0, 1) := dk_42 (dk_at dksX8_roomOf_0 0 rfl rfl)
theorem dX8_roomOf_1 : decode cX8_roomOf 1 = .ok (.getfield 17, 3) := dk_180 0 17 (dk_at dksX8_roomOf_0 1 rfl rfl)
theorem dX8_roomOf_4 : decode cX8_roomOf 4 = .ok (.iconst 0, 1) := dk_3 (dk_at dksX8_roomOf_0 4 rfl rfl)
theorem dX8_roomOf_5 : decode cX8_roomOf 5 = .ok (.iload_n 1, 1) := dk_27 (dk_at dksX8_roomOf_0 5 rfl rfl)
theorem dX8_roomOf_6 : decode cX8_roomOf 6 = .ok (.iadd, 1) := dk_96 (dk_at dksX8_roomOf_0 6 rfl rfl)
theorem dX8_roomOf_7 : decode cX8_roomOf 7 = .ok (.iaload, 1) := dk_46 (dk_at dksX8_roomOf_0 7 rfl rfl)
theorem dX8_roomOf_8 : decode cX8_roomOf 8 = .ok (.bipush (-2), 2) := dk_16 254 (dk_at dksX8_roomOf_0 8 rfl rfl)
theorem dX8_roomOf_10 : decode cX8_roomOf 10 = .ok (.if_icmp .eq 32, 3) := dk_159 0 32 (dk_at dksX8_roomOf_0 10 rfl rfl)
theorem dX8_roomOf_13 : decode cX8_roomOf 13 = .ok (.iload_n 2, 1) := dk_28 (dk_at dksX8_roomOf_0 13 rfl rfl)
theorem dX8_roomOf_14 : decode cX8_roomOf 14 = .ok (.aload_n 0, 1) := dk_42 (dk_at dksX8_roomOf_0 14 rfl rfl)
theorem dX8_roomOf_15 : decode cX8_roomOf 15 = .ok (.getfield 17, 3) := dk_180 0 17 (dk_at dksX8_roomOf_0 15 rfl rfl)
theorem dX8_roomOf_18 : decode cX8_roomOf 18 = .ok (.iconst 0, 1) := dk_3 (dk_at dksX8_roomOf_0 18 rfl rfl)
theorem dX8_roomOf_19 : decode cX8_roomOf 19 = .ok (.iload_n 1, 1) := dk_27 (dk_at dksX8_roomOf_0 19 rfl rfl)
theorem dX8_roomOf_20 : decode cX8_roomOf 20 = .ok (.iadd, 1) := dk_96 (dk_at dksX8_roomOf_0 20 rfl rfl)
theorem dX8_roomOf_21 : decode cX8_roomOf 21 = .ok (.iaload, 1) := dk_46 (dk_at dksX8_roomOf_0 21 rfl rfl)
theorem dX8_roomOf_22 : decode cX8_roomOf 22 = .ok (.invokestatic 418, 3) := dk_184 1 162 (dk_at dksX8_roomOf_1 0 rfl rfl)
theorem dX8_roomOf_25 : decode cX8_roomOf 25 = .ok (.ifCond .eq 17, 3) := dk_153 0 17 (dk_at dksX8_roomOf_1 3 rfl rfl)
theorem dX8_roomOf_28 : decode cX8_roomOf 28 = .ok (.aload_n 0, 1) := dk_42 (dk_at dksX8_roomOf_1 6 rfl rfl)
theorem dX8_roomOf_29 : decode cX8_roomOf 29 = .ok (.getfield 316, 3) := dk_180 1 60 (dk_at dksX8_roomOf_1 7 rfl rfl)
theorem dX8_roomOf_32 : decode cX8_roomOf 32 = .ok (.getfield 275, 3) := dk_180 1 19 (dk_at dksX8_roomOf_1 10 rfl rfl)
theorem dX8_roomOf_35 : decode cX8_roomOf 35 = .ok (.iload_n 1, 1) := dk_27 (dk_at dksX8_roomOf_1 13 rfl rfl)
theorem dX8_roomOf_36 : decode cX8_roomOf 36 = .ok (.iaload, 1) := dk_46 (dk_at dksX8_roomOf_1 14 rfl rfl)
theorem dX8_roomOf_37 : decode cX8_roomOf 37 = .ok (.iconst 4, 1) := dk_7 (dk_at dksX8_roomOf_1 15 rfl rfl)
theorem dX8_roomOf_38 : decode cX8_roomOf 38 = .ok (.idiv, 1) := dk_108 (dk_at dksX8_roomOf_1 16 rfl rfl)
theorem dX8_roomOf_39 : decode cX8_roomOf 39 = .ok (.goto 4, 3) := dk_167 0 4 (dk_at dksX8_roomOf_1 17 rfl rfl)
theorem dX8_roomOf_42 : decode cX8_roomOf 42 = .ok (.iconst 0, 1) := dk_3 (dk_at dksX8_roomOf_1 20 rfl rfl)
theorem dX8_roomOf_43 : decode cX8_roomOf 43 = .ok (.ireturn, 1) := dk_172 (dk_at dksX8_roomOf_1 21 rfl rfl)
abbrev cX8_bit : ByteArray := prog_26_method_9_code
def yX8_bit : MethodName := ⟨RX8, "bit", "(II)Z"⟩
def dkwX8_bit_0 : List UInt8 := [26, 27, 122, 4, 126, 4, 160, 0, 7, 4, 167, 0, 4, 3, 172]
abbrev dktX8_bit_0 : List UInt8 := dkwX8_bit_0 ++ []
theorem dksX8_bit_0 : cX8_bit.data.toList.drop 0 = dktX8_bit_0 := by decide +kernel
theorem dX8_bit_0 : decode cX8_bit 0 = .ok (.iload_n 0, 1) := dk_26 (dk_at dksX8_bit_0 0 rfl rfl)
theorem dX8_bit_1 : decode cX8_bit 1 = .ok (.iload_n 1, 1) := dk_27 (dk_at dksX8_bit_0 1 rfl rfl)
theorem dX8_bit_2 : decode cX8_bit 2 = .ok (.ishr, 1) := dk_122 (dk_at dksX8_bit_0 2 rfl rfl)
theorem dX8_bit_3 : decode cX8_bit 3 = .ok (.iconst 1, 1) := dk_4 (dk_at dksX8_bit_0 3 rfl rfl)
theorem dX8_bit_4 : decode cX8_bit 4 = .ok (.iand, 1) := dk_126 (dk_at dksX8_bit_0 4 rfl rfl)
theorem dX8_bit_5 : decode cX8_bit 5 = .ok (.iconst 1, 1) := dk_4 (dk_at dksX8_bit_0 5 rfl rfl)
theorem dX8_bit_6 : decode cX8_bit 6 = .ok (.if_icmp .ne 7, 3) := dk_160 0 7 (dk_at dksX8_bit_0 6 rfl rfl)
theorem dX8_bit_9 : decode cX8_bit 9 = .ok (.iconst 1, 1) := dk_4 (dk_at dksX8_bit_0 9 rfl rfl)
theorem dX8_bit_10 : decode cX8_bit 10 = .ok (.goto 4, 3) := dk_167 0 4 (dk_at dksX8_bit_0 10 rfl rfl)
theorem dX8_bit_13 : decode cX8_bit 13 = .ok (.iconst 0, 1) := dk_3 (dk_at dksX8_bit_0 13 rfl rfl)
theorem dX8_bit_14 : decode cX8_bit 14 = .ok (.ireturn, 1) := dk_172 (dk_at dksX8_bit_0 14 rfl rfl)
abbrev cX8_nextUnder : ByteArray := prog_26_method_93_code
def yX8_nextUnder : MethodName := ⟨RX8, "nextUnder", "(I)Z"⟩
def dkwX8_nextUnder_2 : List UInt8 := [180, 0, 194, 162, 0, 5, 4, 172, 42, 180, 0, 36, 28, 3, 79, 132, 2, 255, 167, 255, 203, 3, 172]
abbrev dktX8_nextUnder_2 : List UInt8 := dkwX8_nextUnder_2 ++ []
def dkwX8_nextUnder_1 : List UInt8 := [167, 0, 38, 42, 180, 0, 36, 28, 92, 46, 4, 96, 79, 42, 180, 0, 36, 28, 46, 42, 180, 1, 60]
abbrev dktX8_nextUnder_1 : List UInt8 := dkwX8_nextUnder_1 ++ dktX8_nextUnder_2
def dkwX8_nextUnder_0 : List UInt8 := [42, 180, 1, 60, 180, 0, 191, 4, 100, 61, 28, 155, 0, 55, 27, 28, 184, 1, 162, 154, 0, 6]
abbrev dktX8_nextUnder_0 : List UInt8 := dkwX8_nextUnder_0 ++ dktX8_nextUnder_1
theorem dksX8_nextUnder_0 : cX8_nextUnder.data.toList.drop 0 = dktX8_nextUnder_0 := by decide +kernel
theorem dksX8_nextUnder_1 : cX8_nextUnder.data.toList.drop 22 = dktX8_nextUnder_1 := dk_seg dksX8_nextUnder_0 22 rfl rfl
theorem dksX8_nextUnder_2 : cX8_nextUnder.data.toList.drop 45 = dktX8_nextUnder_2 := dk_seg dksX8_nextUnder_1 23 rfl rfl
theorem dX8_nextUnder_0 : decode cX8_nextUnder 0 = .ok (.aload_n 0, 1) := dk_42 (dk_at dksX8_nextUnder_0 0 rfl rfl)
theorem dX8_nextUnder_1 : decode cX8_nextUnder 1 = .ok (.getfield 316, 3) := dk_180 1 60 (dk_at dksX8_nextUnder_0 1 rfl rfl)
theorem dX8_nextUnder_4 : decode cX8_nextUnder 4 = .ok (.getfield 191, 3) := dk_180 0 191 (dk_at dksX8_nextUnder_0 4 rfl rfl)
theorem dX8_nextUnder_7 : decode cX8_nextUnder 7 = .ok (.iconst 1, 1) := dk_4 (dk_at dksX8_nextUnder_0 7 rfl rfl)
theorem dX8_nextUnder_8 : decode cX8_nextUnder 8 = .ok (.isub, 1) := dk_100 (dk_at dksX8_nextUnder_0 8 rfl rfl)
theorem dX8_nextUnder_9 : decode cX8_nextUnder 9 = .ok (.istore_n 2, 1) := dk_61 (dk_at dksX8_nextUnder_0 9 rfl rfl)
theorem dX8_nextUnder_10 : decode cX8_nextUnder 10 = .ok (.iload_n 2, 1) := dk_28 (dk_at dksX8_nextUnder_0 10 rfl rfl)
theorem dX8_nextUnder_11 : decode cX8_nextUnder 11 = .ok (.ifCond .lt 55, 3) := dk_155 0 55 (dk_at dksX8_nextUnder_0 11 rfl rfl)
theorem dX8_nextUnder_14 : decode cX8_nextUnder 14 = .ok (.iload_n 1, 1) := dk_27 (dk_at dksX8_nextUnder_0 14 rfl rfl)
theorem dX8_nextUnder_15 : decode cX8_nextUnder 15 = .ok (.iload_n 2, 1) := dk_28 (dk_at dksX8_nextUnder_0 15 rfl rfl)
theorem dX8_nextUnder_16 : decode cX8_nextUnder 16 = .ok (.invokestatic 418, 3) := dk_184 1 162 (dk_at dksX8_nextUnder_0 16 rfl rfl)
theorem dX8_nextUnder_19 : decode cX8_nextUnder 19 = .ok (.ifCond .ne 6, 3) := dk_154 0 6 (dk_at dksX8_nextUnder_0 19 rfl rfl)
theorem dX8_nextUnder_22 : decode cX8_nextUnder 22 = .ok (.goto 38, 3) := dk_167 0 38 (dk_at dksX8_nextUnder_1 0 rfl rfl)
theorem dX8_nextUnder_25 : decode cX8_nextUnder 25 = .ok (.aload_n 0, 1) := dk_42 (dk_at dksX8_nextUnder_1 3 rfl rfl)
theorem dX8_nextUnder_26 : decode cX8_nextUnder 26 = .ok (.getfield 36, 3) := dk_180 0 36 (dk_at dksX8_nextUnder_1 4 rfl rfl)
theorem dX8_nextUnder_29 : decode cX8_nextUnder 29 = .ok (.iload_n 2, 1) := dk_28 (dk_at dksX8_nextUnder_1 7 rfl rfl)
theorem dX8_nextUnder_30 : decode cX8_nextUnder 30 = .ok (.dup2, 1) := dk_92 (dk_at dksX8_nextUnder_1 8 rfl rfl)
theorem dX8_nextUnder_31 : decode cX8_nextUnder 31 = .ok (.iaload, 1) := dk_46 (dk_at dksX8_nextUnder_1 9 rfl rfl)
theorem dX8_nextUnder_32 : decode cX8_nextUnder 32 = .ok (.iconst 1, 1) := dk_4 (dk_at dksX8_nextUnder_1 10 rfl rfl)
theorem dX8_nextUnder_33 : decode cX8_nextUnder 33 = .ok (.iadd, 1) := dk_96 (dk_at dksX8_nextUnder_1 11 rfl rfl)
theorem dX8_nextUnder_34 : decode cX8_nextUnder 34 = .ok (.iastore, 1) := dk_79 (dk_at dksX8_nextUnder_1 12 rfl rfl)
theorem dX8_nextUnder_35 : decode cX8_nextUnder 35 = .ok (.aload_n 0, 1) := dk_42 (dk_at dksX8_nextUnder_1 13 rfl rfl)
theorem dX8_nextUnder_36 : decode cX8_nextUnder 36 = .ok (.getfield 36, 3) := dk_180 0 36 (dk_at dksX8_nextUnder_1 14 rfl rfl)
theorem dX8_nextUnder_39 : decode cX8_nextUnder 39 = .ok (.iload_n 2, 1) := dk_28 (dk_at dksX8_nextUnder_1 17 rfl rfl)
theorem dX8_nextUnder_40 : decode cX8_nextUnder 40 = .ok (.iaload, 1) := dk_46 (dk_at dksX8_nextUnder_1 18 rfl rfl)
theorem dX8_nextUnder_41 : decode cX8_nextUnder 41 = .ok (.aload_n 0, 1) := dk_42 (dk_at dksX8_nextUnder_1 19 rfl rfl)
theorem dX8_nextUnder_42 : decode cX8_nextUnder 42 = .ok (.getfield 316, 3) := dk_180 1 60 (dk_at dksX8_nextUnder_1 20 rfl rfl)
theorem dX8_nextUnder_45 : decode cX8_nextUnder 45 = .ok (.getfield 194, 3) := dk_180 0 194 (dk_at dksX8_nextUnder_2 0 rfl rfl)
theorem dX8_nextUnder_48 : decode cX8_nextUnder 48 = .ok (.if_icmp .ge 5, 3) := dk_162 0 5 (dk_at dksX8_nextUnder_2 3 rfl rfl)
theorem dX8_nextUnder_51 : decode cX8_nextUnder 51 = .ok (.iconst 1, 1) := dk_4 (dk_at dksX8_nextUnder_2 6 rfl rfl)
theorem dX8_nextUnder_52 : decode cX8_nextUnder 52 = .ok (.ireturn, 1) := dk_172 (dk_at dksX8_nextUnder_2 7 rfl rfl)
theorem dX8_nextUnder_53 : decode cX8_nextUnder 53 = .ok (.aload_n 0, 1) := dk_42 (dk_at dksX8_nextUnder_2 8 rfl rfl)
theorem dX8_nextUnder_54 : decode cX8_nextUnder 54 = .ok (.getfield 36, 3) := dk_180 0 36 (dk_at dksX8_nextUnder_2 9 rfl rfl)
theorem dX8_nextUnder_57 : decode cX8_nextUnder 57 = .ok (.iload_n 2, 1) := dk_28 (dk_at dksX8_nextUnder_2 12 rfl rfl)
theorem dX8_nextUnder_58 : decode cX8_nextUnder 58 = .ok (.iconst 0, 1) := dk_3 (dk_at dksX8_nextUnder_2 13 rfl rfl)
theorem dX8_nextUnder_59 : decode cX8_nextUnder 59 = .ok (.iastore, 1) := dk_79 (dk_at dksX8_nextUnder_2 14 rfl rfl)
theorem dX8_nextUnder_60 : decode cX8_nextUnder 60 = .ok (.iinc 2 (-1), 3) := dk_132 2 255 (dk_at dksX8_nextUnder_2 15 rfl rfl)
theorem dX8_nextUnder_63 : decode cX8_nextUnder 63 = .ok (.goto (-53), 3) := dk_167 255 203 (dk_at dksX8_nextUnder_2 18 rfl rfl)
theorem dX8_nextUnder_66 : decode cX8_nextUnder 66 = .ok (.iconst 0, 1) := dk_3 (dk_at dksX8_nextUnder_2 21 rfl rfl)
theorem dX8_nextUnder_67 : decode cX8_nextUnder 67 = .ok (.ireturn, 1) := dk_172 (dk_at dksX8_nextUnder_2 22 rfl rfl)
abbrev cX8_partyOf : ByteArray := prog_26_method_95_code
def yX8_partyOf : MethodName := ⟨RX8, "partyOf", "(II)I"⟩
def dkwX8_partyOf_3 : List UInt8 := [172]
abbrev dktX8_partyOf_3 : List UInt8 := dkwX8_partyOf_3 ++ []
def dkwX8_partyOf_2 : List UInt8 := [172, 42, 27, 28, 184, 1, 162, 153, 0, 12, 42, 180, 0, 39, 28, 46, 167, 0, 5, 16, 254, 182, 0, 55]
abbrev dktX8_partyOf_2 : List UInt8 := dkwX8_partyOf_2 ++ dktX8_partyOf_3
def dkwX8_partyOf_1 : List UInt8 := [182, 0, 51, 172, 42, 27, 182, 1, 180, 42, 180, 1, 165, 16, 254, 160, 0, 10, 42, 16, 6, 182, 0, 51]
abbrev dktX8_partyOf_1 : List UInt8 := dkwX8_partyOf_1 ++ dktX8_partyOf_2
def dkwX8_partyOf_0 : List UInt8 := [42, 3, 181, 0, 45, 42, 27, 182, 1, 177, 153, 0, 11, 42, 28, 182, 1, 106, 154, 0, 9, 42, 4]
abbrev dktX8_partyOf_0 : List UInt8 := dkwX8_partyOf_0 ++ dktX8_partyOf_1
theorem dksX8_partyOf_0 : cX8_partyOf.data.toList.drop 0 = dktX8_partyOf_0 := by decide +kernel
theorem dksX8_partyOf_1 : cX8_partyOf.data.toList.drop 23 = dktX8_partyOf_1 := dk_seg dksX8_partyOf_0 23 rfl rfl
theorem dksX8_partyOf_2 : cX8_partyOf.data.toList.drop 47 = dktX8_partyOf_2 := dk_seg dksX8_partyOf_1 24 rfl rfl
theorem dksX8_partyOf_3 : cX8_partyOf.data.toList.drop 71 = dktX8_partyOf_3 := dk_seg dksX8_partyOf_2 24 rfl rfl
theorem dX8_partyOf_0 : decode cX8_partyOf 0 = .ok (.aload_n 0, 1) := dk_42 (dk_at dksX8_partyOf_0 0 rfl rfl)
theorem dX8_partyOf_1 : decode cX8_partyOf 1 = .ok (.iconst 0, 1) := dk_3 (dk_at dksX8_partyOf_0 1 rfl rfl)
theorem dX8_partyOf_2 : decode cX8_partyOf 2 = .ok (.putfield 45, 3) := dk_181 0 45 (dk_at dksX8_partyOf_0 2 rfl rfl)
theorem dX8_partyOf_5 : decode cX8_partyOf 5 = .ok (.aload_n 0, 1) := dk_42 (dk_at dksX8_partyOf_0 5 rfl rfl)
theorem dX8_partyOf_6 : decode cX8_partyOf 6 = .ok (.iload_n 1, 1) := dk_27 (dk_at dksX8_partyOf_0 6 rfl rfl)
theorem dX8_partyOf_7 : decode cX8_partyOf 7 = .ok (.invokevirtual 433, 3) := dk_182 1 177 (dk_at dksX8_partyOf_0 7 rfl rfl)
theorem dX8_partyOf_10 : decode cX8_partyOf 10 = .ok (.ifCond .eq 11, 3) := dk_153 0 11 (dk_at dksX8_partyOf_0 10 rfl rfl)
theorem dX8_partyOf_13 : decode cX8_partyOf 13 = .ok (.aload_n 0, 1) := dk_42 (dk_at dksX8_partyOf_0 13 rfl rfl)
theorem dX8_partyOf_14 : decode cX8_partyOf 14 = .ok (.iload_n 2, 1) := dk_28 (dk_at dksX8_partyOf_0 14 rfl rfl)
theorem dX8_partyOf_15 : decode cX8_partyOf 15 = .ok (.invokevirtual 362, 3) := dk_182 1 106 (dk_at dksX8_partyOf_0 15 rfl rfl)
theorem dX8_partyOf_18 : decode cX8_partyOf 18 = .ok (.ifCond .ne 9, 3) := dk_154 0 9 (dk_at dksX8_partyOf_0 18 rfl rfl)
theorem dX8_partyOf_21 : decode cX8_partyOf 21 = .ok (.aload_n 0, 1) := dk_42 (dk_at dksX8_partyOf_0 21 rfl rfl)
theorem dX8_partyOf_22 : decode cX8_partyOf 22 = .ok (.iconst 1, 1) := dk_4 (dk_at dksX8_partyOf_0 22 rfl rfl)
theorem dX8_partyOf_23 : decode cX8_partyOf 23 = .ok (.invokevirtual 51, 3) := dk_182 0 51 (dk_at dksX8_partyOf_1 0 rfl rfl)
theorem dX8_partyOf_26 : decode cX8_partyOf 26 = .ok (.ireturn, 1) := dk_172 (dk_at dksX8_partyOf_1 3 rfl rfl)
theorem dX8_partyOf_27 : decode cX8_partyOf 27 = .ok (.aload_n 0, 1) := dk_42 (dk_at dksX8_partyOf_1 4 rfl rfl)
theorem dX8_partyOf_28 : decode cX8_partyOf 28 = .ok (.iload_n 1, 1) := dk_27 (dk_at dksX8_partyOf_1 5 rfl rfl)
theorem dX8_partyOf_29 : decode cX8_partyOf 29 = .ok (.invokevirtual 436, 3) := dk_182 1 180 (dk_at dksX8_partyOf_1 6 rfl rfl)
theorem dX8_partyOf_32 : decode cX8_partyOf 32 = .ok (.aload_n 0, 1) := dk_42 (dk_at dksX8_partyOf_1 9 rfl rfl)
theorem dX8_partyOf_33 : decode cX8_partyOf 33 = .ok (.getfield 421, 3) := dk_180 1 165 (dk_at dksX8_partyOf_1 10 rfl rfl)
theorem dX8_partyOf_36 : decode cX8_partyOf 36 = .ok (.bipush (-2), 2) := dk_16 254 (dk_at dksX8_partyOf_1 13 rfl rfl)
theorem dX8_partyOf_38 : decode cX8_partyOf 38 = .ok (.if_icmp .ne 10, 3) := dk_160 0 10 (dk_at dksX8_partyOf_1 15 rfl rfl)
theorem dX8_partyOf_41 : decode cX8_partyOf 41 = .ok (.aload_n 0, 1) := dk_42 (dk_at dksX8_partyOf_1 18 rfl rfl)
theorem dX8_partyOf_42 : decode cX8_partyOf 42 = .ok (.bipush 6, 2) := dk_16 6 (dk_at dksX8_partyOf_1 19 rfl rfl)
theorem dX8_partyOf_44 : decode cX8_partyOf 44 = .ok (.invokevirtual 51, 3) := dk_182 0 51 (dk_at dksX8_partyOf_1 21 rfl rfl)
theorem dX8_partyOf_47 : decode cX8_partyOf 47 = .ok (.ireturn, 1) := dk_172 (dk_at dksX8_partyOf_2 0 rfl rfl)
theorem dX8_partyOf_48 : decode cX8_partyOf 48 = .ok (.aload_n 0, 1) := dk_42 (dk_at dksX8_partyOf_2 1 rfl rfl)
theorem dX8_partyOf_49 : decode cX8_partyOf 49 = .ok (.iload_n 1, 1) := dk_27 (dk_at dksX8_partyOf_2 2 rfl rfl)
theorem dX8_partyOf_50 : decode cX8_partyOf 50 = .ok (.iload_n 2, 1) := dk_28 (dk_at dksX8_partyOf_2 3 rfl rfl)
theorem dX8_partyOf_51 : decode cX8_partyOf 51 = .ok (.invokestatic 418, 3) := dk_184 1 162 (dk_at dksX8_partyOf_2 4 rfl rfl)
theorem dX8_partyOf_54 : decode cX8_partyOf 54 = .ok (.ifCond .eq 12, 3) := dk_153 0 12 (dk_at dksX8_partyOf_2 7 rfl rfl)
theorem dX8_partyOf_57 : decode cX8_partyOf 57 = .ok (.aload_n 0, 1) := dk_42 (dk_at dksX8_partyOf_2 10 rfl rfl)
theorem dX8_partyOf_58 : decode cX8_partyOf 58 = .ok (.getfield 39, 3) := dk_180 0 39 (dk_at dksX8_partyOf_2 11 rfl rfl)
theorem dX8_partyOf_61 : decode cX8_partyOf 61 = .ok (.iload_n 2, 1) := dk_28 (dk_at dksX8_partyOf_2 14 rfl rfl)
theorem dX8_partyOf_62 : decode cX8_partyOf 62 = .ok (.iaload, 1) := dk_46 (dk_at dksX8_partyOf_2 15 rfl rfl)
theorem dX8_partyOf_63 : decode cX8_partyOf 63 = .ok (.goto 5, 3) := dk_167 0 5 (dk_at dksX8_partyOf_2 16 rfl rfl)
theorem dX8_partyOf_66 : decode cX8_partyOf 66 = .ok (.bipush (-2), 2) := dk_16 254 (dk_at dksX8_partyOf_2 19 rfl rfl)
theorem dX8_partyOf_68 : decode cX8_partyOf 68 = .ok (.invokevirtual 55, 3) := dk_182 0 55 (dk_at dksX8_partyOf_2 21 rfl rfl)
theorem dX8_partyOf_71 : decode cX8_partyOf 71 = .ok (.ireturn, 1) := dk_172 (dk_at dksX8_partyOf_3 0 rfl rfl)
abbrev cX8_guest : ByteArray := prog_26_method_96_code
def yX8_guest : MethodName := ⟨RX8, "guest", "(I)I"⟩
def dkwX8_guest_4 : List UInt8 := [132, 4, 1, 167, 255, 185, 42, 28, 182, 0, 55, 172]
abbrev dktX8_guest_4 : List UInt8 := dkwX8_guest_4 ++ []
def dkwX8_guest_3 : List UInt8 := [16, 254, 159, 0, 14, 42, 180, 1, 165, 29, 161, 0, 6, 167, 0, 11, 42, 180, 1, 165, 62, 21, 4, 61]
abbrev dktX8_guest_3 : List UInt8 := dkwX8_guest_3 ++ dktX8_guest_4
def dkwX8_guest_2 : List UInt8 := [167, 0, 47, 42, 27, 4, 21, 4, 120, 128, 182, 1, 180, 42, 180, 1, 165, 16, 254, 159, 0, 28, 28]
abbrev dktX8_guest_2 : List UInt8 := dkwX8_guest_2 ++ dktX8_guest_3
def dkwX8_guest_1 : List UInt8 := [3, 54, 4, 21, 4, 42, 180, 1, 60, 180, 0, 191, 162, 0, 65, 27, 21, 4, 184, 1, 162, 153, 0, 6]
abbrev dktX8_guest_1 : List UInt8 := dkwX8_guest_1 ++ dktX8_guest_2
def dkwX8_guest_0 : List UInt8 := [42, 3, 181, 0, 45, 42, 27, 182, 1, 177, 154, 0, 9, 42, 4, 182, 0, 51, 172, 16, 254, 61, 3, 62]
abbrev dktX8_guest_0 : List UInt8 := dkwX8_guest_0 ++ dktX8_guest_1
theorem dksX8_guest_0 : cX8_guest.data.toList.drop 0 = dktX8_guest_0 := by decide +kernel
theorem dksX8_guest_1 : cX8_guest.data.toList.drop 24 = dktX8_guest_1 := dk_seg dksX8_guest_0 24 rfl rfl
theorem dksX8_guest_2 : cX8_guest.data.toList.drop 48 = dktX8_guest_2 := dk_seg dksX8_guest_1 24 rfl rfl
theorem dksX8_guest_3 : cX8_guest.data.toList.drop 71 = dktX8_guest_3 := dk_seg dksX8_guest_2 23 rfl rfl
theorem dksX8_guest_4 : cX8_guest.data.toList.drop 95 = dktX8_guest_4 := dk_seg dksX8_guest_3 24 rfl rfl
theorem dX8_guest_0 : decode cX8_guest 0 = .ok (.aload_n 0, 1) := dk_42 (dk_at dksX8_guest_0 0 rfl rfl)
theorem dX8_guest_1 : decode cX8_guest 1 = .ok (.iconst 0, 1) := dk_3 (dk_at dksX8_guest_0 1 rfl rfl)
theorem dX8_guest_2 : decode cX8_guest 2 = .ok (.putfield 45, 3) := dk_181 0 45 (dk_at dksX8_guest_0 2 rfl rfl)
theorem dX8_guest_5 : decode cX8_guest 5 = .ok (.aload_n 0, 1) := dk_42 (dk_at dksX8_guest_0 5 rfl rfl)
theorem dX8_guest_6 : decode cX8_guest 6 = .ok (.iload_n 1, 1) := dk_27 (dk_at dksX8_guest_0 6 rfl rfl)
theorem dX8_guest_7 : decode cX8_guest 7 = .ok (.invokevirtual 433, 3) := dk_182 1 177 (dk_at dksX8_guest_0 7 rfl rfl)
theorem dX8_guest_10 : decode cX8_guest 10 = .ok (.ifCond .ne 9, 3) := dk_154 0 9 (dk_at dksX8_guest_0 10 rfl rfl)
theorem dX8_guest_13 : decode cX8_guest 13 = .ok (.aload_n 0, 1) := dk_42 (dk_at dksX8_guest_0 13 rfl rfl)
theorem dX8_guest_14 : decode cX8_guest 14 = .ok (.iconst 1, 1) := dk_4 (dk_at dksX8_guest_0 14 rfl rfl)
theorem dX8_guest_15 : decode cX8_guest 15 = .ok (.invokevirtual 51, 3) := dk_182 0 51 (dk_at dksX8_guest_0 15 rfl rfl)
theorem dX8_guest_18 : decode cX8_guest 18 = .ok (.ireturn, 1) := dk_172 (dk_at dksX8_guest_0 18 rfl rfl)
theorem dX8_guest_19 : decode cX8_guest 19 = .ok (.bipush (-2), 2) := dk_16 254 (dk_at dksX8_guest_0 19 rfl rfl)
theorem dX8_guest_21 : decode cX8_guest 21 = .ok (.istore_n 2, 1) := dk_61 (dk_at dksX8_guest_0 21 rfl rfl)
theorem dX8_guest_22 : decode cX8_guest 22 = .ok (.iconst 0, 1) := dk_3 (dk_at dksX8_guest_0 22 rfl rfl)
theorem dX8_guest_23 : decode cX8_guest 23 = .ok (.istore_n 3, 1) := dk_62 (dk_at dksX8_guest_0 23 rfl rfl)
theorem dX8_guest_24 : decode cX8_guest 24 = .ok (.iconst 0, 1) := dk_3 (dk_at dksX8_guest_1 0 rfl rfl)
theorem dX8_guest_25 : decode cX8_guest 25 = .ok (.istore 4, 2) := dk_54 4 (dk_at dksX8_guest_1 1 rfl rfl)
theorem dX8_guest_27 : decode cX8_guest 27 = .ok (.iload 4, 2) := dk_21 4 (dk_at dksX8_guest_1 3 rfl rfl)
theorem dX8_guest_29 : decode cX8_guest 29 = .ok (.aload_n 0, 1) := dk_42 (dk_at dksX8_guest_1 5 rfl rfl)
theorem dX8_guest_30 : decode cX8_guest 30 = .ok (.getfield 316, 3) := dk_180 1 60 (dk_at dksX8_guest_1 6 rfl rfl)
theorem dX8_guest_33 : decode cX8_guest 33 = .ok (.getfield 191, 3) := dk_180 0 191 (dk_at dksX8_guest_1 9 rfl rfl)
theorem dX8_guest_36 : decode cX8_guest 36 = .ok (.if_icmp .ge 65, 3) := dk_162 0 65 (dk_at dksX8_guest_1 12 rfl rfl)
theorem dX8_guest_39 : decode cX8_guest 39 = .ok (.iload_n 1, 1) := dk_27 (dk_at dksX8_guest_1 15 rfl rfl)
theorem dX8_guest_40 : decode cX8_guest 40 = .ok (.iload 4, 2) := dk_21 4 (dk_at dksX8_guest_1 16 rfl rfl)
theorem dX8_guest_42 : decode cX8_guest 42 = .ok (.invokestatic 418, 3) := dk_184 1 162 (dk_at dksX8_guest_1 18 rfl rfl)
theorem dX8_guest_45 : decode cX8_guest 45 = .ok (.ifCond .eq 6, 3) := dk_153 0 6 (dk_at dksX8_guest_1 21 rfl rfl)
theorem dX8_guest_48 : decode cX8_guest 48 = .ok (.goto 47, 3) := dk_167 0 47 (dk_at dksX8_guest_2 0 rfl rfl)
theorem dX8_guest_51 : decode cX8_guest 51 = .ok (.aload_n 0, 1) := dk_42 (dk_at dksX8_guest_2 3 rfl rfl)
theorem dX8_guest_52 : decode cX8_guest 52 = .ok (.iload_n 1, 1) := dk_27 (dk_at dksX8_guest_2 4 rfl rfl)
theorem dX8_guest_53 : decode cX8_guest 53 = .ok (.iconst 1, 1) := dk_4 (dk_at dksX8_guest_2 5 rfl rfl)
theorem dX8_guest_54 : decode cX8_guest 54 = .ok (.iload 4, 2) := dk_21 4 (dk_at dksX8_guest_2 6 rfl rfl)
theorem dX8_guest_56 : decode cX8_guest 56 = .ok (.ishl, 1) := dk_120 (dk_at dksX8_guest_2 8 rfl rfl)
theorem dX8_guest_57 : decode cX8_guest 57 = .ok (.ior, 1) := dk_128 (dk_at dksX8_guest_2 9 rfl rfl)
theorem dX8_guest_58 : decode cX8_guest 58 = .ok (.invokevirtual 436, 3) := dk_182 1 180 (dk_at dksX8_guest_2 10 rfl rfl)
theorem dX8_guest_61 : decode cX8_guest 61 = .ok (.aload_n 0, 1) := dk_42 (dk_at dksX8_guest_2 13 rfl rfl)
theorem dX8_guest_62 : decode cX8_guest 62 = .ok (.getfield 421, 3) := dk_180 1 165 (dk_at dksX8_guest_2 14 rfl rfl)
theorem dX8_guest_65 : decode cX8_guest 65 = .ok (.bipush (-2), 2) := dk_16 254 (dk_at dksX8_guest_2 17 rfl rfl)
theorem dX8_guest_67 : decode cX8_guest 67 = .ok (.if_icmp .eq 28, 3) := dk_159 0 28 (dk_at dksX8_guest_2 19 rfl rfl)
theorem dX8_guest_70 : decode cX8_guest 70 = .ok (.iload_n 2, 1) := dk_28 (dk_at dksX8_guest_2 22 rfl rfl)
theorem dX8_guest_71 : decode cX8_guest 71 = .ok (.bipush (-2), 2) := dk_16 254 (dk_at dksX8_guest_3 0 rfl rfl)
theorem dX8_guest_73 : decode cX8_guest 73 = .ok (.if_icmp .eq 14, 3) := dk_159 0 14 (dk_at dksX8_guest_3 2 rfl rfl)
theorem dX8_guest_76 : decode cX8_guest 76 = .ok (.aload_n 0, 1) := dk_42 (dk_at dksX8_guest_3 5 rfl rfl)
theorem dX8_guest_77 : decode cX8_guest 77 = .ok (.getfield 421, 3) := dk_180 1 165 (dk_at dksX8_guest_3 6 rfl rfl)
theorem dX8_guest_80 : decode cX8_guest 80 = .ok (.iload_n 3, 1) := dk_29 (dk_at dksX8_guest_3 9 rfl rfl)
theorem dX8_guest_81 : decode cX8_guest 81 = .ok (.if_icmp .lt 6, 3) := dk_161 0 6 (dk_at dksX8_guest_3 10 rfl rfl)
theorem dX8_guest_84 : decode cX8_guest 84 = .ok (.goto 11, 3) := dk_167 0 11 (dk_at dksX8_guest_3 13 rfl rfl)
theorem dX8_guest_87 : decode cX8_guest 87 = .ok (.aload_n 0, 1) := dk_42 (dk_at dksX8_guest_3 16 rfl rfl)
theorem dX8_guest_88 : decode cX8_guest 88 = .ok (.getfield 421, 3) := dk_180 1 165 (dk_at dksX8_guest_3 17 rfl rfl)
theorem dX8_guest_91 : decode cX8_guest 91 = .ok (.istore_n 3, 1) := dk_62 (dk_at dksX8_guest_3 20 rfl rfl)
theorem dX8_guest_92 : decode cX8_guest 92 = .ok (.iload 4, 2) := dk_21 4 (dk_at dksX8_guest_3 21 rfl rfl)
theorem dX8_guest_94 : decode cX8_guest 94 = .ok (.istore_n 2, 1) := dk_61 (dk_at dksX8_guest_3 23 rfl rfl)
theorem dX8_guest_95 : decode cX8_guest 95 = .ok (.iinc 4 1, 3) := dk_132 4 1 (dk_at dksX8_guest_4 0 rfl rfl)
theorem dX8_guest_98 : decode cX8_guest 98 = .ok (.goto (-71), 3) := dk_167 255 185 (dk_at dksX8_guest_4 3 rfl rfl)
theorem dX8_guest_101 : decode cX8_guest 101 = .ok (.aload_n 0, 1) := dk_42 (dk_at dksX8_guest_4 6 rfl rfl)
theorem dX8_guest_102 : decode cX8_guest 102 = .ok (.iload_n 2, 1) := dk_28 (dk_at dksX8_guest_4 7 rfl rfl)
theorem dX8_guest_103 : decode cX8_guest 103 = .ok (.invokevirtual 55, 3) := dk_182 0 55 (dk_at dksX8_guest_4 8 rfl rfl)
theorem dX8_guest_106 : decode cX8_guest 106 = .ok (.ireturn, 1) := dk_172 (dk_at dksX8_guest_4 11 rfl rfl)
abbrev cX8_room : ByteArray := prog_26_method_97_code
def yX8_room : MethodName := ⟨RX8, "room", "(I)I"⟩
def dkwX8_room_2 : List UInt8 := [167, 255, 233, 42, 28, 182, 0, 55, 172]
abbrev dktX8_room_2 : List UInt8 := dkwX8_room_2 ++ []
def dkwX8_room_1 : List UInt8 := [42, 180, 1, 60, 180, 0, 194, 162, 0, 18, 28, 42, 29, 27, 182, 1, 174, 96, 61, 132, 3, 1]
abbrev dktX8_room_1 : List UInt8 := dkwX8_room_1 ++ dktX8_room_2
def dkwX8_room_0 : List UInt8 := [42, 3, 181, 0, 45, 42, 27, 182, 1, 177, 154, 0, 9, 42, 4, 182, 0, 51, 172, 3, 61, 3, 62, 29]
abbrev dktX8_room_0 : List UInt8 := dkwX8_room_0 ++ dktX8_room_1
theorem dksX8_room_0 : cX8_room.data.toList.drop 0 = dktX8_room_0 := by decide +kernel
theorem dksX8_room_1 : cX8_room.data.toList.drop 24 = dktX8_room_1 := dk_seg dksX8_room_0 24 rfl rfl
theorem dksX8_room_2 : cX8_room.data.toList.drop 46 = dktX8_room_2 := dk_seg dksX8_room_1 22 rfl rfl
theorem dX8_room_0 : decode cX8_room 0 = .ok (.aload_n 0, 1) := dk_42 (dk_at dksX8_room_0 0 rfl rfl)
theorem dX8_room_1 : decode cX8_room 1 = .ok (.iconst 0, 1) := dk_3 (dk_at dksX8_room_0 1 rfl rfl)
theorem dX8_room_2 : decode cX8_room 2 = .ok (.putfield 45, 3) := dk_181 0 45 (dk_at dksX8_room_0 2 rfl rfl)
theorem dX8_room_5 : decode cX8_room 5 = .ok (.aload_n 0, 1) := dk_42 (dk_at dksX8_room_0 5 rfl rfl)
theorem dX8_room_6 : decode cX8_room 6 = .ok (.iload_n 1, 1) := dk_27 (dk_at dksX8_room_0 6 rfl rfl)
theorem dX8_room_7 : decode cX8_room 7 = .ok (.invokevirtual 433, 3) := dk_182 1 177 (dk_at dksX8_room_0 7 rfl rfl)
theorem dX8_room_10 : decode cX8_room 10 = .ok (.ifCond .ne 9, 3) := dk_154 0 9 (dk_at dksX8_room_0 10 rfl rfl)
theorem dX8_room_13 : decode cX8_room 13 = .ok (.aload_n 0, 1) := dk_42 (dk_at dksX8_room_0 13 rfl rfl)
theorem dX8_room_14 : decode cX8_room 14 = .ok (.iconst 1, 1) := dk_4 (dk_at dksX8_room_0 14 rfl rfl)
theorem dX8_room_15 : decode cX8_room 15 = .ok (.invokevirtual 51, 3) := dk_182 0 51 (dk_at dksX8_room_0 15 rfl rfl)
theorem dX8_room_18 : decode cX8_room 18 = .ok (.ireturn, 1) := dk_172 (dk_at dksX8_room_0 18 rfl rfl)
theorem dX8_room_19 : decode cX8_room 19 = .ok (.iconst 0, 1) := dk_3 (dk_at dksX8_room_0 19 rfl rfl)
theorem dX8_room_20 : decode cX8_room 20 = .ok (.istore_n 2, 1) := dk_61 (dk_at dksX8_room_0 20 rfl rfl)
theorem dX8_room_21 : decode cX8_room 21 = .ok (.iconst 0, 1) := dk_3 (dk_at dksX8_room_0 21 rfl rfl)
theorem dX8_room_22 : decode cX8_room 22 = .ok (.istore_n 3, 1) := dk_62 (dk_at dksX8_room_0 22 rfl rfl)
theorem dX8_room_23 : decode cX8_room 23 = .ok (.iload_n 3, 1) := dk_29 (dk_at dksX8_room_0 23 rfl rfl)
theorem dX8_room_24 : decode cX8_room 24 = .ok (.aload_n 0, 1) := dk_42 (dk_at dksX8_room_1 0 rfl rfl)
theorem dX8_room_25 : decode cX8_room 25 = .ok (.getfield 316, 3) := dk_180 1 60 (dk_at dksX8_room_1 1 rfl rfl)
theorem dX8_room_28 : decode cX8_room 28 = .ok (.getfield 194, 3) := dk_180 0 194 (dk_at dksX8_room_1 4 rfl rfl)
theorem dX8_room_31 : decode cX8_room 31 = .ok (.if_icmp .ge 18, 3) := dk_162 0 18 (dk_at dksX8_room_1 7 rfl rfl)
theorem dX8_room_34 : decode cX8_room 34 = .ok (.iload_n 2, 1) := dk_28 (dk_at dksX8_room_1 10 rfl rfl)
theorem dX8_room_35 : decode cX8_room 35 = .ok (.aload_n 0, 1) := dk_42 (dk_at dksX8_room_1 11 rfl rfl)
theorem dX8_room_36 : decode cX8_room 36 = .ok (.iload_n 3, 1) := dk_29 (dk_at dksX8_room_1 12 rfl rfl)
theorem dX8_room_37 : decode cX8_room 37 = .ok (.iload_n 1, 1) := dk_27 (dk_at dksX8_room_1 13 rfl rfl)
theorem dX8_room_38 : decode cX8_room 38 = .ok (.invokevirtual 430, 3) := dk_182 1 174 (dk_at dksX8_room_1 14 rfl rfl)
theorem dX8_room_41 : decode cX8_room 41 = .ok (.iadd, 1) := dk_96 (dk_at dksX8_room_1 17 rfl rfl)
theorem dX8_room_42 : decode cX8_room 42 = .ok (.istore_n 2, 1) := dk_61 (dk_at dksX8_room_1 18 rfl rfl)
theorem dX8_room_43 : decode cX8_room 43 = .ok (.iinc 3 1, 3) := dk_132 3 1 (dk_at dksX8_room_1 19 rfl rfl)
theorem dX8_room_46 : decode cX8_room 46 = .ok (.goto (-23), 3) := dk_167 255 233 (dk_at dksX8_room_2 0 rfl rfl)
theorem dX8_room_49 : decode cX8_room 49 = .ok (.aload_n 0, 1) := dk_42 (dk_at dksX8_room_2 3 rfl rfl)
theorem dX8_room_50 : decode cX8_room 50 = .ok (.iload_n 2, 1) := dk_28 (dk_at dksX8_room_2 4 rfl rfl)
theorem dX8_room_51 : decode cX8_room 51 = .ok (.invokevirtual 55, 3) := dk_182 0 55 (dk_at dksX8_room_2 5 rfl rfl)
theorem dX8_room_54 : decode cX8_room 54 = .ok (.ireturn, 1) := dk_172 (dk_at dksX8_room_2 8 rfl rfl)
abbrev cX8_whole : ByteArray := prog_26_method_100_code
def yX8_whole : MethodName := ⟨RX8, "whole", "(IIZ)J"⟩
def dkwX8_whole_2 : List UInt8 := [182, 1, 193, 167, 0, 9, 42, 5, 182, 0, 51, 133, 173]
abbrev dktX8_whole_2 : List UInt8 := dkwX8_whole_2 ++ []
def dkwX8_whole_1 : List UInt8 := [184, 0, 124, 153, 0, 27, 42, 42, 27, 182, 1, 185, 28, 184, 1, 189, 20, 1, 183, 28, 184, 1, 189, 29]
abbrev dktX8_whole_1 : List UInt8 := dkwX8_whole_1 ++ dktX8_whole_2
def dkwX8_whole_0 : List UInt8 := [42, 3, 181, 0, 45, 42, 27, 182, 1, 103, 154, 0, 10, 42, 4, 182, 0, 51, 133, 173, 28, 3, 16, 6]
abbrev dktX8_whole_0 : List UInt8 := dkwX8_whole_0 ++ dktX8_whole_1
theorem dksX8_whole_0 : cX8_whole.data.toList.drop 0 = dktX8_whole_0 := by decide +kernel
theorem dksX8_whole_1 : cX8_whole.data.toList.drop 24 = dktX8_whole_1 := dk_seg dksX8_whole_0 24 rfl rfl
theorem dksX8_whole_2 : cX8_whole.data.toList.drop 48 = dktX8_whole_2 := dk_seg dksX8_whole_1 24 rfl rfl
theorem dX8_whole_0 : decode cX8_whole 0 = .ok (.aload_n 0, 1) := dk_42 (dk_at dksX8_whole_0 0 rfl rfl)
theorem dX8_whole_1 : decode cX8_whole 1 = .ok (.iconst 0, 1) := dk_3 (dk_at dksX8_whole_0 1 rfl rfl)
theorem dX8_whole_2 : decode cX8_whole 2 = .ok (.putfield 45, 3) := dk_181 0 45 (dk_at dksX8_whole_0 2 rfl rfl)
theorem dX8_whole_5 : decode cX8_whole 5 = .ok (.aload_n 0, 1) := dk_42 (dk_at dksX8_whole_0 5 rfl rfl)
theorem dX8_whole_6 : decode cX8_whole 6 = .ok (.iload_n 1, 1) := dk_27 (dk_at dksX8_whole_0 6 rfl rfl)
theorem dX8_whole_7 : decode cX8_whole 7 = .ok (.invokevirtual 359, 3) := dk_182 1 103 (dk_at dksX8_whole_0 7 rfl rfl)
theorem dX8_whole_10 : decode cX8_whole 10 = .ok (.ifCond .ne 10, 3) := dk_154 0 10 (dk_at dksX8_whole_0 10 rfl rfl)
theorem dX8_whole_13 : decode cX8_whole 13 = .ok (.aload_n 0, 1) := dk_42 (dk_at dksX8_whole_0 13 rfl rfl)
theorem dX8_whole_14 : decode cX8_whole 14 = .ok (.iconst 1, 1) := dk_4 (dk_at dksX8_whole_0 14 rfl rfl)
theorem dX8_whole_15 : decode cX8_whole 15 = .ok (.invokevirtual 51, 3) := dk_182 0 51 (dk_at dksX8_whole_0 15 rfl rfl)
theorem dX8_whole_18 : decode cX8_whole 18 = .ok (.i2l, 1) := dk_133 (dk_at dksX8_whole_0 18 rfl rfl)
theorem dX8_whole_19 : decode cX8_whole 19 = .ok (.lreturn, 1) := dk_173 (dk_at dksX8_whole_0 19 rfl rfl)
theorem dX8_whole_20 : decode cX8_whole 20 = .ok (.iload_n 2, 1) := dk_28 (dk_at dksX8_whole_0 20 rfl rfl)
theorem dX8_whole_21 : decode cX8_whole 21 = .ok (.iconst 0, 1) := dk_3 (dk_at dksX8_whole_0 21 rfl rfl)
theorem dX8_whole_22 : decode cX8_whole 22 = .ok (.bipush 6, 2) := dk_16 6 (dk_at dksX8_whole_0 22 rfl rfl)
theorem dX8_whole_24 : decode cX8_whole 24 = .ok (.invokestatic 124, 3) := dk_184 0 124 (dk_at dksX8_whole_1 0 rfl rfl)
theorem dX8_whole_27 : decode cX8_whole 27 = .ok (.ifCond .eq 27, 3) := dk_153 0 27 (dk_at dksX8_whole_1 3 rfl rfl)
theorem dX8_whole_30 : decode cX8_whole 30 = .ok (.aload_n 0, 1) := dk_42 (dk_at dksX8_whole_1 6 rfl rfl)
theorem dX8_whole_31 : decode cX8_whole 31 = .ok (.aload_n 0, 1) := dk_42 (dk_at dksX8_whole_1 7 rfl rfl)
theorem dX8_whole_32 : decode cX8_whole 32 = .ok (.iload_n 1, 1) := dk_27 (dk_at dksX8_whole_1 8 rfl rfl)
theorem dX8_whole_33 : decode cX8_whole 33 = .ok (.invokevirtual 441, 3) := dk_182 1 185 (dk_at dksX8_whole_1 9 rfl rfl)
theorem dX8_whole_36 : decode cX8_whole 36 = .ok (.iload_n 2, 1) := dk_28 (dk_at dksX8_whole_1 12 rfl rfl)
theorem dX8_whole_37 : decode cX8_whole 37 = .ok (.invokestatic 445, 3) := dk_184 1 189 (dk_at dksX8_whole_1 13 rfl rfl)
theorem dX8_whole_40 : decode cX8_whole 40 = .ok (.ldc2_w 439, 3) := dk_20 1 183 (dk_at dksX8_whole_1 16 rfl rfl)
theorem dX8_whole_43 : decode cX8_whole 43 = .ok (.iload_n 2, 1) := dk_28 (dk_at dksX8_whole_1 19 rfl rfl)
theorem dX8_whole_44 : decode cX8_whole 44 = .ok (.invokestatic 445, 3) := dk_184 1 189 (dk_at dksX8_whole_1 20 rfl rfl)
theorem dX8_whole_47 : decode cX8_whole 47 = .ok (.iload_n 3, 1) := dk_29 (dk_at dksX8_whole_1 23 rfl rfl)
theorem dX8_whole_48 : decode cX8_whole 48 = .ok (.invokevirtual 449, 3) := dk_182 1 193 (dk_at dksX8_whole_2 0 rfl rfl)
theorem dX8_whole_51 : decode cX8_whole 51 = .ok (.goto 9, 3) := dk_167 0 9 (dk_at dksX8_whole_2 3 rfl rfl)
theorem dX8_whole_54 : decode cX8_whole 54 = .ok (.aload_n 0, 1) := dk_42 (dk_at dksX8_whole_2 6 rfl rfl)
theorem dX8_whole_55 : decode cX8_whole 55 = .ok (.iconst 2, 1) := dk_5 (dk_at dksX8_whole_2 7 rfl rfl)
theorem dX8_whole_56 : decode cX8_whole 56 = .ok (.invokevirtual 51, 3) := dk_182 0 51 (dk_at dksX8_whole_2 8 rfl rfl)
theorem dX8_whole_59 : decode cX8_whole 59 = .ok (.i2l, 1) := dk_133 (dk_at dksX8_whole_2 11 rfl rfl)
theorem dX8_whole_60 : decode cX8_whole 60 = .ok (.lreturn, 1) := dk_173 (dk_at dksX8_whole_2 12 rfl rfl)
abbrev cX8_calm : ByteArray := prog_26_method_99_code
def yX8_calm : MethodName := ⟨RX8, "calm", "(I)J"⟩
def dkwX8_calm_1 : List UInt8 := [167, 0, 10, 42, 180, 1, 60, 180, 0, 230, 133, 101, 173]
abbrev dktX8_calm_1 : List UInt8 := dkwX8_calm_1 ++ []
def dkwX8_calm_0 : List UInt8 := [20, 1, 183, 42, 180, 1, 60, 180, 1, 14, 27, 46, 154, 0, 15, 42, 180, 1, 60, 180, 0, 230, 5, 108]
abbrev dktX8_calm_0 : List UInt8 := dkwX8_calm_0 ++ dktX8_calm_1
theorem dksX8_calm_0 : cX8_calm.data.toList.drop 0 = dktX8_calm_0 := by decide +kernel
theorem dksX8_calm_1 : cX8_calm.data.toList.drop 24 = dktX8_calm_1 := dk_seg dksX8_calm_0 24 rfl rfl
theorem dX8_calm_0 : decode cX8_calm 0 = .ok (.ldc2_w 439, 3) := dk_20 1 183 (dk_at dksX8_calm_0 0 rfl rfl)
theorem dX8_calm_3 : decode cX8_calm 3 = .ok (.aload_n 0, 1) := dk_42 (dk_at dksX8_calm_0 3 rfl rfl)
theorem dX8_calm_4 : decode cX8_calm 4 = .ok (.getfield 316, 3) := dk_180 1 60 (dk_at dksX8_calm_0 4 rfl rfl)
theorem dX8_calm_7 : decode cX8_calm 7 = .ok (.getfield 270, 3) := dk_180 1 14 (dk_at dksX8_calm_0 7 rfl rfl)
theorem dX8_calm_10 : decode cX8_calm 10 = .ok (.iload_n 1, 1) := dk_27 (dk_at dksX8_calm_0 10 rfl rfl)
theorem dX8_calm_11 : decode cX8_calm 11 = .ok (.iaload, 1) := dk_46 (dk_at dksX8_calm_0 11 rfl rfl)
theorem dX8_calm_12 : decode cX8_calm 12 = .ok (.ifCond .ne 15, 3) := dk_154 0 15 (dk_at dksX8_calm_0 12 rfl rfl)
theorem dX8_calm_15 : decode cX8_calm 15 = .ok (.aload_n 0, 1) := dk_42 (dk_at dksX8_calm_0 15 rfl rfl)
theorem dX8_calm_16 : decode cX8_calm 16 = .ok (.getfield 316, 3) := dk_180 1 60 (dk_at dksX8_calm_0 16 rfl rfl)
theorem dX8_calm_19 : decode cX8_calm 19 = .ok (.getfield 230, 3) := dk_180 0 230 (dk_at dksX8_calm_0 19 rfl rfl)
theorem dX8_calm_22 : decode cX8_calm 22 = .ok (.iconst 2, 1) := dk_5 (dk_at dksX8_calm_0 22 rfl rfl)
theorem dX8_calm_23 : decode cX8_calm 23 = .ok (.idiv, 1) := dk_108 (dk_at dksX8_calm_0 23 rfl rfl)
theorem dX8_calm_24 : decode cX8_calm 24 = .ok (.goto 10, 3) := dk_167 0 10 (dk_at dksX8_calm_1 0 rfl rfl)
theorem dX8_calm_27 : decode cX8_calm 27 = .ok (.aload_n 0, 1) := dk_42 (dk_at dksX8_calm_1 3 rfl rfl)
theorem dX8_calm_28 : decode cX8_calm 28 = .ok (.getfield 316, 3) := dk_180 1 60 (dk_at dksX8_calm_1 4 rfl rfl)
theorem dX8_calm_31 : decode cX8_calm 31 = .ok (.getfield 230, 3) := dk_180 0 230 (dk_at dksX8_calm_1 7 rfl rfl)
theorem dX8_calm_34 : decode cX8_calm 34 = .ok (.i2l, 1) := dk_133 (dk_at dksX8_calm_1 10 rfl rfl)
theorem dX8_calm_35 : decode cX8_calm 35 = .ok (.lsub, 1) := dk_101 (dk_at dksX8_calm_1 11 rfl rfl)
theorem dX8_calm_36 : decode cX8_calm 36 = .ok (.lreturn, 1) := dk_173 (dk_at dksX8_calm_1 12 rfl rfl)
abbrev cX8_power : ByteArray := prog_26_method_98_code
def yX8_power : MethodName := ⟨RX8, "power", "(JI)J"⟩
def dkwX8_power_0 : List UInt8 := [10, 66, 3, 54, 5, 21, 5, 28, 162, 0, 13, 33, 30, 105, 66, 132, 5, 1, 167, 255, 243, 33, 173]
abbrev dktX8_power_0 : List UInt8 := dkwX8_power_0 ++ []
theorem dksX8_power_0 : cX8_power.data.toList.drop 0 = dktX8_power_0 := by decide +kernel
theorem dX8_power_0 : decode cX8_power 0 = .ok (.lconst 1, 1) := dk_10 (dk_at dksX8_power_0 0 rfl rfl)
theorem dX8_power_1 : decode cX8_power 1 = .ok (.lstore_n 3, 1) := dk_66 (dk_at dksX8_power_0 1 rfl rfl)
theorem dX8_power_2 : decode cX8_power 2 = .ok (.iconst 0, 1) := dk_3 (dk_at dksX8_power_0 2 rfl rfl)
theorem dX8_power_3 : decode cX8_power 3 = .ok (.istore 5, 2) := dk_54 5 (dk_at dksX8_power_0 3 rfl rfl)
theorem dX8_power_5 : decode cX8_power 5 = .ok (.iload 5, 2) := dk_21 5 (dk_at dksX8_power_0 5 rfl rfl)
theorem dX8_power_7 : decode cX8_power 7 = .ok (.iload_n 2, 1) := dk_28 (dk_at dksX8_power_0 7 rfl rfl)
theorem dX8_power_8 : decode cX8_power 8 = .ok (.if_icmp .ge 13, 3) := dk_162 0 13 (dk_at dksX8_power_0 8 rfl rfl)
theorem dX8_power_11 : decode cX8_power 11 = .ok (.lload_n 3, 1) := dk_33 (dk_at dksX8_power_0 11 rfl rfl)
theorem dX8_power_12 : decode cX8_power 12 = .ok (.lload_n 0, 1) := dk_30 (dk_at dksX8_power_0 12 rfl rfl)
theorem dX8_power_13 : decode cX8_power 13 = .ok (.lmul, 1) := dk_105 (dk_at dksX8_power_0 13 rfl rfl)
theorem dX8_power_14 : decode cX8_power 14 = .ok (.lstore_n 3, 1) := dk_66 (dk_at dksX8_power_0 14 rfl rfl)
theorem dX8_power_15 : decode cX8_power 15 = .ok (.iinc 5 1, 3) := dk_132 5 1 (dk_at dksX8_power_0 15 rfl rfl)
theorem dX8_power_18 : decode cX8_power 18 = .ok (.goto (-13), 3) := dk_167 255 243 (dk_at dksX8_power_0 18 rfl rfl)
theorem dX8_power_21 : decode cX8_power 21 = .ok (.lload_n 3, 1) := dk_33 (dk_at dksX8_power_0 21 rfl rfl)
theorem dX8_power_22 : decode cX8_power 22 = .ok (.lreturn, 1) := dk_173 (dk_at dksX8_power_0 22 rfl rfl)
abbrev cX8_fraction : ByteArray := prog_26_method_12_code
def yX8_fraction : MethodName := ⟨RX8, "fraction", "(JJZ)J"⟩
def dkwX8_fraction_0 : List UInt8 := [42, 3, 182, 0, 55, 87, 21, 5, 153, 0, 7, 33, 167, 0, 4, 31, 31, 33, 184, 0, 58, 109, 173]
abbrev dktX8_fraction_0 : List UInt8 := dkwX8_fraction_0 ++ []
theorem dksX8_fraction_0 : cX8_fraction.data.toList.drop 0 = dktX8_fraction_0 := by decide +kernel
theorem dX8_fraction_0 : decode cX8_fraction 0 = .ok (.aload_n 0, 1) := dk_42 (dk_at dksX8_fraction_0 0 rfl rfl)
theorem dX8_fraction_1 : decode cX8_fraction 1 = .ok (.iconst 0, 1) := dk_3 (dk_at dksX8_fraction_0 1 rfl rfl)
theorem dX8_fraction_2 : decode cX8_fraction 2 = .ok (.invokevirtual 55, 3) := dk_182 0 55 (dk_at dksX8_fraction_0 2 rfl rfl)
theorem dX8_fraction_5 : decode cX8_fraction 5 = .ok (.pop, 1) := dk_87 (dk_at dksX8_fraction_0 5 rfl rfl)
theorem dX8_fraction_6 : decode cX8_fraction 6 = .ok (.iload 5, 2) := dk_21 5 (dk_at dksX8_fraction_0 6 rfl rfl)
theorem dX8_fraction_8 : decode cX8_fraction 8 = .ok (.ifCond .eq 7, 3) := dk_153 0 7 (dk_at dksX8_fraction_0 8 rfl rfl)
theorem dX8_fraction_11 : decode cX8_fraction 11 = .ok (.lload_n 3, 1) := dk_33 (dk_at dksX8_fraction_0 11 rfl rfl)
theorem dX8_fraction_12 : decode cX8_fraction 12 = .ok (.goto 4, 3) := dk_167 0 4 (dk_at dksX8_fraction_0 12 rfl rfl)
theorem dX8_fraction_15 : decode cX8_fraction 15 = .ok (.lload_n 1, 1) := dk_31 (dk_at dksX8_fraction_0 15 rfl rfl)
theorem dX8_fraction_16 : decode cX8_fraction 16 = .ok (.lload_n 1, 1) := dk_31 (dk_at dksX8_fraction_0 16 rfl rfl)
theorem dX8_fraction_17 : decode cX8_fraction 17 = .ok (.lload_n 3, 1) := dk_33 (dk_at dksX8_fraction_0 17 rfl rfl)
theorem dX8_fraction_18 : decode cX8_fraction 18 = .ok (.invokestatic 58, 3) := dk_184 0 58 (dk_at dksX8_fraction_0 18 rfl rfl)
theorem dX8_fraction_21 : decode cX8_fraction 21 = .ok (.ldiv, 1) := dk_109 (dk_at dksX8_fraction_0 21 rfl rfl)
theorem dX8_fraction_22 : decode cX8_fraction 22 = .ok (.lreturn, 1) := dk_173 (dk_at dksX8_fraction_0 22 rfl rfl)
abbrev cX8_common : ByteArray := prog_26_method_11_code
def yX8_common : MethodName := ⟨RX8, "common", "(JJ)J"⟩
def dkwX8_common_1 : List UInt8 := [22, 8, 55, 6, 167, 255, 234, 22, 4, 173]
abbrev dktX8_common_1 : List UInt8 := dkwX8_common_1 ++ []
def dkwX8_common_0 : List UInt8 := [30, 55, 4, 32, 55, 6, 22, 6, 9, 148, 153, 0, 21, 22, 4, 22, 6, 113, 55, 8, 22, 6, 55, 4]
abbrev dktX8_common_0 : List UInt8 := dkwX8_common_0 ++ dktX8_common_1
theorem dksX8_common_0 : cX8_common.data.toList.drop 0 = dktX8_common_0 := by decide +kernel
theorem dksX8_common_1 : cX8_common.data.toList.drop 24 = dktX8_common_1 := dk_seg dksX8_common_0 24 rfl rfl
theorem dX8_common_0 : decode cX8_common 0 = .ok (.lload_n 0, 1) := dk_30 (dk_at dksX8_common_0 0 rfl rfl)
theorem dX8_common_1 : decode cX8_common 1 = .ok (.lstore 4, 2) := dk_55 4 (dk_at dksX8_common_0 1 rfl rfl)
theorem dX8_common_3 : decode cX8_common 3 = .ok (.lload_n 2, 1) := dk_32 (dk_at dksX8_common_0 3 rfl rfl)
theorem dX8_common_4 : decode cX8_common 4 = .ok (.lstore 6, 2) := dk_55 6 (dk_at dksX8_common_0 4 rfl rfl)
theorem dX8_common_6 : decode cX8_common 6 = .ok (.lload 6, 2) := dk_22 6 (dk_at dksX8_common_0 6 rfl rfl)
theorem dX8_common_8 : decode cX8_common 8 = .ok (.lconst 0, 1) := dk_9 (dk_at dksX8_common_0 8 rfl rfl)
theorem dX8_common_9 : decode cX8_common 9 = .ok (.lcmp, 1) := dk_148 (dk_at dksX8_common_0 9 rfl rfl)
theorem dX8_common_10 : decode cX8_common 10 = .ok (.ifCond .eq 21, 3) := dk_153 0 21 (dk_at dksX8_common_0 10 rfl rfl)
theorem dX8_common_13 : decode cX8_common 13 = .ok (.lload 4, 2) := dk_22 4 (dk_at dksX8_common_0 13 rfl rfl)
theorem dX8_common_15 : decode cX8_common 15 = .ok (.lload 6, 2) := dk_22 6 (dk_at dksX8_common_0 15 rfl rfl)
theorem dX8_common_17 : decode cX8_common 17 = .ok (.lrem, 1) := dk_113 (dk_at dksX8_common_0 17 rfl rfl)
theorem dX8_common_18 : decode cX8_common 18 = .ok (.lstore 8, 2) := dk_55 8 (dk_at dksX8_common_0 18 rfl rfl)
theorem dX8_common_20 : decode cX8_common 20 = .ok (.lload 6, 2) := dk_22 6 (dk_at dksX8_common_0 20 rfl rfl)
theorem dX8_common_22 : decode cX8_common 22 = .ok (.lstore 4, 2) := dk_55 4 (dk_at dksX8_common_0 22 rfl rfl)
theorem dX8_common_24 : decode cX8_common 24 = .ok (.lload 8, 2) := dk_22 8 (dk_at dksX8_common_1 0 rfl rfl)
theorem dX8_common_26 : decode cX8_common 26 = .ok (.lstore 6, 2) := dk_55 6 (dk_at dksX8_common_1 2 rfl rfl)
theorem dX8_common_28 : decode cX8_common 28 = .ok (.goto (-22), 3) := dk_167 255 234 (dk_at dksX8_common_1 4 rfl rfl)
theorem dX8_common_31 : decode cX8_common 31 = .ok (.lload 4, 2) := dk_22 4 (dk_at dksX8_common_1 7 rfl rfl)
theorem dX8_common_33 : decode cX8_common 33 = .ok (.lreturn, 1) := dk_173 (dk_at dksX8_common_1 9 rfl rfl)
abbrev cX8_allWhole : ByteArray := prog_26_method_101_code
def yX8_allWhole : MethodName := ⟨RX8, "allWhole", "(IIZ)J"⟩
def dkwX8_allWhole_4 : List UInt8 := [184, 1, 189, 105, 55, 6, 132, 8, 1, 167, 255, 198, 42, 22, 4, 22, 6, 29, 182, 1, 193, 173]
abbrev dktX8_allWhole_4 : List UInt8 := dkwX8_allWhole_4 ++ []
def dkwX8_allWhole_3 : List UInt8 := [167, 0, 30, 22, 4, 42, 21, 8, 182, 1, 185, 28, 184, 1, 189, 105, 55, 4, 22, 6, 20, 1, 183, 28]
abbrev dktX8_allWhole_3 : List UInt8 := dkwX8_allWhole_3 ++ dktX8_allWhole_4
def dkwX8_allWhole_2 : List UInt8 := [42, 180, 1, 60, 180, 0, 194, 162, 0, 52, 42, 180, 0, 17, 3, 21, 8, 96, 46, 27, 159, 0, 6]
abbrev dktX8_allWhole_2 : List UInt8 := dkwX8_allWhole_2 ++ dktX8_allWhole_3
def dkwX8_allWhole_1 : List UInt8 := [184, 0, 124, 154, 0, 10, 42, 5, 182, 0, 51, 133, 173, 10, 55, 4, 10, 55, 6, 3, 54, 8, 21, 8]
abbrev dktX8_allWhole_1 : List UInt8 := dkwX8_allWhole_1 ++ dktX8_allWhole_2
def dkwX8_allWhole_0 : List UInt8 := [42, 3, 181, 0, 45, 42, 27, 182, 1, 106, 154, 0, 10, 42, 4, 182, 0, 51, 133, 173, 28, 3, 4]
abbrev dktX8_allWhole_0 : List UInt8 := dkwX8_allWhole_0 ++ dktX8_allWhole_1
theorem dksX8_allWhole_0 : cX8_allWhole.data.toList.drop 0 = dktX8_allWhole_0 := by decide +kernel
theorem dksX8_allWhole_1 : cX8_allWhole.data.toList.drop 23 = dktX8_allWhole_1 := dk_seg dksX8_allWhole_0 23 rfl rfl
theorem dksX8_allWhole_2 : cX8_allWhole.data.toList.drop 47 = dktX8_allWhole_2 := dk_seg dksX8_allWhole_1 24 rfl rfl
theorem dksX8_allWhole_3 : cX8_allWhole.data.toList.drop 70 = dktX8_allWhole_3 := dk_seg dksX8_allWhole_2 23 rfl rfl
theorem dksX8_allWhole_4 : cX8_allWhole.data.toList.drop 94 = dktX8_allWhole_4 := dk_seg dksX8_allWhole_3 24 rfl rfl
theorem dX8_allWhole_0 : decode cX8_allWhole 0 = .ok (.aload_n 0, 1) := dk_42 (dk_at dksX8_allWhole_0 0 rfl rfl)
theorem dX8_allWhole_1 : decode cX8_allWhole 1 = .ok (.iconst 0, 1) := dk_3 (dk_at dksX8_allWhole_0 1 rfl rfl)
theorem dX8_allWhole_2 : decode cX8_allWhole 2 = .ok (.putfield 45, 3) := dk_181 0 45 (dk_at dksX8_allWhole_0 2 rfl rfl)
theorem dX8_allWhole_5 : decode cX8_allWhole 5 = .ok (.aload_n 0, 1) := dk_42 (dk_at dksX8_allWhole_0 5 rfl rfl)
theorem dX8_allWhole_6 : decode cX8_allWhole 6 = .ok (.iload_n 1, 1) := dk_27 (dk_at dksX8_allWhole_0 6 rfl rfl)
theorem dX8_allWhole_7 : decode cX8_allWhole 7 = .ok (.invokevirtual 362, 3) := dk_182 1 106 (dk_at dksX8_allWhole_0 7 rfl rfl)
theorem dX8_allWhole_10 : decode cX8_allWhole 10 = .ok (.ifCond .ne 10, 3) := dk_154 0 10 (dk_at dksX8_allWhole_0 10 rfl rfl)
theorem dX8_allWhole_13 : decode cX8_allWhole 13 = .ok (.aload_n 0, 1) := dk_42 (dk_at dksX8_allWhole_0 13 rfl rfl)
theorem dX8_allWhole_14 : decode cX8_allWhole 14 = .ok (.iconst 1, 1) := dk_4 (dk_at dksX8_allWhole_0 14 rfl rfl)
theorem dX8_allWhole_15 : decode cX8_allWhole 15 = .ok (.invokevirtual 51, 3) := dk_182 0 51 (dk_at dksX8_allWhole_0 15 rfl rfl)
theorem dX8_allWhole_18 : decode cX8_allWhole 18 = .ok (.i2l, 1) := dk_133 (dk_at dksX8_allWhole_0 18 rfl rfl)
theorem dX8_allWhole_19 : decode cX8_allWhole 19 = .ok (.lreturn, 1) := dk_173 (dk_at dksX8_allWhole_0 19 rfl rfl)
theorem dX8_allWhole_20 : decode cX8_allWhole 20 = .ok (.iload_n 2, 1) := dk_28 (dk_at dksX8_allWhole_0 20 rfl rfl)
theorem dX8_allWhole_21 : decode cX8_allWhole 21 = .ok (.iconst 0, 1) := dk_3 (dk_at dksX8_allWhole_0 21 rfl rfl)
theorem dX8_allWhole_22 : decode cX8_allWhole 22 = .ok (.iconst 1, 1) := dk_4 (dk_at dksX8_allWhole_0 22 rfl rfl)
theorem dX8_allWhole_23 : decode cX8_allWhole 23 = .ok (.invokestatic 124, 3) := dk_184 0 124 (dk_at dksX8_allWhole_1 0 rfl rfl)
theorem dX8_allWhole_26 : decode cX8_allWhole 26 = .ok (.ifCond .ne 10, 3) := dk_154 0 10 (dk_at dksX8_allWhole_1 3 rfl rfl)
theorem dX8_allWhole_29 : decode cX8_allWhole 29 = .ok (.aload_n 0, 1) := dk_42 (dk_at dksX8_allWhole_1 6 rfl rfl)
theorem dX8_allWhole_30 : decode cX8_allWhole 30 = .ok (.iconst 2, 1) := dk_5 (dk_at dksX8_allWhole_1 7 rfl rfl)
theorem dX8_allWhole_31 : decode cX8_allWhole 31 = .ok (.invokevirtual 51, 3) := dk_182 0 51 (dk_at dksX8_allWhole_1 8 rfl rfl)
theorem dX8_allWhole_34 : decode cX8_allWhole 34 = .ok (.i2l, 1) := dk_133 (dk_at dksX8_allWhole_1 11 rfl rfl)
theorem dX8_allWhole_35 : decode cX8_allWhole 35 = .ok (.lreturn, 1) := dk_173 (dk_at dksX8_allWhole_1 12 rfl rfl)
theorem dX8_allWhole_36 : decode cX8_allWhole 36 = .ok (.lconst 1, 1) := dk_10 (dk_at dksX8_allWhole_1 13 rfl rfl)
theorem dX8_allWhole_37 : decode cX8_allWhole 37 = .ok (.lstore 4, 2) := dk_55 4 (dk_at dksX8_allWhole_1 14 rfl rfl)
theorem dX8_allWhole_39 : decode cX8_allWhole 39 = .ok (.lconst 1, 1) := dk_10 (dk_at dksX8_allWhole_1 16 rfl rfl)
theorem dX8_allWhole_40 : decode cX8_allWhole 40 = .ok (.lstore 6, 2) := dk_55 6 (dk_at dksX8_allWhole_1 17 rfl rfl)
theorem dX8_allWhole_42 : decode cX8_allWhole 42 = .ok (.iconst 0, 1) := dk_3 (dk_at dksX8_allWhole_1 19 rfl rfl)
theorem dX8_allWhole_43 : decode cX8_allWhole 43 = .ok (.istore 8, 2) := dk_54 8 (dk_at dksX8_allWhole_1 20 rfl rfl)
theorem dX8_allWhole_45 : decode cX8_allWhole 45 = .ok (.iload 8, 2) := dk_21 8 (dk_at dksX8_allWhole_1 22 rfl rfl)
theorem dX8_allWhole_47 : decode cX8_allWhole 47 = .ok (.aload_n 0, 1) := dk_42 (dk_at dksX8_allWhole_2 0 rfl rfl)
theorem dX8_allWhole_48 : decode cX8_allWhole 48 = .ok (.getfield 316, 3) := dk_180 1 60 (dk_at dksX8_allWhole_2 1 rfl rfl)
theorem dX8_allWhole_51 : decode cX8_allWhole 51 = .ok (.getfield 194, 3) := dk_180 0 194 (dk_at dksX8_allWhole_2 4 rfl rfl)
theorem dX8_allWhole_54 : decode cX8_allWhole 54 = .ok (.if_icmp .ge 52, 3) := dk_162 0 52 (dk_at dksX8_allWhole_2 7 rfl rfl)
theorem dX8_allWhole_57 : decode cX8_allWhole 57 = .ok (.aload_n 0, 1) := dk_42 (dk_at dksX8_allWhole_2 10 rfl rfl)
theorem dX8_allWhole_58 : decode cX8_allWhole 58 = .ok (.getfield 17, 3) := dk_180 0 17 (dk_at dksX8_allWhole_2 11 rfl rfl)
theorem dX8_allWhole_61 : decode cX8_allWhole 61 = .ok (.iconst 0, 1) := dk_3 (dk_at dksX8_allWhole_2 14 rfl rfl)
theorem dX8_allWhole_62 : decode cX8_allWhole 62 = .ok (.iload 8, 2) := dk_21 8 (dk_at dksX8_allWhole_2 15 rfl rfl)
theorem dX8_allWhole_64 : decode cX8_allWhole 64 = .ok (.iadd, 1) := dk_96 (dk_at dksX8_allWhole_2 17 rfl rfl)
theorem dX8_allWhole_65 : decode cX8_allWhole 65 = .ok (.iaload, 1) := dk_46 (dk_at dksX8_allWhole_2 18 rfl rfl)
theorem dX8_allWhole_66 : decode cX8_allWhole 66 = .ok (.iload_n 1, 1) := dk_27 (dk_at dksX8_allWhole_2 19 rfl rfl)
theorem dX8_allWhole_67 : decode cX8_allWhole 67 = .ok (.if_icmp .eq 6, 3) := dk_159 0 6 (dk_at dksX8_allWhole_2 20 rfl rfl)
theorem dX8_allWhole_70 : decode cX8_allWhole 70 = .ok (.goto 30, 3) := dk_167 0 30 (dk_at dksX8_allWhole_3 0 rfl rfl)
theorem dX8_allWhole_73 : decode cX8_allWhole 73 = .ok (.lload 4, 2) := dk_22 4 (dk_at dksX8_allWhole_3 3 rfl rfl)
theorem dX8_allWhole_75 : decode cX8_allWhole 75 = .ok (.aload_n 0, 1) := dk_42 (dk_at dksX8_allWhole_3 5 rfl rfl)
theorem dX8_allWhole_76 : decode cX8_allWhole 76 = .ok (.iload 8, 2) := dk_21 8 (dk_at dksX8_allWhole_3 6 rfl rfl)
theorem dX8_allWhole_78 : decode cX8_allWhole 78 = .ok (.invokevirtual 441, 3) := dk_182 1 185 (dk_at dksX8_allWhole_3 8 rfl rfl)
theorem dX8_allWhole_81 : decode cX8_allWhole 81 = .ok (.iload_n 2, 1) := dk_28 (dk_at dksX8_allWhole_3 11 rfl rfl)
theorem dX8_allWhole_82 : decode cX8_allWhole 82 = .ok (.invokestatic 445, 3) := dk_184 1 189 (dk_at dksX8_allWhole_3 12 rfl rfl)
theorem dX8_allWhole_85 : decode cX8_allWhole 85 = .ok (.lmul, 1) := dk_105 (dk_at dksX8_allWhole_3 15 rfl rfl)
theorem dX8_allWhole_86 : decode cX8_allWhole 86 = .ok (.lstore 4, 2) := dk_55 4 (dk_at dksX8_allWhole_3 16 rfl rfl)
theorem dX8_allWhole_88 : decode cX8_allWhole 88 = .ok (.lload 6, 2) := dk_22 6 (dk_at dksX8_allWhole_3 18 rfl rfl)
theorem dX8_allWhole_90 : decode cX8_allWhole 90 = .ok (.ldc2_w 439, 3) := dk_20 1 183 (dk_at dksX8_allWhole_3 20 rfl rfl)
theorem dX8_allWhole_93 : decode cX8_allWhole 93 = .ok (.iload_n 2, 1) := dk_28 (dk_at dksX8_allWhole_3 23 rfl rfl)
theorem dX8_allWhole_94 : decode cX8_allWhole 94 = .ok (.invokestatic 445, 3) := dk_184 1 189 (dk_at dksX8_allWhole_4 0 rfl rfl)
theorem dX8_allWhole_97 : decode cX8_allWhole 97 = .ok (.lmul, 1) := dk_105 (dk_at dksX8_allWhole_4 3 rfl rfl)
theorem dX8_allWhole_98 : decode cX8_allWhole 98 = .ok (.lstore 6, 2) := dk_55 6 (dk_at dksX8_allWhole_4 4 rfl rfl)
theorem dX8_allWhole_100 : decode cX8_allWhole 100 = .ok (.iinc 8 1, 3) := dk_132 8 1 (dk_at dksX8_allWhole_4 6 rfl rfl)
theorem dX8_allWhole_103 : decode cX8_allWhole 103 = .ok (.goto (-58), 3) := dk_167 255 198 (dk_at dksX8_allWhole_4 9 rfl rfl)
theorem dX8_allWhole_106 : decode cX8_allWhole 106 = .ok (.aload_n 0, 1) := dk_42 (dk_at dksX8_allWhole_4 12 rfl rfl)
theorem dX8_allWhole_107 : decode cX8_allWhole 107 = .ok (.lload 4, 2) := dk_22 4 (dk_at dksX8_allWhole_4 13 rfl rfl)
theorem dX8_allWhole_109 : decode cX8_allWhole 109 = .ok (.lload 6, 2) := dk_22 6 (dk_at dksX8_allWhole_4 15 rfl rfl)
theorem dX8_allWhole_111 : decode cX8_allWhole 111 = .ok (.iload_n 3, 1) := dk_29 (dk_at dksX8_allWhole_4 17 rfl rfl)
theorem dX8_allWhole_112 : decode cX8_allWhole 112 = .ok (.invokevirtual 449, 3) := dk_182 1 193 (dk_at dksX8_allWhole_4 18 rfl rfl)
theorem dX8_allWhole_115 : decode cX8_allWhole 115 = .ok (.lreturn, 1) := dk_173 (dk_at dksX8_allWhole_4 21 rfl rfl)
abbrev cX8_divided : ByteArray := prog_26_method_102_code
def yX8_divided : MethodName := ⟨RX8, "divided", "(III)I"⟩
def dkwX8_divided_3 : List UInt8 := [180, 1, 17, 27, 46, 28, 112, 162, 0, 7, 4, 167, 0, 4, 3, 96, 182, 0, 55, 172]
abbrev dktX8_divided_3 : List UInt8 := dkwX8_divided_3 ++ []
def dkwX8_divided_2 : List UInt8 := [4, 182, 0, 51, 172, 42, 42, 180, 1, 60, 180, 1, 17, 27, 46, 28, 108, 29, 42, 180, 1, 60]
abbrev dktX8_divided_2 : List UInt8 := dkwX8_divided_2 ++ dktX8_divided_3
def dkwX8_divided_1 : List UInt8 := [184, 0, 124, 154, 0, 9, 42, 5, 182, 0, 51, 172, 29, 3, 28, 4, 100, 184, 0, 124, 154, 0, 9, 42]
abbrev dktX8_divided_1 : List UInt8 := dkwX8_divided_1 ++ dktX8_divided_2
def dkwX8_divided_0 : List UInt8 := [42, 3, 181, 0, 45, 42, 27, 182, 1, 103, 154, 0, 9, 42, 4, 182, 0, 51, 172, 28, 4, 16, 9]
abbrev dktX8_divided_0 : List UInt8 := dkwX8_divided_0 ++ dktX8_divided_1
theorem dksX8_divided_0 : cX8_divided.data.toList.drop 0 = dktX8_divided_0 := by decide +kernel
theorem dksX8_divided_1 : cX8_divided.data.toList.drop 23 = dktX8_divided_1 := dk_seg dksX8_divided_0 23 rfl rfl
theorem dksX8_divided_2 : cX8_divided.data.toList.drop 47 = dktX8_divided_2 := dk_seg dksX8_divided_1 24 rfl rfl
theorem dksX8_divided_3 : cX8_divided.data.toList.drop 69 = dktX8_divided_3 := dk_seg dksX8_divided_2 22 rfl rfl
theorem dX8_divided_0 : decode cX8_divided 0 = .ok (.aload_n 0, 1) := dk_42 (dk_at dksX8_divided_0 0 rfl rfl)
theorem dX8_divided_1 : decode cX8_divided 1 = .ok (.iconst 0, 1) := dk_3 (dk_at dksX8_divided_0 1 rfl rfl)
theorem dX8_divided_2 : decode cX8_divided 2 = .ok (.putfield 45, 3) := dk_181 0 45 (dk_at dksX8_divided_0 2 rfl rfl)
theorem dX8_divided_5 : decode cX8_divided 5 = .ok (.aload_n 0, 1) := dk_42 (dk_at dksX8_divided_0 5 rfl rfl)
theorem dX8_divided_6 : decode cX8_divided 6 = .ok (.iload_n 1, 1) := dk_27 (dk_at dksX8_divided_0 6 rfl rfl)
theorem dX8_divided_7 : decode cX8_divided 7 = .ok (.invokevirtual 359, 3) := dk_182 1 103 (dk_at dksX8_divided_0 7 rfl rfl)
theorem dX8_divided_10 : decode cX8_divided 10 = .ok (.ifCond .ne 9, 3) := dk_154 0 9 (dk_at dksX8_divided_0 10 rfl rfl)
theorem dX8_divided_13 : decode cX8_divided 13 = .ok (.aload_n 0, 1) := dk_42 (dk_at dksX8_divided_0 13 rfl rfl)
theorem dX8_divided_14 : decode cX8_divided 14 = .ok (.iconst 1, 1) := dk_4 (dk_at dksX8_divided_0 14 rfl rfl)
theorem dX8_divided_15 : decode cX8_divided 15 = .ok (.invokevirtual 51, 3) := dk_182 0 51 (dk_at dksX8_divided_0 15 rfl rfl)
theorem dX8_divided_18 : decode cX8_divided 18 = .ok (.ireturn, 1) := dk_172 (dk_at dksX8_divided_0 18 rfl rfl)
theorem dX8_divided_19 : decode cX8_divided 19 = .ok (.iload_n 2, 1) := dk_28 (dk_at dksX8_divided_0 19 rfl rfl)
theorem dX8_divided_20 : decode cX8_divided 20 = .ok (.iconst 1, 1) := dk_4 (dk_at dksX8_divided_0 20 rfl rfl)
theorem dX8_divided_21 : decode cX8_divided 21 = .ok (.bipush 9, 2) := dk_16 9 (dk_at dksX8_divided_0 21 rfl rfl)
theorem dX8_divided_23 : decode cX8_divided 23 = .ok (.invokestatic 124, 3) := dk_184 0 124 (dk_at dksX8_divided_1 0 rfl rfl)
theorem dX8_divided_26 : decode cX8_divided 26 = .ok (.ifCond .ne 9, 3) := dk_154 0 9 (dk_at dksX8_divided_1 3 rfl rfl)
theorem dX8_divided_29 : decode cX8_divided 29 = .ok (.aload_n 0, 1) := dk_42 (dk_at dksX8_divided_1 6 rfl rfl)
theorem dX8_divided_30 : decode cX8_divided 30 = .ok (.iconst 2, 1) := dk_5 (dk_at dksX8_divided_1 7 rfl rfl)
theorem dX8_divided_31 : decode cX8_divided 31 = .ok (.invokevirtual 51, 3) := dk_182 0 51 (dk_at dksX8_divided_1 8 rfl rfl)
theorem dX8_divided_34 : decode cX8_divided 34 = .ok (.ireturn, 1) := dk_172 (dk_at dksX8_divided_1 11 rfl rfl)
theorem dX8_divided_35 : decode cX8_divided 35 = .ok (.iload_n 3, 1) := dk_29 (dk_at dksX8_divided_1 12 rfl rfl)
theorem dX8_divided_36 : decode cX8_divided 36 = .ok (.iconst 0, 1) := dk_3 (dk_at dksX8_divided_1 13 rfl rfl)
theorem dX8_divided_37 : decode cX8_divided 37 = .ok (.iload_n 2, 1) := dk_28 (dk_at dksX8_divided_1 14 rfl rfl)
theorem dX8_divided_38 : decode cX8_divided 38 = .ok (.iconst 1, 1) := dk_4 (dk_at dksX8_divided_1 15 rfl rfl)
theorem dX8_divided_39 : decode cX8_divided 39 = .ok (.isub, 1) := dk_100 (dk_at dksX8_divided_1 16 rfl rfl)
theorem dX8_divided_40 : decode cX8_divided 40 = .ok (.invokestatic 124, 3) := dk_184 0 124 (dk_at dksX8_divided_1 17 rfl rfl)
theorem dX8_divided_43 : decode cX8_divided 43 = .ok (.ifCond .ne 9, 3) := dk_154 0 9 (dk_at dksX8_divided_1 20 rfl rfl)
theorem dX8_divided_46 : decode cX8_divided 46 = .ok (.aload_n 0, 1) := dk_42 (dk_at dksX8_divided_1 23 rfl rfl)
theorem dX8_divided_47 : decode cX8_divided 47 = .ok (.iconst 1, 1) := dk_4 (dk_at dksX8_divided_2 0 rfl rfl)
theorem dX8_divided_48 : decode cX8_divided 48 = .ok (.invokevirtual 51, 3) := dk_182 0 51 (dk_at dksX8_divided_2 1 rfl rfl)
theorem dX8_divided_51 : decode cX8_divided 51 = .ok (.ireturn, 1) := dk_172 (dk_at dksX8_divided_2 4 rfl rfl)
theorem dX8_divided_52 : decode cX8_divided 52 = .ok (.aload_n 0, 1) := dk_42 (dk_at dksX8_divided_2 5 rfl rfl)
theorem dX8_divided_53 : decode cX8_divided 53 = .ok (.aload_n 0, 1) := dk_42 (dk_at dksX8_divided_2 6 rfl rfl)
theorem dX8_divided_54 : decode cX8_divided 54 = .ok (.getfield 316, 3) := dk_180 1 60 (dk_at dksX8_divided_2 7 rfl rfl)
theorem dX8_divided_57 : decode cX8_divided 57 = .ok (.getfield 273, 3) := dk_180 1 17 (dk_at dksX8_divided_2 10 rfl rfl)
theorem dX8_divided_60 : decode cX8_divided 60 = .ok (.iload_n 1, 1) := dk_27 (dk_at dksX8_divided_2 13 rfl rfl)
theorem dX8_divided_61 : decode cX8_divided 61 = .ok (.iaload, 1) := dk_46 (dk_at dksX8_divided_2 14 rfl rfl)
theorem dX8_divided_62 : decode cX8_divided 62 = .ok (.iload_n 2, 1) := dk_28 (dk_at dksX8_divided_2 15 rfl rfl)
theorem dX8_divided_63 : decode cX8_divided 63 = .ok (.idiv, 1) := dk_108 (dk_at dksX8_divided_2 16 rfl rfl)
theorem dX8_divided_64 : decode cX8_divided 64 = .ok (.iload_n 3, 1) := dk_29 (dk_at dksX8_divided_2 17 rfl rfl)
theorem dX8_divided_65 : decode cX8_divided 65 = .ok (.aload_n 0, 1) := dk_42 (dk_at dksX8_divided_2 18 rfl rfl)
theorem dX8_divided_66 : decode cX8_divided 66 = .ok (.getfield 316, 3) := dk_180 1 60 (dk_at dksX8_divided_2 19 rfl rfl)
theorem dX8_divided_69 : decode cX8_divided 69 = .ok (.getfield 273, 3) := dk_180 1 17 (dk_at dksX8_divided_3 0 rfl rfl)
theorem dX8_divided_72 : decode cX8_divided 72 = .ok (.iload_n 1, 1) := dk_27 (dk_at dksX8_divided_3 3 rfl rfl)
theorem dX8_divided_73 : decode cX8_divided 73 = .ok (.iaload, 1) := dk_46 (dk_at dksX8_divided_3 4 rfl rfl)
theorem dX8_divided_74 : decode cX8_divided 74 = .ok (.iload_n 2, 1) := dk_28 (dk_at dksX8_divided_3 5 rfl rfl)
theorem dX8_divided_75 : decode cX8_divided 75 = .ok (.irem, 1) := dk_112 (dk_at dksX8_divided_3 6 rfl rfl)
theorem dX8_divided_76 : decode cX8_divided 76 = .ok (.if_icmp .ge 7, 3) := dk_162 0 7 (dk_at dksX8_divided_3 7 rfl rfl)
theorem dX8_divided_79 : decode cX8_divided 79 = .ok (.iconst 1, 1) := dk_4 (dk_at dksX8_divided_3 10 rfl rfl)
theorem dX8_divided_80 : decode cX8_divided 80 = .ok (.goto 4, 3) := dk_167 0 4 (dk_at dksX8_divided_3 11 rfl rfl)
theorem dX8_divided_83 : decode cX8_divided 83 = .ok (.iconst 0, 1) := dk_3 (dk_at dksX8_divided_3 14 rfl rfl)
theorem dX8_divided_84 : decode cX8_divided 84 = .ok (.iadd, 1) := dk_96 (dk_at dksX8_divided_3 15 rfl rfl)
theorem dX8_divided_85 : decode cX8_divided 85 = .ok (.invokevirtual 55, 3) := dk_182 0 55 (dk_at dksX8_divided_3 16 rfl rfl)
theorem dX8_divided_88 : decode cX8_divided 88 = .ok (.ireturn, 1) := dk_172 (dk_at dksX8_divided_3 19 rfl rfl)
abbrev cX8_heirs : ByteArray := prog_26_method_104_code
def yX8_heirs : MethodName := ⟨RX8, "heirs", "(IIIZ)I"⟩
def dkwX8_heirs_3 : List UInt8 := [27, 28, 29, 184, 1, 200, 182, 0, 55, 172]
abbrev dktX8_heirs_3 : List UInt8 := dkwX8_heirs_3 ++ []
def dkwX8_heirs_2 : List UInt8 := [154, 0, 9, 42, 5, 182, 1, 197, 172, 42, 21, 4, 153, 0, 12, 27, 29, 28, 184, 1, 200, 167, 0, 9]
abbrev dktX8_heirs_2 : List UInt8 := dkwX8_heirs_2 ++ dktX8_heirs_3
def dkwX8_heirs_1 : List UInt8 := [184, 0, 124, 153, 0, 23, 28, 3, 16, 6, 184, 0, 124, 153, 0, 13, 29, 3, 16, 6, 184, 0, 124]
abbrev dktX8_heirs_1 : List UInt8 := dkwX8_heirs_1 ++ dktX8_heirs_2
def dkwX8_heirs_0 : List UInt8 := [42, 3, 181, 0, 45, 42, 180, 1, 60, 199, 0, 9, 42, 4, 182, 1, 197, 172, 27, 3, 16, 99]
abbrev dktX8_heirs_0 : List UInt8 := dkwX8_heirs_0 ++ dktX8_heirs_1
theorem dksX8_heirs_0 : cX8_heirs.data.toList.drop 0 = dktX8_heirs_0 := by decide +kernel
theorem dksX8_heirs_1 : cX8_heirs.data.toList.drop 22 = dktX8_heirs_1 := dk_seg dksX8_heirs_0 22 rfl rfl
theorem dksX8_heirs_2 : cX8_heirs.data.toList.drop 45 = dktX8_heirs_2 := dk_seg dksX8_heirs_1 23 rfl rfl
theorem dksX8_heirs_3 : cX8_heirs.data.toList.drop 69 = dktX8_heirs_3 := dk_seg dksX8_heirs_2 24 rfl rfl
theorem dX8_heirs_0 : decode cX8_heirs 0 = .ok (.aload_n 0, 1) := dk_42 (dk_at dksX8_heirs_0 0 rfl rfl)
theorem dX8_heirs_1 : decode cX8_heirs 1 = .ok (.iconst 0, 1) := dk_3 (dk_at dksX8_heirs_0 1 rfl rfl)
theorem dX8_heirs_2 : decode cX8_heirs 2 = .ok (.putfield 45, 3) := dk_181 0 45 (dk_at dksX8_heirs_0 2 rfl rfl)
theorem dX8_heirs_5 : decode cX8_heirs 5 = .ok (.aload_n 0, 1) := dk_42 (dk_at dksX8_heirs_0 5 rfl rfl)
theorem dX8_heirs_6 : decode cX8_heirs 6 = .ok (.getfield 316, 3) := dk_180 1 60 (dk_at dksX8_heirs_0 6 rfl rfl)
theorem dX8_heirs_9 : decode cX8_heirs 9 = .ok (.ifnonnull 9, 3) := dk_199 0 9 (dk_at dksX8_heirs_0 9 rfl rfl)
theorem dX8_heirs_12 : decode cX8_heirs 12 = .ok (.aload_n 0, 1) := dk_42 (dk_at dksX8_heirs_0 12 rfl rfl)
theorem dX8_heirs_13 : decode cX8_heirs 13 = .ok (.iconst 1, 1) := dk_4 (dk_at dksX8_heirs_0 13 rfl rfl)
theorem dX8_heirs_14 : decode cX8_heirs 14 = .ok (.invokevirtual 453, 3) := dk_182 1 197 (dk_at dksX8_heirs_0 14 rfl rfl)
theorem dX8_heirs_17 : decode cX8_heirs 17 = .ok (.ireturn, 1) := dk_172 (dk_at dksX8_heirs_0 17 rfl rfl)
theorem dX8_heirs_18 : decode cX8_heirs 18 = .ok (.iload_n 1, 1) := dk_27 (dk_at dksX8_heirs_0 18 rfl rfl)
theorem dX8_heirs_19 : decode cX8_heirs 19 = .ok (.iconst 0, 1) := dk_3 (dk_at dksX8_heirs_0 19 rfl rfl)
theorem dX8_heirs_20 : decode cX8_heirs 20 = .ok (.bipush 99, 2) := dk_16 99 (dk_at dksX8_heirs_0 20 rfl rfl)
theorem dX8_heirs_22 : decode cX8_heirs 22 = .ok (.invokestatic 124, 3) := dk_184 0 124 (dk_at dksX8_heirs_1 0 rfl rfl)
theorem dX8_heirs_25 : decode cX8_heirs 25 = .ok (.ifCond .eq 23, 3) := dk_153 0 23 (dk_at dksX8_heirs_1 3 rfl rfl)
theorem dX8_heirs_28 : decode cX8_heirs 28 = .ok (.iload_n 2, 1) := dk_28 (dk_at dksX8_heirs_1 6 rfl rfl)
theorem dX8_heirs_29 : decode cX8_heirs 29 = .ok (.iconst 0, 1) := dk_3 (dk_at dksX8_heirs_1 7 rfl rfl)
theorem dX8_heirs_30 : decode cX8_heirs 30 = .ok (.bipush 6, 2) := dk_16 6 (dk_at dksX8_heirs_1 8 rfl rfl)
theorem dX8_heirs_32 : decode cX8_heirs 32 = .ok (.invokestatic 124, 3) := dk_184 0 124 (dk_at dksX8_heirs_1 10 rfl rfl)
theorem dX8_heirs_35 : decode cX8_heirs 35 = .ok (.ifCond .eq 13, 3) := dk_153 0 13 (dk_at dksX8_heirs_1 13 rfl rfl)
theorem dX8_heirs_38 : decode cX8_heirs 38 = .ok (.iload_n 3, 1) := dk_29 (dk_at dksX8_heirs_1 16 rfl rfl)
theorem dX8_heirs_39 : decode cX8_heirs 39 = .ok (.iconst 0, 1) := dk_3 (dk_at dksX8_heirs_1 17 rfl rfl)
theorem dX8_heirs_40 : decode cX8_heirs 40 = .ok (.bipush 6, 2) := dk_16 6 (dk_at dksX8_heirs_1 18 rfl rfl)
theorem dX8_heirs_42 : decode cX8_heirs 42 = .ok (.invokestatic 124, 3) := dk_184 0 124 (dk_at dksX8_heirs_1 20 rfl rfl)
theorem dX8_heirs_45 : decode cX8_heirs 45 = .ok (.ifCond .ne 9, 3) := dk_154 0 9 (dk_at dksX8_heirs_2 0 rfl rfl)
theorem dX8_heirs_48 : decode cX8_heirs 48 = .ok (.aload_n 0, 1) := dk_42 (dk_at dksX8_heirs_2 3 rfl rfl)
theorem dX8_heirs_49 : decode cX8_heirs 49 = .ok (.iconst 2, 1) := dk_5 (dk_at dksX8_heirs_2 4 rfl rfl)
theorem dX8_heirs_50 : decode cX8_heirs 50 = .ok (.invokevirtual 453, 3) := dk_182 1 197 (dk_at dksX8_heirs_2 5 rfl rfl)
theorem dX8_heirs_53 : decode cX8_heirs 53 = .ok (.ireturn, 1) := dk_172 (dk_at dksX8_heirs_2 8 rfl rfl)
theorem dX8_heirs_54 : decode cX8_heirs 54 = .ok (.aload_n 0, 1) := dk_42 (dk_at dksX8_heirs_2 9 rfl rfl)
theorem dX8_heirs_55 : decode cX8_heirs 55 = .ok (.iload 4, 2) := dk_21 4 (dk_at dksX8_heirs_2 10 rfl rfl)
theorem dX8_heirs_57 : decode cX8_heirs 57 = .ok (.ifCond .eq 12, 3) := dk_153 0 12 (dk_at dksX8_heirs_2 12 rfl rfl)
theorem dX8_heirs_60 : decode cX8_heirs 60 = .ok (.iload_n 1, 1) := dk_27 (dk_at dksX8_heirs_2 15 rfl rfl)
theorem dX8_heirs_61 : decode cX8_heirs 61 = .ok (.iload_n 3, 1) := dk_29 (dk_at dksX8_heirs_2 16 rfl rfl)
theorem dX8_heirs_62 : decode cX8_heirs 62 = .ok (.iload_n 2, 1) := dk_28 (dk_at dksX8_heirs_2 17 rfl rfl)
theorem dX8_heirs_63 : decode cX8_heirs 63 = .ok (.invokestatic 456, 3) := dk_184 1 200 (dk_at dksX8_heirs_2 18 rfl rfl)
theorem dX8_heirs_66 : decode cX8_heirs 66 = .ok (.goto 9, 3) := dk_167 0 9 (dk_at dksX8_heirs_2 21 rfl rfl)
theorem dX8_heirs_69 : decode cX8_heirs 69 = .ok (.iload_n 1, 1) := dk_27 (dk_at dksX8_heirs_3 0 rfl rfl)
theorem dX8_heirs_70 : decode cX8_heirs 70 = .ok (.iload_n 2, 1) := dk_28 (dk_at dksX8_heirs_3 1 rfl rfl)
theorem dX8_heirs_71 : decode cX8_heirs 71 = .ok (.iload_n 3, 1) := dk_29 (dk_at dksX8_heirs_3 2 rfl rfl)
theorem dX8_heirs_72 : decode cX8_heirs 72 = .ok (.invokestatic 456, 3) := dk_184 1 200 (dk_at dksX8_heirs_3 3 rfl rfl)
theorem dX8_heirs_75 : decode cX8_heirs 75 = .ok (.invokevirtual 55, 3) := dk_182 0 55 (dk_at dksX8_heirs_3 6 rfl rfl)
theorem dX8_heirs_78 : decode cX8_heirs 78 = .ok (.ireturn, 1) := dk_172 (dk_at dksX8_heirs_3 9 rfl rfl)
abbrev cX8_lost : ByteArray := prog_26_method_4_code
def yX8_lost : MethodName := ⟨RX8, "lost", "(I)I"⟩
def dkwX8_lost_0 : List UInt8 := [42, 27, 182, 0, 51, 87, 16, 156, 172]
abbrev dktX8_lost_0 : List UInt8 := dkwX8_lost_0 ++ []
theorem dksX8_lost_0 : cX8_lost.data.toList.drop 0 = dktX8_lost_0 := by decide +kernel
theorem dX8_lost_0 : decode cX8_lost 0 = .ok (.aload_n 0, 1) := dk_42 (dk_at dksX8_lost_0 0 rfl rfl)
theorem dX8_lost_1 : decode cX8_lost 1 = .ok (.iload_n 1, 1) := dk_27 (dk_at dksX8_lost_0 1 rfl rfl)
theorem dX8_lost_2 : decode cX8_lost 2 = .ok (.invokevirtual 51, 3) := dk_182 0 51 (dk_at dksX8_lost_0 2 rfl rfl)
theorem dX8_lost_5 : decode cX8_lost 5 = .ok (.pop, 1) := dk_87 (dk_at dksX8_lost_0 5 rfl rfl)
theorem dX8_lost_6 : decode cX8_lost 6 = .ok (.bipush (-100), 2) := dk_16 156 (dk_at dksX8_lost_0 6 rfl rfl)
theorem dX8_lost_8 : decode cX8_lost 8 = .ok (.ireturn, 1) := dk_172 (dk_at dksX8_lost_0 8 rfl rfl)
abbrev cX8_gets : ByteArray := prog_26_method_103_code
def yX8_gets : MethodName := ⟨RX8, "gets", "(III)I"⟩
def dkwX8_gets_1 : List UInt8 := [100, 172]
abbrev dktX8_gets_1 : List UInt8 := dkwX8_gets_1 ++ []
def dkwX8_gets_0 : List UInt8 := [27, 28, 164, 0, 7, 26, 167, 0, 15, 27, 28, 160, 0, 9, 26, 5, 108, 167, 0, 4, 3, 5, 27, 104]
abbrev dktX8_gets_0 : List UInt8 := dkwX8_gets_0 ++ dktX8_gets_1
theorem dksX8_gets_0 : cX8_gets.data.toList.drop 0 = dktX8_gets_0 := by decide +kernel
theorem dksX8_gets_1 : cX8_gets.data.toList.drop 24 = dktX8_gets_1 := dk_seg dksX8_gets_0 24 rfl rfl
theorem dX8_gets_0 : decode cX8_gets 0 = .ok (.iload_n 1, 1) := dk_27 (dk_at dksX8_gets_0 0 rfl rfl)
theorem dX8_gets_1 : decode cX8_gets 1 = .ok (.iload_n 2, 1) := dk_28 (dk_at dksX8_gets_0 1 rfl rfl)
theorem dX8_gets_2 : decode cX8_gets 2 = .ok (.if_icmp .le 7, 3) := dk_164 0 7 (dk_at dksX8_gets_0 2 rfl rfl)
theorem dX8_gets_5 : decode cX8_gets 5 = .ok (.iload_n 0, 1) := dk_26 (dk_at dksX8_gets_0 5 rfl rfl)
theorem dX8_gets_6 : decode cX8_gets 6 = .ok (.goto 15, 3) := dk_167 0 15 (dk_at dksX8_gets_0 6 rfl rfl)
theorem dX8_gets_9 : decode cX8_gets 9 = .ok (.iload_n 1, 1) := dk_27 (dk_at dksX8_gets_0 9 rfl rfl)
theorem dX8_gets_10 : decode cX8_gets 10 = .ok (.iload_n 2, 1) := dk_28 (dk_at dksX8_gets_0 10 rfl rfl)
theorem dX8_gets_11 : decode cX8_gets 11 = .ok (.if_icmp .ne 9, 3) := dk_160 0 9 (dk_at dksX8_gets_0 11 rfl rfl)
theorem dX8_gets_14 : decode cX8_gets 14 = .ok (.iload_n 0, 1) := dk_26 (dk_at dksX8_gets_0 14 rfl rfl)
theorem dX8_gets_15 : decode cX8_gets 15 = .ok (.iconst 2, 1) := dk_5 (dk_at dksX8_gets_0 15 rfl rfl)
theorem dX8_gets_16 : decode cX8_gets 16 = .ok (.idiv, 1) := dk_108 (dk_at dksX8_gets_0 16 rfl rfl)
theorem dX8_gets_17 : decode cX8_gets 17 = .ok (.goto 4, 3) := dk_167 0 4 (dk_at dksX8_gets_0 17 rfl rfl)
theorem dX8_gets_20 : decode cX8_gets 20 = .ok (.iconst 0, 1) := dk_3 (dk_at dksX8_gets_0 20 rfl rfl)
theorem dX8_gets_21 : decode cX8_gets 21 = .ok (.iconst 2, 1) := dk_5 (dk_at dksX8_gets_0 21 rfl rfl)
theorem dX8_gets_22 : decode cX8_gets 22 = .ok (.iload_n 1, 1) := dk_27 (dk_at dksX8_gets_0 22 rfl rfl)
theorem dX8_gets_23 : decode cX8_gets 23 = .ok (.imul, 1) := dk_104 (dk_at dksX8_gets_0 23 rfl rfl)
theorem dX8_gets_24 : decode cX8_gets 24 = .ok (.isub, 1) := dk_100 (dk_at dksX8_gets_1 0 rfl rfl)
theorem dX8_gets_25 : decode cX8_gets 25 = .ok (.ireturn, 1) := dk_172 (dk_at dksX8_gets_1 1 rfl rfl)
abbrev cX8_rests : ByteArray := prog_26_method_107_code
def yX8_rests : MethodName := ⟨RX8, "rests", "(I)I"⟩
def dkwX8_rests_2 : List UInt8 := [153, 0, 7, 4, 167, 0, 4, 3, 96, 62, 132, 4, 1, 167, 255, 221, 42, 29, 182, 0, 55, 172]
abbrev dktX8_rests_2 : List UInt8 := dkwX8_rests_2 ++ []
def dkwX8_rests_1 : List UInt8 := [54, 4, 21, 4, 16, 49, 162, 0, 34, 29, 27, 21, 4, 16, 7, 108, 21, 4, 16, 7, 112, 184, 1, 206]
abbrev dktX8_rests_1 : List UInt8 := dkwX8_rests_1 ++ dktX8_rests_2
def dkwX8_rests_0 : List UInt8 := [42, 3, 181, 0, 45, 42, 27, 182, 1, 203, 61, 28, 158, 0, 9, 42, 28, 182, 0, 51, 172, 3, 62, 3]
abbrev dktX8_rests_0 : List UInt8 := dkwX8_rests_0 ++ dktX8_rests_1
theorem dksX8_rests_0 : cX8_rests.data.toList.drop 0 = dktX8_rests_0 := by decide +kernel
theorem dksX8_rests_1 : cX8_rests.data.toList.drop 24 = dktX8_rests_1 := dk_seg dksX8_rests_0 24 rfl rfl
theorem dksX8_rests_2 : cX8_rests.data.toList.drop 48 = dktX8_rests_2 := dk_seg dksX8_rests_1 24 rfl rfl
theorem dX8_rests_0 : decode cX8_rests 0 = .ok (.aload_n 0, 1) := dk_42 (dk_at dksX8_rests_0 0 rfl rfl)
theorem dX8_rests_1 : decode cX8_rests 1 = .ok (.iconst 0, 1) := dk_3 (dk_at dksX8_rests_0 1 rfl rfl)
theorem dX8_rests_2 : decode cX8_rests 2 = .ok (.putfield 45, 3) := dk_181 0 45 (dk_at dksX8_rests_0 2 rfl rfl)
theorem dX8_rests_5 : decode cX8_rests 5 = .ok (.aload_n 0, 1) := dk_42 (dk_at dksX8_rests_0 5 rfl rfl)
theorem dX8_rests_6 : decode cX8_rests 6 = .ok (.iload_n 1, 1) := dk_27 (dk_at dksX8_rests_0 6 rfl rfl)
theorem dX8_rests_7 : decode cX8_rests 7 = .ok (.invokevirtual 459, 3) := dk_182 1 203 (dk_at dksX8_rests_0 7 rfl rfl)
theorem dX8_rests_10 : decode cX8_rests 10 = .ok (.istore_n 2, 1) := dk_61 (dk_at dksX8_rests_0 10 rfl rfl)
theorem dX8_rests_11 : decode cX8_rests 11 = .ok (.iload_n 2, 1) := dk_28 (dk_at dksX8_rests_0 11 rfl rfl)
theorem dX8_rests_12 : decode cX8_rests 12 = .ok (.ifCond .le 9, 3) := dk_158 0 9 (dk_at dksX8_rests_0 12 rfl rfl)
theorem dX8_rests_15 : decode cX8_rests 15 = .ok (.aload_n 0, 1) := dk_42 (dk_at dksX8_rests_0 15 rfl rfl)
theorem dX8_rests_16 : decode cX8_rests 16 = .ok (.iload_n 2, 1) := dk_28 (dk_at dksX8_rests_0 16 rfl rfl)
theorem dX8_rests_17 : decode cX8_rests 17 = .ok (.invokevirtual 51, 3) := dk_182 0 51 (dk_at dksX8_rests_0 17 rfl rfl)
theorem dX8_rests_20 : decode cX8_rests 20 = .ok (.ireturn, 1) := dk_172 (dk_at dksX8_rests_0 20 rfl rfl)
theorem dX8_rests_21 : decode cX8_rests 21 = .ok (.iconst 0, 1) := dk_3 (dk_at dksX8_rests_0 21 rfl rfl)
theorem dX8_rests_22 : decode cX8_rests 22 = .ok (.istore_n 3, 1) := dk_62 (dk_at dksX8_rests_0 22 rfl rfl)
theorem dX8_rests_23 : decode cX8_rests 23 = .ok (.iconst 0, 1) := dk_3 (dk_at dksX8_rests_0 23 rfl rfl)
theorem dX8_rests_24 : decode cX8_rests 24 = .ok (.istore 4, 2) := dk_54 4 (dk_at dksX8_rests_1 0 rfl rfl)
theorem dX8_rests_26 : decode cX8_rests 26 = .ok (.iload 4, 2) := dk_21 4 (dk_at dksX8_rests_1 2 rfl rfl)
theorem dX8_rests_28 : decode cX8_rests 28 = .ok (.bipush 49, 2) := dk_16 49 (dk_at dksX8_rests_1 4 rfl rfl)
theorem dX8_rests_30 : decode cX8_rests 30 = .ok (.if_icmp .ge 34, 3) := dk_162 0 34 (dk_at dksX8_rests_1 6 rfl rfl)
theorem dX8_rests_33 : decode cX8_rests 33 = .ok (.iload_n 3, 1) := dk_29 (dk_at dksX8_rests_1 9 rfl rfl)
theorem dX8_rests_34 : decode cX8_rests 34 = .ok (.iload_n 1, 1) := dk_27 (dk_at dksX8_rests_1 10 rfl rfl)
theorem dX8_rests_35 : decode cX8_rests 35 = .ok (.iload 4, 2) := dk_21 4 (dk_at dksX8_rests_1 11 rfl rfl)
theorem dX8_rests_37 : decode cX8_rests 37 = .ok (.bipush 7, 2) := dk_16 7 (dk_at dksX8_rests_1 13 rfl rfl)
theorem dX8_rests_39 : decode cX8_rests 39 = .ok (.idiv, 1) := dk_108 (dk_at dksX8_rests_1 15 rfl rfl)
theorem dX8_rests_40 : decode cX8_rests 40 = .ok (.iload 4, 2) := dk_21 4 (dk_at dksX8_rests_1 16 rfl rfl)
theorem dX8_rests_42 : decode cX8_rests 42 = .ok (.bipush 7, 2) := dk_16 7 (dk_at dksX8_rests_1 18 rfl rfl)
theorem dX8_rests_44 : decode cX8_rests 44 = .ok (.irem, 1) := dk_112 (dk_at dksX8_rests_1 20 rfl rfl)
theorem dX8_rests_45 : decode cX8_rests 45 = .ok (.invokestatic 462, 3) := dk_184 1 206 (dk_at dksX8_rests_1 21 rfl rfl)
theorem dX8_rests_48 : decode cX8_rests 48 = .ok (.ifCond .eq 7, 3) := dk_153 0 7 (dk_at dksX8_rests_2 0 rfl rfl)
theorem dX8_rests_51 : decode cX8_rests 51 = .ok (.iconst 1, 1) := dk_4 (dk_at dksX8_rests_2 3 rfl rfl)
theorem dX8_rests_52 : decode cX8_rests 52 = .ok (.goto 4, 3) := dk_167 0 4 (dk_at dksX8_rests_2 4 rfl rfl)
theorem dX8_rests_55 : decode cX8_rests 55 = .ok (.iconst 0, 1) := dk_3 (dk_at dksX8_rests_2 7 rfl rfl)
theorem dX8_rests_56 : decode cX8_rests 56 = .ok (.iadd, 1) := dk_96 (dk_at dksX8_rests_2 8 rfl rfl)
theorem dX8_rests_57 : decode cX8_rests 57 = .ok (.istore_n 3, 1) := dk_62 (dk_at dksX8_rests_2 9 rfl rfl)
theorem dX8_rests_58 : decode cX8_rests 58 = .ok (.iinc 4 1, 3) := dk_132 4 1 (dk_at dksX8_rests_2 10 rfl rfl)
theorem dX8_rests_61 : decode cX8_rests 61 = .ok (.goto (-35), 3) := dk_167 255 221 (dk_at dksX8_rests_2 13 rfl rfl)
theorem dX8_rests_64 : decode cX8_rests 64 = .ok (.aload_n 0, 1) := dk_42 (dk_at dksX8_rests_2 16 rfl rfl)
theorem dX8_rests_65 : decode cX8_rests 65 = .ok (.iload_n 3, 1) := dk_29 (dk_at dksX8_rests_2 17 rfl rfl)
theorem dX8_rests_66 : decode cX8_rests 66 = .ok (.invokevirtual 55, 3) := dk_182 0 55 (dk_at dksX8_rests_2 18 rfl rfl)
theorem dX8_rests_69 : decode cX8_rests 69 = .ok (.ireturn, 1) := dk_172 (dk_at dksX8_rests_2 21 rfl rfl)
abbrev cX8_refusesRests : ByteArray := prog_26_method_106_code
def yX8_refusesRests : MethodName := ⟨RX8, "refusesRests", "(I)I"⟩
def dkwX8_refusesRests_1 : List UInt8 := [167, 0, 4, 5, 172]
abbrev dktX8_refusesRests_1 : List UInt8 := dkwX8_refusesRests_1 ++ []
def dkwX8_refusesRests_0 : List UInt8 := [42, 180, 1, 60, 199, 0, 7, 4, 167, 0, 18, 27, 3, 16, 99, 184, 0, 124, 153, 0, 7, 3]
abbrev dktX8_refusesRests_0 : List UInt8 := dkwX8_refusesRests_0 ++ dktX8_refusesRests_1
theorem dksX8_refusesRests_0 : cX8_refusesRests.data.toList.drop 0 = dktX8_refusesRests_0 := by decide +kernel
theorem dksX8_refusesRests_1 : cX8_refusesRests.data.toList.drop 22 = dktX8_refusesRests_1 := dk_seg dksX8_refusesRests_0 22 rfl rfl
theorem dX8_refusesRests_0 : decode cX8_refusesRests 0 = .ok (.aload_n 0, 1) := dk_42 (dk_at dksX8_refusesRests_0 0 rfl rfl)
theorem dX8_refusesRests_1 : decode cX8_refusesRests 1 = .ok (.getfield 316, 3) := dk_180 1 60 (dk_at dksX8_refusesRests_0 1 rfl rfl)
theorem dX8_refusesRests_4 : decode cX8_refusesRests 4 = .ok (.ifnonnull 7, 3) := dk_199 0 7 (dk_at dksX8_refusesRests_0 4 rfl rfl)
theorem dX8_refusesRests_7 : decode cX8_refusesRests 7 = .ok (.iconst 1, 1) := dk_4 (dk_at dksX8_refusesRests_0 7 rfl rfl)
theorem dX8_refusesRests_8 : decode cX8_refusesRests 8 = .ok (.goto 18, 3) := dk_167 0 18 (dk_at dksX8_refusesRests_0 8 rfl rfl)
theorem dX8_refusesRests_11 : decode cX8_refusesRests 11 = .ok (.iload_n 1, 1) := dk_27 (dk_at dksX8_refusesRests_0 11 rfl rfl)
theorem dX8_refusesRests_12 : decode cX8_refusesRests 12 = .ok (.iconst 0, 1) := dk_3 (dk_at dksX8_refusesRests_0 12 rfl rfl)
theorem dX8_refusesRests_13 : decode cX8_refusesRests 13 = .ok (.bipush 99, 2) := dk_16 99 (dk_at dksX8_refusesRests_0 13 rfl rfl)
theorem dX8_refusesRests_15 : decode cX8_refusesRests 15 = .ok (.invokestatic 124, 3) := dk_184 0 124 (dk_at dksX8_refusesRests_0 15 rfl rfl)
theorem dX8_refusesRests_18 : decode cX8_refusesRests 18 = .ok (.ifCond .eq 7, 3) := dk_153 0 7 (dk_at dksX8_refusesRests_0 18 rfl rfl)
theorem dX8_refusesRests_21 : decode cX8_refusesRests 21 = .ok (.iconst 0, 1) := dk_3 (dk_at dksX8_refusesRests_0 21 rfl rfl)
theorem dX8_refusesRests_22 : decode cX8_refusesRests 22 = .ok (.goto 4, 3) := dk_167 0 4 (dk_at dksX8_refusesRests_1 0 rfl rfl)
theorem dX8_refusesRests_25 : decode cX8_refusesRests 25 = .ok (.iconst 2, 1) := dk_5 (dk_at dksX8_refusesRests_1 3 rfl rfl)
theorem dX8_refusesRests_26 : decode cX8_refusesRests 26 = .ok (.ireturn, 1) := dk_172 (dk_at dksX8_refusesRests_1 4 rfl rfl)
abbrev cX8_isRest : ByteArray := prog_26_method_105_code
def yX8_isRest : MethodName := ⟨RX8, "isRest", "(III)Z"⟩
def dkwX8_isRest_1 : List UInt8 := [29, 27, 184, 1, 200, 26, 28, 27, 184, 1, 200, 164, 0, 5, 3, 172, 132, 3, 1, 167, 255, 215, 4, 172]
abbrev dktX8_isRest_1 : List UInt8 := dkwX8_isRest_1 ++ []
def dkwX8_isRest_0 : List UInt8 := [3, 62, 29, 16, 7, 162, 0, 41, 26, 29, 28, 184, 1, 200, 26, 27, 28, 184, 1, 200, 163, 0, 18, 26]
abbrev dktX8_isRest_0 : List UInt8 := dkwX8_isRest_0 ++ dktX8_isRest_1
theorem dksX8_isRest_0 : cX8_isRest.data.toList.drop 0 = dktX8_isRest_0 := by decide +kernel
theorem dksX8_isRest_1 : cX8_isRest.data.toList.drop 24 = dktX8_isRest_1 := dk_seg dksX8_isRest_0 24 rfl rfl
theorem dX8_isRest_0 : decode cX8_isRest 0 = .ok (.iconst 0, 1) := dk_3 (dk_at dksX8_isRest_0 0 rfl rfl)
theorem dX8_isRest_1 : decode cX8_isRest 1 = .ok (.istore_n 3, 1) := dk_62 (dk_at dksX8_isRest_0 1 rfl rfl)
theorem dX8_isRest_2 : decode cX8_isRest 2 = .ok (.iload_n 3, 1) := dk_29 (dk_at dksX8_isRest_0 2 rfl rfl)
theorem dX8_isRest_3 : decode cX8_isRest 3 = .ok (.bipush 7, 2) := dk_16 7 (dk_at dksX8_isRest_0 3 rfl rfl)
theorem dX8_isRest_5 : decode cX8_isRest 5 = .ok (.if_icmp .ge 41, 3) := dk_162 0 41 (dk_at dksX8_isRest_0 5 rfl rfl)
theorem dX8_isRest_8 : decode cX8_isRest 8 = .ok (.iload_n 0, 1) := dk_26 (dk_at dksX8_isRest_0 8 rfl rfl)
theorem dX8_isRest_9 : decode cX8_isRest 9 = .ok (.iload_n 3, 1) := dk_29 (dk_at dksX8_isRest_0 9 rfl rfl)
theorem dX8_isRest_10 : decode cX8_isRest 10 = .ok (.iload_n 2, 1) := dk_28 (dk_at dksX8_isRest_0 10 rfl rfl)
theorem dX8_isRest_11 : decode cX8_isRest 11 = .ok (.invokestatic 456, 3) := dk_184 1 200 (dk_at dksX8_isRest_0 11 rfl rfl)
theorem dX8_isRest_14 : decode cX8_isRest 14 = .ok (.iload_n 0, 1) := dk_26 (dk_at dksX8_isRest_0 14 rfl rfl)
theorem dX8_isRest_15 : decode cX8_isRest 15 = .ok (.iload_n 1, 1) := dk_27 (dk_at dksX8_isRest_0 15 rfl rfl)
theorem dX8_isRest_16 : decode cX8_isRest 16 = .ok (.iload_n 2, 1) := dk_28 (dk_at dksX8_isRest_0 16 rfl rfl)
theorem dX8_isRest_17 : decode cX8_isRest 17 = .ok (.invokestatic 456, 3) := dk_184 1 200 (dk_at dksX8_isRest_0 17 rfl rfl)
theorem dX8_isRest_20 : decode cX8_isRest 20 = .ok (.if_icmp .gt 18, 3) := dk_163 0 18 (dk_at dksX8_isRest_0 20 rfl rfl)
theorem dX8_isRest_23 : decode cX8_isRest 23 = .ok (.iload_n 0, 1) := dk_26 (dk_at dksX8_isRest_0 23 rfl rfl)
theorem dX8_isRest_24 : decode cX8_isRest 24 = .ok (.iload_n 3, 1) := dk_29 (dk_at dksX8_isRest_1 0 rfl rfl)
theorem dX8_isRest_25 : decode cX8_isRest 25 = .ok (.iload_n 1, 1) := dk_27 (dk_at dksX8_isRest_1 1 rfl rfl)
theorem dX8_isRest_26 : decode cX8_isRest 26 = .ok (.invokestatic 456, 3) := dk_184 1 200 (dk_at dksX8_isRest_1 2 rfl rfl)
theorem dX8_isRest_29 : decode cX8_isRest 29 = .ok (.iload_n 0, 1) := dk_26 (dk_at dksX8_isRest_1 5 rfl rfl)
theorem dX8_isRest_30 : decode cX8_isRest 30 = .ok (.iload_n 2, 1) := dk_28 (dk_at dksX8_isRest_1 6 rfl rfl)
theorem dX8_isRest_31 : decode cX8_isRest 31 = .ok (.iload_n 1, 1) := dk_27 (dk_at dksX8_isRest_1 7 rfl rfl)
theorem dX8_isRest_32 : decode cX8_isRest 32 = .ok (.invokestatic 456, 3) := dk_184 1 200 (dk_at dksX8_isRest_1 8 rfl rfl)
theorem dX8_isRest_35 : decode cX8_isRest 35 = .ok (.if_icmp .le 5, 3) := dk_164 0 5 (dk_at dksX8_isRest_1 11 rfl rfl)
theorem dX8_isRest_38 : decode cX8_isRest 38 = .ok (.iconst 0, 1) := dk_3 (dk_at dksX8_isRest_1 14 rfl rfl)
theorem dX8_isRest_39 : decode cX8_isRest 39 = .ok (.ireturn, 1) := dk_172 (dk_at dksX8_isRest_1 15 rfl rfl)
theorem dX8_isRest_40 : decode cX8_isRest 40 = .ok (.iinc 3 1, 3) := dk_132 3 1 (dk_at dksX8_isRest_1 16 rfl rfl)
theorem dX8_isRest_43 : decode cX8_isRest 43 = .ok (.goto (-41), 3) := dk_167 255 215 (dk_at dksX8_isRest_1 19 rfl rfl)
theorem dX8_isRest_46 : decode cX8_isRest 46 = .ok (.iconst 1, 1) := dk_4 (dk_at dksX8_isRest_1 22 rfl rfl)
theorem dX8_isRest_47 : decode cX8_isRest 47 = .ok (.ireturn, 1) := dk_172 (dk_at dksX8_isRest_1 23 rfl rfl)
abbrev cX8_rest : ByteArray := prog_26_method_108_code
def yX8_rest : MethodName := ⟨RX8, "rest", "(I)I"⟩
def dkwX8_rest_3 : List UInt8 := [182, 0, 55, 172]
abbrev dktX8_rest_3 : List UInt8 := dkwX8_rest_3 ++ []
def dkwX8_rest_2 : List UInt8 := [16, 7, 108, 104, 29, 16, 7, 112, 96, 182, 0, 55, 172, 132, 3, 1, 167, 255, 215, 42, 16, 254]
abbrev dktX8_rest_2 : List UInt8 := dkwX8_rest_2 ++ dktX8_rest_3
def dkwX8_rest_1 : List UInt8 := [16, 49, 162, 0, 41, 27, 29, 16, 7, 108, 29, 16, 7, 112, 184, 1, 206, 153, 0, 20, 42, 16, 10, 29]
abbrev dktX8_rest_1 : List UInt8 := dkwX8_rest_1 ++ dktX8_rest_2
def dkwX8_rest_0 : List UInt8 := [42, 3, 181, 0, 45, 42, 27, 182, 1, 203, 61, 28, 158, 0, 9, 42, 28, 182, 0, 51, 172, 3, 62, 29]
abbrev dktX8_rest_0 : List UInt8 := dkwX8_rest_0 ++ dktX8_rest_1
theorem dksX8_rest_0 : cX8_rest.data.toList.drop 0 = dktX8_rest_0 := by decide +kernel
theorem dksX8_rest_1 : cX8_rest.data.toList.drop 24 = dktX8_rest_1 := dk_seg dksX8_rest_0 24 rfl rfl
theorem dksX8_rest_2 : cX8_rest.data.toList.drop 48 = dktX8_rest_2 := dk_seg dksX8_rest_1 24 rfl rfl
theorem dksX8_rest_3 : cX8_rest.data.toList.drop 70 = dktX8_rest_3 := dk_seg dksX8_rest_2 22 rfl rfl
theorem dX8_rest_0 : decode cX8_rest 0 = .ok (.aload_n 0, 1) := dk_42 (dk_at dksX8_rest_0 0 rfl rfl)
theorem dX8_rest_1 : decode cX8_rest 1 = .ok (.iconst 0, 1) := dk_3 (dk_at dksX8_rest_0 1 rfl rfl)
theorem dX8_rest_2 : decode cX8_rest 2 = .ok (.putfield 45, 3) := dk_181 0 45 (dk_at dksX8_rest_0 2 rfl rfl)
theorem dX8_rest_5 : decode cX8_rest 5 = .ok (.aload_n 0, 1) := dk_42 (dk_at dksX8_rest_0 5 rfl rfl)
theorem dX8_rest_6 : decode cX8_rest 6 = .ok (.iload_n 1, 1) := dk_27 (dk_at dksX8_rest_0 6 rfl rfl)
theorem dX8_rest_7 : decode cX8_rest 7 = .ok (.invokevirtual 459, 3) := dk_182 1 203 (dk_at dksX8_rest_0 7 rfl rfl)
theorem dX8_rest_10 : decode cX8_rest 10 = .ok (.istore_n 2, 1) := dk_61 (dk_at dksX8_rest_0 10 rfl rfl)
theorem dX8_rest_11 : decode cX8_rest 11 = .ok (.iload_n 2, 1) := dk_28 (dk_at dksX8_rest_0 11 rfl rfl)
theorem dX8_rest_12 : decode cX8_rest 12 = .ok (.ifCond .le 9, 3) := dk_158 0 9 (dk_at dksX8_rest_0 12 rfl rfl)
theorem dX8_rest_15 : decode cX8_rest 15 = .ok (.aload_n 0, 1) := dk_42 (dk_at dksX8_rest_0 15 rfl rfl)
theorem dX8_rest_16 : decode cX8_rest 16 = .ok (.iload_n 2, 1) := dk_28 (dk_at dksX8_rest_0 16 rfl rfl)
theorem dX8_rest_17 : decode cX8_rest 17 = .ok (.invokevirtual 51, 3) := dk_182 0 51 (dk_at dksX8_rest_0 17 rfl rfl)
theorem dX8_rest_20 : decode cX8_rest 20 = .ok (.ireturn, 1) := dk_172 (dk_at dksX8_rest_0 20 rfl rfl)
theorem dX8_rest_21 : decode cX8_rest 21 = .ok (.iconst 0, 1) := dk_3 (dk_at dksX8_rest_0 21 rfl rfl)
theorem dX8_rest_22 : decode cX8_rest 22 = .ok (.istore_n 3, 1) := dk_62 (dk_at dksX8_rest_0 22 rfl rfl)
theorem dX8_rest_23 : decode cX8_rest 23 = .ok (.iload_n 3, 1) := dk_29 (dk_at dksX8_rest_0 23 rfl rfl)
theorem dX8_rest_24 : decode cX8_rest 24 = .ok (.bipush 49, 2) := dk_16 49 (dk_at dksX8_rest_1 0 rfl rfl)
theorem dX8_rest_26 : decode cX8_rest 26 = .ok (.if_icmp .ge 41, 3) := dk_162 0 41 (dk_at dksX8_rest_1 2 rfl rfl)
theorem dX8_rest_29 : decode cX8_rest 29 = .ok (.iload_n 1, 1) := dk_27 (dk_at dksX8_rest_1 5 rfl rfl)
theorem dX8_rest_30 : decode cX8_rest 30 = .ok (.iload_n 3, 1) := dk_29 (dk_at dksX8_rest_1 6 rfl rfl)
theorem dX8_rest_31 : decode cX8_rest 31 = .ok (.bipush 7, 2) := dk_16 7 (dk_at dksX8_rest_1 7 rfl rfl)
theorem dX8_rest_33 : decode cX8_rest 33 = .ok (.idiv, 1) := dk_108 (dk_at dksX8_rest_1 9 rfl rfl)
theorem dX8_rest_34 : decode cX8_rest 34 = .ok (.iload_n 3, 1) := dk_29 (dk_at dksX8_rest_1 10 rfl rfl)
theorem dX8_rest_35 : decode cX8_rest 35 = .ok (.bipush 7, 2) := dk_16 7 (dk_at dksX8_rest_1 11 rfl rfl)
theorem dX8_rest_37 : decode cX8_rest 37 = .ok (.irem, 1) := dk_112 (dk_at dksX8_rest_1 13 rfl rfl)
theorem dX8_rest_38 : decode cX8_rest 38 = .ok (.invokestatic 462, 3) := dk_184 1 206 (dk_at dksX8_rest_1 14 rfl rfl)
theorem dX8_rest_41 : decode cX8_rest 41 = .ok (.ifCond .eq 20, 3) := dk_153 0 20 (dk_at dksX8_rest_1 17 rfl rfl)
theorem dX8_rest_44 : decode cX8_rest 44 = .ok (.aload_n 0, 1) := dk_42 (dk_at dksX8_rest_1 20 rfl rfl)
theorem dX8_rest_45 : decode cX8_rest 45 = .ok (.bipush 10, 2) := dk_16 10 (dk_at dksX8_rest_1 21 rfl rfl)
theorem dX8_rest_47 : decode cX8_rest 47 = .ok (.iload_n 3, 1) := dk_29 (dk_at dksX8_rest_1 23 rfl rfl)
theorem dX8_rest_48 : decode cX8_rest 48 = .ok (.bipush 7, 2) := dk_16 7 (dk_at dksX8_rest_2 0 rfl rfl)
theorem dX8_rest_50 : decode cX8_rest 50 = .ok (.idiv, 1) := dk_108 (dk_at dksX8_rest_2 2 rfl rfl)
theorem dX8_rest_51 : decode cX8_rest 51 = .ok (.imul, 1) := dk_104 (dk_at dksX8_rest_2 3 rfl rfl)
theorem dX8_rest_52 : decode cX8_rest 52 = .ok (.iload_n 3, 1) := dk_29 (dk_at dksX8_rest_2 4 rfl rfl)
theorem dX8_rest_53 : decode cX8_rest 53 = .ok (.bipush 7, 2) := dk_16 7 (dk_at dksX8_rest_2 5 rfl rfl)
theorem dX8_rest_55 : decode cX8_rest 55 = .ok (.irem, 1) := dk_112 (dk_at dksX8_rest_2 7 rfl rfl)
theorem dX8_rest_56 : decode cX8_rest 56 = .ok (.iadd, 1) := dk_96 (dk_at dksX8_rest_2 8 rfl rfl)
theorem dX8_rest_57 : decode cX8_rest 57 = .ok (.invokevirtual 55, 3) := dk_182 0 55 (dk_at dksX8_rest_2 9 rfl rfl)
theorem dX8_rest_60 : decode cX8_rest 60 = .ok (.ireturn, 1) := dk_172 (dk_at dksX8_rest_2 12 rfl rfl)
theorem dX8_rest_61 : decode cX8_rest 61 = .ok (.iinc 3 1, 3) := dk_132 3 1 (dk_at dksX8_rest_2 13 rfl rfl)
theorem dX8_rest_64 : decode cX8_rest 64 = .ok (.goto (-41), 3) := dk_167 255 215 (dk_at dksX8_rest_2 16 rfl rfl)
theorem dX8_rest_67 : decode cX8_rest 67 = .ok (.aload_n 0, 1) := dk_42 (dk_at dksX8_rest_2 19 rfl rfl)
theorem dX8_rest_68 : decode cX8_rest 68 = .ok (.bipush (-2), 2) := dk_16 254 (dk_at dksX8_rest_2 20 rfl rfl)
theorem dX8_rest_70 : decode cX8_rest 70 = .ok (.invokevirtual 55, 3) := dk_182 0 55 (dk_at dksX8_rest_3 0 rfl rfl)
theorem dX8_rest_73 : decode cX8_rest 73 = .ok (.ireturn, 1) := dk_172 (dk_at dksX8_rest_3 3 rfl rfl)
abbrev cX8_most : ByteArray := prog_26_method_110_code
def yX8_most : MethodName := ⟨RX8, "most", "(I)I"⟩
def dkwX8_most_1 : List UInt8 := [167, 0, 8, 42, 4, 182, 0, 51, 172]
abbrev dktX8_most_1 : List UInt8 := dkwX8_most_1 ++ []
def dkwX8_most_0 : List UInt8 := [42, 3, 181, 0, 45, 42, 27, 182, 1, 106, 153, 0, 15, 42, 42, 27, 182, 1, 212, 182, 0, 55]
abbrev dktX8_most_0 : List UInt8 := dkwX8_most_0 ++ dktX8_most_1
theorem dksX8_most_0 : cX8_most.data.toList.drop 0 = dktX8_most_0 := by decide +kernel
theorem dksX8_most_1 : cX8_most.data.toList.drop 22 = dktX8_most_1 := dk_seg dksX8_most_0 22 rfl rfl
theorem dX8_most_0 : decode cX8_most 0 = .ok (.aload_n 0, 1) := dk_42 (dk_at dksX8_most_0 0 rfl rfl)
theorem dX8_most_1 : decode cX8_most 1 = .ok (.iconst 0, 1) := dk_3 (dk_at dksX8_most_0 1 rfl rfl)
theorem dX8_most_2 : decode cX8_most 2 = .ok (.putfield 45, 3) := dk_181 0 45 (dk_at dksX8_most_0 2 rfl rfl)
theorem dX8_most_5 : decode cX8_most 5 = .ok (.aload_n 0, 1) := dk_42 (dk_at dksX8_most_0 5 rfl rfl)
theorem dX8_most_6 : decode cX8_most 6 = .ok (.iload_n 1, 1) := dk_27 (dk_at dksX8_most_0 6 rfl rfl)
theorem dX8_most_7 : decode cX8_most 7 = .ok (.invokevirtual 362, 3) := dk_182 1 106 (dk_at dksX8_most_0 7 rfl rfl)
theorem dX8_most_10 : decode cX8_most 10 = .ok (.ifCond .eq 15, 3) := dk_153 0 15 (dk_at dksX8_most_0 10 rfl rfl)
theorem dX8_most_13 : decode cX8_most 13 = .ok (.aload_n 0, 1) := dk_42 (dk_at dksX8_most_0 13 rfl rfl)
theorem dX8_most_14 : decode cX8_most 14 = .ok (.aload_n 0, 1) := dk_42 (dk_at dksX8_most_0 14 rfl rfl)
theorem dX8_most_15 : decode cX8_most 15 = .ok (.iload_n 1, 1) := dk_27 (dk_at dksX8_most_0 15 rfl rfl)
theorem dX8_most_16 : decode cX8_most 16 = .ok (.invokevirtual 468, 3) := dk_182 1 212 (dk_at dksX8_most_0 16 rfl rfl)
theorem dX8_most_19 : decode cX8_most 19 = .ok (.invokevirtual 55, 3) := dk_182 0 55 (dk_at dksX8_most_0 19 rfl rfl)
theorem dX8_most_22 : decode cX8_most 22 = .ok (.goto 8, 3) := dk_167 0 8 (dk_at dksX8_most_1 0 rfl rfl)
theorem dX8_most_25 : decode cX8_most 25 = .ok (.aload_n 0, 1) := dk_42 (dk_at dksX8_most_1 3 rfl rfl)
theorem dX8_most_26 : decode cX8_most 26 = .ok (.iconst 1, 1) := dk_4 (dk_at dksX8_most_1 4 rfl rfl)
theorem dX8_most_27 : decode cX8_most 27 = .ok (.invokevirtual 51, 3) := dk_182 0 51 (dk_at dksX8_most_1 5 rfl rfl)
theorem dX8_most_30 : decode cX8_most 30 = .ok (.ireturn, 1) := dk_172 (dk_at dksX8_most_1 8 rfl rfl)
abbrev cX8_mosts : ByteArray := prog_26_method_109_code
def yX8_mosts : MethodName := ⟨RX8, "mosts", "(I)I"⟩
def dkwX8_mosts_3 : List UInt8 := [182, 1, 109, 181, 1, 209, 132, 3, 1, 167, 255, 181, 28, 172]
abbrev dktX8_mosts_3 : List UInt8 := dkwX8_mosts_3 ++ []
def dkwX8_mosts_2 : List UInt8 := [182, 1, 109, 42, 180, 1, 209, 163, 0, 6, 167, 0, 18, 29, 61, 42, 42, 42, 180, 0, 21, 27]
abbrev dktX8_mosts_2 : List UInt8 := dkwX8_mosts_2 ++ dktX8_mosts_3
def dkwX8_mosts_1 : List UInt8 := [29, 96, 27, 79, 42, 42, 180, 0, 21, 4, 182, 1, 96, 28, 2, 159, 0, 22, 42, 42, 180, 0, 21, 27]
abbrev dktX8_mosts_1 : List UInt8 := dkwX8_mosts_1 ++ dktX8_mosts_2
def dkwX8_mosts_0 : List UInt8 := [2, 61, 3, 62, 29, 42, 180, 1, 60, 180, 0, 194, 162, 0, 70, 42, 182, 1, 137, 42, 180, 0, 21, 3]
abbrev dktX8_mosts_0 : List UInt8 := dkwX8_mosts_0 ++ dktX8_mosts_1
theorem dksX8_mosts_0 : cX8_mosts.data.toList.drop 0 = dktX8_mosts_0 := by decide +kernel
theorem dksX8_mosts_1 : cX8_mosts.data.toList.drop 24 = dktX8_mosts_1 := dk_seg dksX8_mosts_0 24 rfl rfl
theorem dksX8_mosts_2 : cX8_mosts.data.toList.drop 48 = dktX8_mosts_2 := dk_seg dksX8_mosts_1 24 rfl rfl
theorem dksX8_mosts_3 : cX8_mosts.data.toList.drop 70 = dktX8_mosts_3 := dk_seg dksX8_mosts_2 22 rfl rfl
theorem dX8_mosts_0 : decode cX8_mosts 0 = .ok (.iconst (-1), 1) := dk_2 (dk_at dksX8_mosts_0 0 rfl rfl)
theorem dX8_mosts_1 : decode cX8_mosts 1 = .ok (.istore_n 2, 1) := dk_61 (dk_at dksX8_mosts_0 1 rfl rfl)
theorem dX8_mosts_2 : decode cX8_mosts 2 = .ok (.iconst 0, 1) := dk_3 (dk_at dksX8_mosts_0 2 rfl rfl)
theorem dX8_mosts_3 : decode cX8_mosts 3 = .ok (.istore_n 3, 1) := dk_62 (dk_at dksX8_mosts_0 3 rfl rfl)
theorem dX8_mosts_4 : decode cX8_mosts 4 = .ok (.iload_n 3, 1) := dk_29 (dk_at dksX8_mosts_0 4 rfl rfl)
theorem dX8_mosts_5 : decode cX8_mosts 5 = .ok (.aload_n 0, 1) := dk_42 (dk_at dksX8_mosts_0 5 rfl rfl)
theorem dX8_mosts_6 : decode cX8_mosts 6 = .ok (.getfield 316, 3) := dk_180 1 60 (dk_at dksX8_mosts_0 6 rfl rfl)
theorem dX8_mosts_9 : decode cX8_mosts 9 = .ok (.getfield 194, 3) := dk_180 0 194 (dk_at dksX8_mosts_0 9 rfl rfl)
theorem dX8_mosts_12 : decode cX8_mosts 12 = .ok (.if_icmp .ge 70, 3) := dk_162 0 70 (dk_at dksX8_mosts_0 12 rfl rfl)
theorem dX8_mosts_15 : decode cX8_mosts 15 = .ok (.aload_n 0, 1) := dk_42 (dk_at dksX8_mosts_0 15 rfl rfl)
theorem dX8_mosts_16 : decode cX8_mosts 16 = .ok (.invokevirtual 393, 3) := dk_182 1 137 (dk_at dksX8_mosts_0 16 rfl rfl)
theorem dX8_mosts_19 : decode cX8_mosts 19 = .ok (.aload_n 0, 1) := dk_42 (dk_at dksX8_mosts_0 19 rfl rfl)
theorem dX8_mosts_20 : decode cX8_mosts 20 = .ok (.getfield 21, 3) := dk_180 0 21 (dk_at dksX8_mosts_0 20 rfl rfl)
theorem dX8_mosts_23 : decode cX8_mosts 23 = .ok (.iconst 0, 1) := dk_3 (dk_at dksX8_mosts_0 23 rfl rfl)
theorem dX8_mosts_24 : decode cX8_mosts 24 = .ok (.iload_n 3, 1) := dk_29 (dk_at dksX8_mosts_1 0 rfl rfl)
theorem dX8_mosts_25 : decode cX8_mosts 25 = .ok (.iadd, 1) := dk_96 (dk_at dksX8_mosts_1 1 rfl rfl)
theorem dX8_mosts_26 : decode cX8_mosts 26 = .ok (.iload_n 1, 1) := dk_27 (dk_at dksX8_mosts_1 2 rfl rfl)
theorem dX8_mosts_27 : decode cX8_mosts 27 = .ok (.iastore, 1) := dk_79 (dk_at dksX8_mosts_1 3 rfl rfl)
theorem dX8_mosts_28 : decode cX8_mosts 28 = .ok (.aload_n 0, 1) := dk_42 (dk_at dksX8_mosts_1 4 rfl rfl)
theorem dX8_mosts_29 : decode cX8_mosts 29 = .ok (.aload_n 0, 1) := dk_42 (dk_at dksX8_mosts_1 5 rfl rfl)
theorem dX8_mosts_30 : decode cX8_mosts 30 = .ok (.getfield 21, 3) := dk_180 0 21 (dk_at dksX8_mosts_1 6 rfl rfl)
theorem dX8_mosts_33 : decode cX8_mosts 33 = .ok (.iconst 1, 1) := dk_4 (dk_at dksX8_mosts_1 9 rfl rfl)
theorem dX8_mosts_34 : decode cX8_mosts 34 = .ok (.invokevirtual 352, 3) := dk_182 1 96 (dk_at dksX8_mosts_1 10 rfl rfl)
theorem dX8_mosts_37 : decode cX8_mosts 37 = .ok (.iload_n 2, 1) := dk_28 (dk_at dksX8_mosts_1 13 rfl rfl)
theorem dX8_mosts_38 : decode cX8_mosts 38 = .ok (.iconst (-1), 1) := dk_2 (dk_at dksX8_mosts_1 14 rfl rfl)
theorem dX8_mosts_39 : decode cX8_mosts 39 = .ok (.if_icmp .eq 22, 3) := dk_159 0 22 (dk_at dksX8_mosts_1 15 rfl rfl)
theorem dX8_mosts_42 : decode cX8_mosts 42 = .ok (.aload_n 0, 1) := dk_42 (dk_at dksX8_mosts_1 18 rfl rfl)
theorem dX8_mosts_43 : decode cX8_mosts 43 = .ok (.aload_n 0, 1) := dk_42 (dk_at dksX8_mosts_1 19 rfl rfl)
theorem dX8_mosts_44 : decode cX8_mosts 44 = .ok (.getfield 21, 3) := dk_180 0 21 (dk_at dksX8_mosts_1 20 rfl rfl)
theorem dX8_mosts_47 : decode cX8_mosts 47 = .ok (.iload_n 1, 1) := dk_27 (dk_at dksX8_mosts_1 23 rfl rfl)
theorem dX8_mosts_48 : decode cX8_mosts 48 = .ok (.invokevirtual 365, 3) := dk_182 1 109 (dk_at dksX8_mosts_2 0 rfl rfl)
theorem dX8_mosts_51 : decode cX8_mosts 51 = .ok (.aload_n 0, 1) := dk_42 (dk_at dksX8_mosts_2 3 rfl rfl)
theorem dX8_mosts_52 : decode cX8_mosts 52 = .ok (.getfield 465, 3) := dk_180 1 209 (dk_at dksX8_mosts_2 4 rfl rfl)
theorem dX8_mosts_55 : decode cX8_mosts 55 = .ok (.if_icmp .gt 6, 3) := dk_163 0 6 (dk_at dksX8_mosts_2 7 rfl rfl)
theorem dX8_mosts_58 : decode cX8_mosts 58 = .ok (.goto 18, 3) := dk_167 0 18 (dk_at dksX8_mosts_2 10 rfl rfl)
theorem dX8_mosts_61 : decode cX8_mosts 61 = .ok (.iload_n 3, 1) := dk_29 (dk_at dksX8_mosts_2 13 rfl rfl)
theorem dX8_mosts_62 : decode cX8_mosts 62 = .ok (.istore_n 2, 1) := dk_61 (dk_at dksX8_mosts_2 14 rfl rfl)
theorem dX8_mosts_63 : decode cX8_mosts 63 = .ok (.aload_n 0, 1) := dk_42 (dk_at dksX8_mosts_2 15 rfl rfl)
theorem dX8_mosts_64 : decode cX8_mosts 64 = .ok (.aload_n 0, 1) := dk_42 (dk_at dksX8_mosts_2 16 rfl rfl)
theorem dX8_mosts_65 : decode cX8_mosts 65 = .ok (.aload_n 0, 1) := dk_42 (dk_at dksX8_mosts_2 17 rfl rfl)
theorem dX8_mosts_66 : decode cX8_mosts 66 = .ok (.getfield 21, 3) := dk_180 0 21 (dk_at dksX8_mosts_2 18 rfl rfl)
theorem dX8_mosts_69 : decode cX8_mosts 69 = .ok (.iload_n 1, 1) := dk_27 (dk_at dksX8_mosts_2 21 rfl rfl)
theorem dX8_mosts_70 : decode cX8_mosts 70 = .ok (.invokevirtual 365, 3) := dk_182 1 109 (dk_at dksX8_mosts_3 0 rfl rfl)
theorem dX8_mosts_73 : decode cX8_mosts 73 = .ok (.putfield 465, 3) := dk_181 1 209 (dk_at dksX8_mosts_3 3 rfl rfl)
theorem dX8_mosts_76 : decode cX8_mosts 76 = .ok (.iinc 3 1, 3) := dk_132 3 1 (dk_at dksX8_mosts_3 6 rfl rfl)
theorem dX8_mosts_79 : decode cX8_mosts 79 = .ok (.goto (-75), 3) := dk_167 255 181 (dk_at dksX8_mosts_3 9 rfl rfl)
theorem dX8_mosts_82 : decode cX8_mosts 82 = .ok (.iload_n 2, 1) := dk_28 (dk_at dksX8_mosts_3 12 rfl rfl)
theorem dX8_mosts_83 : decode cX8_mosts 83 = .ok (.ireturn, 1) := dk_172 (dk_at dksX8_mosts_3 13 rfl rfl)
abbrev cX8_mostLands : ByteArray := prog_26_method_111_code
def yX8_mostLands : MethodName := ⟨RX8, "mostLands", "(I)I"⟩
def dkwX8_mostLands_1 : List UInt8 := [87, 42, 42, 180, 1, 209, 182, 0, 55, 172]
abbrev dktX8_mostLands_1 : List UInt8 := dkwX8_mostLands_1 ++ []
def dkwX8_mostLands_0 : List UInt8 := [42, 3, 181, 0, 45, 42, 27, 182, 1, 106, 154, 0, 9, 42, 4, 182, 0, 51, 172, 42, 27, 182, 1, 212]
abbrev dktX8_mostLands_0 : List UInt8 := dkwX8_mostLands_0 ++ dktX8_mostLands_1
theorem dksX8_mostLands_0 : cX8_mostLands.data.toList.drop 0 = dktX8_mostLands_0 := by decide +kernel
theorem dksX8_mostLands_1 : cX8_mostLands.data.toList.drop 24 = dktX8_mostLands_1 := dk_seg dksX8_mostLands_0 24 rfl rfl
theorem dX8_mostLands_0 : decode cX8_mostLands 0 = .ok (.aload_n 0, 1) := dk_42 (dk_at dksX8_mostLands_0 0 rfl rfl)
theorem dX8_mostLands_1 : decode cX8_mostLands 1 = .ok (.iconst 0, 1) := dk_3 (dk_at dksX8_mostLands_0 1 rfl rfl)
theorem dX8_mostLands_2 : decode cX8_mostLands 2 = .ok (.putfield 45, 3) := dk_181 0 45 (dk_at dksX8_mostLands_0 2 rfl rfl)
theorem dX8_mostLands_5 : decode cX8_mostLands 5 = .ok (.aload_n 0, 1) := dk_42 (dk_at dksX8_mostLands_0 5 rfl rfl)
theorem dX8_mostLands_6 : decode cX8_mostLands 6 = .ok (.iload_n 1, 1) := dk_27 (dk_at dksX8_mostLands_0 6 rfl rfl)
theorem dX8_mostLands_7 : decode cX8_mostLands 7 = .ok (.invokevirtual 362, 3) := dk_182 1 106 (dk_at dksX8_mostLands_0 7 rfl rfl)
theorem dX8_mostLands_10 : decode cX8_mostLands 10 = .ok (.ifCond .ne 9, 3) := dk_154 0 9 (dk_at dksX8_mostLands_0 10 rfl rfl)
theorem dX8_mostLands_13 : decode cX8_mostLands 13 = .ok (.aload_n 0, 1) := dk_42 (dk_at dksX8_mostLands_0 13 rfl rfl)
theorem dX8_mostLands_14 : decode cX8_mostLands 14 = .ok (.iconst 1, 1) := dk_4 (dk_at dksX8_mostLands_0 14 rfl rfl)
theorem dX8_mostLands_15 : decode cX8_mostLands 15 = .ok (.invokevirtual 51, 3) := dk_182 0 51 (dk_at dksX8_mostLands_0 15 rfl rfl)
theorem dX8_mostLands_18 : decode cX8_mostLands 18 = .ok (.ireturn, 1) := dk_172 (dk_at dksX8_mostLands_0 18 rfl rfl)
theorem dX8_mostLands_19 : decode cX8_mostLands 19 = .ok (.aload_n 0, 1) := dk_42 (dk_at dksX8_mostLands_0 19 rfl rfl)
theorem dX8_mostLands_20 : decode cX8_mostLands 20 = .ok (.iload_n 1, 1) := dk_27 (dk_at dksX8_mostLands_0 20 rfl rfl)
theorem dX8_mostLands_21 : decode cX8_mostLands 21 = .ok (.invokevirtual 468, 3) := dk_182 1 212 (dk_at dksX8_mostLands_0 21 rfl rfl)
theorem dX8_mostLands_24 : decode cX8_mostLands 24 = .ok (.pop, 1) := dk_87 (dk_at dksX8_mostLands_1 0 rfl rfl)
theorem dX8_mostLands_25 : decode cX8_mostLands 25 = .ok (.aload_n 0, 1) := dk_42 (dk_at dksX8_mostLands_1 1 rfl rfl)
theorem dX8_mostLands_26 : decode cX8_mostLands 26 = .ok (.aload_n 0, 1) := dk_42 (dk_at dksX8_mostLands_1 2 rfl rfl)
theorem dX8_mostLands_27 : decode cX8_mostLands 27 = .ok (.getfield 465, 3) := dk_180 1 209 (dk_at dksX8_mostLands_1 3 rfl rfl)
theorem dX8_mostLands_30 : decode cX8_mostLands 30 = .ok (.invokevirtual 55, 3) := dk_182 0 55 (dk_at dksX8_mostLands_1 6 rfl rfl)
theorem dX8_mostLands_33 : decode cX8_mostLands 33 = .ok (.ireturn, 1) := dk_172 (dk_at dksX8_mostLands_1 9 rfl rfl)
abbrev cX8_century : ByteArray := prog_26_method_114_code
def yX8_century : MethodName := ⟨RX8, "century", "(III)I"⟩
def dkwX8_century_1 : List UInt8 := [21, 4, 182, 0, 51, 167, 0, 16, 42, 42, 42, 180, 0, 21, 27, 182, 1, 109, 182, 0, 55, 172]
abbrev dktX8_century_1 : List UInt8 := dkwX8_century_1 ++ []
def dkwX8_century_0 : List UInt8 := [42, 3, 181, 0, 45, 42, 42, 27, 182, 1, 106, 28, 29, 182, 1, 228, 54, 4, 21, 4, 158, 0, 12, 42]
abbrev dktX8_century_0 : List UInt8 := dkwX8_century_0 ++ dktX8_century_1
theorem dksX8_century_0 : cX8_century.data.toList.drop 0 = dktX8_century_0 := by decide +kernel
theorem dksX8_century_1 : cX8_century.data.toList.drop 24 = dktX8_century_1 := dk_seg dksX8_century_0 24 rfl rfl
theorem dX8_century_0 : decode cX8_century 0 = .ok (.aload_n 0, 1) := dk_42 (dk_at dksX8_century_0 0 rfl rfl)
theorem dX8_century_1 : decode cX8_century 1 = .ok (.iconst 0, 1) := dk_3 (dk_at dksX8_century_0 1 rfl rfl)
theorem dX8_century_2 : decode cX8_century 2 = .ok (.putfield 45, 3) := dk_181 0 45 (dk_at dksX8_century_0 2 rfl rfl)
theorem dX8_century_5 : decode cX8_century 5 = .ok (.aload_n 0, 1) := dk_42 (dk_at dksX8_century_0 5 rfl rfl)
theorem dX8_century_6 : decode cX8_century 6 = .ok (.aload_n 0, 1) := dk_42 (dk_at dksX8_century_0 6 rfl rfl)
theorem dX8_century_7 : decode cX8_century 7 = .ok (.iload_n 1, 1) := dk_27 (dk_at dksX8_century_0 7 rfl rfl)
theorem dX8_century_8 : decode cX8_century 8 = .ok (.invokevirtual 362, 3) := dk_182 1 106 (dk_at dksX8_century_0 8 rfl rfl)
theorem dX8_century_11 : decode cX8_century 11 = .ok (.iload_n 2, 1) := dk_28 (dk_at dksX8_century_0 11 rfl rfl)
theorem dX8_century_12 : decode cX8_century 12 = .ok (.iload_n 3, 1) := dk_29 (dk_at dksX8_century_0 12 rfl rfl)
theorem dX8_century_13 : decode cX8_century 13 = .ok (.invokevirtual 484, 3) := dk_182 1 228 (dk_at dksX8_century_0 13 rfl rfl)
theorem dX8_century_16 : decode cX8_century 16 = .ok (.istore 4, 2) := dk_54 4 (dk_at dksX8_century_0 16 rfl rfl)
theorem dX8_century_18 : decode cX8_century 18 = .ok (.iload 4, 2) := dk_21 4 (dk_at dksX8_century_0 18 rfl rfl)
theorem dX8_century_20 : decode cX8_century 20 = .ok (.ifCond .le 12, 3) := dk_158 0 12 (dk_at dksX8_century_0 20 rfl rfl)
theorem dX8_century_23 : decode cX8_century 23 = .ok (.aload_n 0, 1) := dk_42 (dk_at dksX8_century_0 23 rfl rfl)
theorem dX8_century_24 : decode cX8_century 24 = .ok (.iload 4, 2) := dk_21 4 (dk_at dksX8_century_1 0 rfl rfl)
theorem dX8_century_26 : decode cX8_century 26 = .ok (.invokevirtual 51, 3) := dk_182 0 51 (dk_at dksX8_century_1 2 rfl rfl)
theorem dX8_century_29 : decode cX8_century 29 = .ok (.goto 16, 3) := dk_167 0 16 (dk_at dksX8_century_1 5 rfl rfl)
theorem dX8_century_32 : decode cX8_century 32 = .ok (.aload_n 0, 1) := dk_42 (dk_at dksX8_century_1 8 rfl rfl)
theorem dX8_century_33 : decode cX8_century 33 = .ok (.aload_n 0, 1) := dk_42 (dk_at dksX8_century_1 9 rfl rfl)
theorem dX8_century_34 : decode cX8_century 34 = .ok (.aload_n 0, 1) := dk_42 (dk_at dksX8_century_1 10 rfl rfl)
theorem dX8_century_35 : decode cX8_century 35 = .ok (.getfield 21, 3) := dk_180 0 21 (dk_at dksX8_century_1 11 rfl rfl)
theorem dX8_century_38 : decode cX8_century 38 = .ok (.iload_n 1, 1) := dk_27 (dk_at dksX8_century_1 14 rfl rfl)
theorem dX8_century_39 : decode cX8_century 39 = .ok (.invokevirtual 365, 3) := dk_182 1 109 (dk_at dksX8_century_1 15 rfl rfl)
theorem dX8_century_42 : decode cX8_century 42 = .ok (.invokevirtual 55, 3) := dk_182 0 55 (dk_at dksX8_century_1 18 rfl rfl)
theorem dX8_century_45 : decode cX8_century 45 = .ok (.ireturn, 1) := dk_172 (dk_at dksX8_century_1 21 rfl rfl)
abbrev cX8_centuries : ByteArray := prog_26_method_113_code
def yX8_centuries : MethodName := ⟨RX8, "centuries", "(ZII)I"⟩
def dkwX8_centuries_5 : List UInt8 := [172]
abbrev dktX8_centuries_5 : List UInt8 := dkwX8_centuries_5 ++ []
def dkwX8_centuries_4 : List UInt8 := [180, 1, 60, 180, 0, 232, 162, 0, 7, 4, 167, 0, 4, 3, 182, 1, 96, 132, 4, 1, 167, 255, 185, 3]
abbrev dktX8_centuries_4 : List UInt8 := dkwX8_centuries_4 ++ dktX8_centuries_5
def dkwX8_centuries_3 : List UInt8 := [180, 1, 60, 180, 0, 191, 182, 1, 225, 79, 42, 42, 180, 0, 21, 42, 16, 100, 182, 1, 225, 42]
abbrev dktX8_centuries_3 : List UInt8 := dkwX8_centuries_3 ++ dktX8_centuries_4
def dkwX8_centuries_2 : List UInt8 := [42, 180, 1, 60, 180, 0, 194, 182, 1, 225, 54, 5, 42, 180, 0, 21, 3, 21, 5, 96, 42, 42]
abbrev dktX8_centuries_2 : List UInt8 := dkwX8_centuries_2 ++ dktX8_centuries_3
def dkwX8_centuries_1 : List UInt8 := [154, 0, 5, 5, 172, 42, 28, 181, 1, 217, 42, 182, 1, 137, 3, 54, 4, 21, 4, 29, 162, 0, 71, 42]
abbrev dktX8_centuries_1 : List UInt8 := dkwX8_centuries_1 ++ dktX8_centuries_2
def dkwX8_centuries_0 : List UInt8 := [27, 154, 0, 5, 4, 172, 28, 3, 19, 1, 224, 184, 0, 124, 153, 0, 13, 29, 3, 16, 60, 184, 0, 124]
abbrev dktX8_centuries_0 : List UInt8 := dkwX8_centuries_0 ++ dktX8_centuries_1
theorem dksX8_centuries_0 : cX8_centuries.data.toList.drop 0 = dktX8_centuries_0 := by decide +kernel
theorem dksX8_centuries_1 : cX8_centuries.data.toList.drop 24 = dktX8_centuries_1 := dk_seg dksX8_centuries_0 24 rfl rfl
theorem dksX8_centuries_2 : cX8_centuries.data.toList.drop 48 = dktX8_centuries_2 := dk_seg dksX8_centuries_1 24 rfl rfl
theorem dksX8_centuries_3 : cX8_centuries.data.toList.drop 70 = dktX8_centuries_3 := dk_seg dksX8_centuries_2 22 rfl rfl
theorem dksX8_centuries_4 : cX8_centuries.data.toList.drop 92 = dktX8_centuries_4 := dk_seg dksX8_centuries_3 22 rfl rfl
theorem dksX8_centuries_5 : cX8_centuries.data.toList.drop 116 = dktX8_centuries_5 := dk_seg dksX8_centuries_4 24 rfl rfl
theorem dX8_centuries_0 : decode cX8_centuries 0 = .ok (.iload_n 1, 1) := dk_27 (dk_at dksX8_centuries_0 0 rfl rfl)
theorem dX8_centuries_1 : decode cX8_centuries 1 = .ok (.ifCond .ne 5, 3) := dk_154 0 5 (dk_at dksX8_centuries_0 1 rfl rfl)
theorem dX8_centuries_4 : decode cX8_centuries 4 = .ok (.iconst 1, 1) := dk_4 (dk_at dksX8_centuries_0 4 rfl rfl)
theorem dX8_centuries_5 : decode cX8_centuries 5 = .ok (.ireturn, 1) := dk_172 (dk_at dksX8_centuries_0 5 rfl rfl)
theorem dX8_centuries_6 : decode cX8_centuries 6 = .ok (.iload_n 2, 1) := dk_28 (dk_at dksX8_centuries_0 6 rfl rfl)
theorem dX8_centuries_7 : decode cX8_centuries 7 = .ok (.iconst 0, 1) := dk_3 (dk_at dksX8_centuries_0 7 rfl rfl)
theorem dX8_centuries_8 : decode cX8_centuries 8 = .ok (.ldc_w 480, 3) := dk_19 1 224 (dk_at dksX8_centuries_0 8 rfl rfl)
theorem dX8_centuries_11 : decode cX8_centuries 11 = .ok (.invokestatic 124, 3) := dk_184 0 124 (dk_at dksX8_centuries_0 11 rfl rfl)
theorem dX8_centuries_14 : decode cX8_centuries 14 = .ok (.ifCond .eq 13, 3) := dk_153 0 13 (dk_at dksX8_centuries_0 14 rfl rfl)
theorem dX8_centuries_17 : decode cX8_centuries 17 = .ok (.iload_n 3, 1) := dk_29 (dk_at dksX8_centuries_0 17 rfl rfl)
theorem dX8_centuries_18 : decode cX8_centuries 18 = .ok (.iconst 0, 1) := dk_3 (dk_at dksX8_centuries_0 18 rfl rfl)
theorem dX8_centuries_19 : decode cX8_centuries 19 = .ok (.bipush 60, 2) := dk_16 60 (dk_at dksX8_centuries_0 19 rfl rfl)
theorem dX8_centuries_21 : decode cX8_centuries 21 = .ok (.invokestatic 124, 3) := dk_184 0 124 (dk_at dksX8_centuries_0 21 rfl rfl)
theorem dX8_centuries_24 : decode cX8_centuries 24 = .ok (.ifCond .ne 5, 3) := dk_154 0 5 (dk_at dksX8_centuries_1 0 rfl rfl)
theorem dX8_centuries_27 : decode cX8_centuries 27 = .ok (.iconst 2, 1) := dk_5 (dk_at dksX8_centuries_1 3 rfl rfl)
theorem dX8_centuries_28 : decode cX8_centuries 28 = .ok (.ireturn, 1) := dk_172 (dk_at dksX8_centuries_1 4 rfl rfl)
theorem dX8_centuries_29 : decode cX8_centuries 29 = .ok (.aload_n 0, 1) := dk_42 (dk_at dksX8_centuries_1 5 rfl rfl)
theorem dX8_centuries_30 : decode cX8_centuries 30 = .ok (.iload_n 2, 1) := dk_28 (dk_at dksX8_centuries_1 6 rfl rfl)
theorem dX8_centuries_31 : decode cX8_centuries 31 = .ok (.putfield 473, 3) := dk_181 1 217 (dk_at dksX8_centuries_1 7 rfl rfl)
theorem dX8_centuries_34 : decode cX8_centuries 34 = .ok (.aload_n 0, 1) := dk_42 (dk_at dksX8_centuries_1 10 rfl rfl)
theorem dX8_centuries_35 : decode cX8_centuries 35 = .ok (.invokevirtual 393, 3) := dk_182 1 137 (dk_at dksX8_centuries_1 11 rfl rfl)
theorem dX8_centuries_38 : decode cX8_centuries 38 = .ok (.iconst 0, 1) := dk_3 (dk_at dksX8_centuries_1 14 rfl rfl)
theorem dX8_centuries_39 : decode cX8_centuries 39 = .ok (.istore 4, 2) := dk_54 4 (dk_at dksX8_centuries_1 15 rfl rfl)
theorem dX8_centuries_41 : decode cX8_centuries 41 = .ok (.iload 4, 2) := dk_21 4 (dk_at dksX8_centuries_1 17 rfl rfl)
theorem dX8_centuries_43 : decode cX8_centuries 43 = .ok (.iload_n 3, 1) := dk_29 (dk_at dksX8_centuries_1 19 rfl rfl)
theorem dX8_centuries_44 : decode cX8_centuries 44 = .ok (.if_icmp .ge 71, 3) := dk_162 0 71 (dk_at dksX8_centuries_1 20 rfl rfl)
theorem dX8_centuries_47 : decode cX8_centuries 47 = .ok (.aload_n 0, 1) := dk_42 (dk_at dksX8_centuries_1 23 rfl rfl)
theorem dX8_centuries_48 : decode cX8_centuries 48 = .ok (.aload_n 0, 1) := dk_42 (dk_at dksX8_centuries_2 0 rfl rfl)
theorem dX8_centuries_49 : decode cX8_centuries 49 = .ok (.getfield 316, 3) := dk_180 1 60 (dk_at dksX8_centuries_2 1 rfl rfl)
theorem dX8_centuries_52 : decode cX8_centuries 52 = .ok (.getfield 194, 3) := dk_180 0 194 (dk_at dksX8_centuries_2 4 rfl rfl)
theorem dX8_centuries_55 : decode cX8_centuries 55 = .ok (.invokevirtual 481, 3) := dk_182 1 225 (dk_at dksX8_centuries_2 7 rfl rfl)
theorem dX8_centuries_58 : decode cX8_centuries 58 = .ok (.istore 5, 2) := dk_54 5 (dk_at dksX8_centuries_2 10 rfl rfl)
theorem dX8_centuries_60 : decode cX8_centuries 60 = .ok (.aload_n 0, 1) := dk_42 (dk_at dksX8_centuries_2 12 rfl rfl)
theorem dX8_centuries_61 : decode cX8_centuries 61 = .ok (.getfield 21, 3) := dk_180 0 21 (dk_at dksX8_centuries_2 13 rfl rfl)
theorem dX8_centuries_64 : decode cX8_centuries 64 = .ok (.iconst 0, 1) := dk_3 (dk_at dksX8_centuries_2 16 rfl rfl)
theorem dX8_centuries_65 : decode cX8_centuries 65 = .ok (.iload 5, 2) := dk_21 5 (dk_at dksX8_centuries_2 17 rfl rfl)
theorem dX8_centuries_67 : decode cX8_centuries 67 = .ok (.iadd, 1) := dk_96 (dk_at dksX8_centuries_2 19 rfl rfl)
theorem dX8_centuries_68 : decode cX8_centuries 68 = .ok (.aload_n 0, 1) := dk_42 (dk_at dksX8_centuries_2 20 rfl rfl)
theorem dX8_centuries_69 : decode cX8_centuries 69 = .ok (.aload_n 0, 1) := dk_42 (dk_at dksX8_centuries_2 21 rfl rfl)
theorem dX8_centuries_70 : decode cX8_centuries 70 = .ok (.getfield 316, 3) := dk_180 1 60 (dk_at dksX8_centuries_3 0 rfl rfl)
theorem dX8_centuries_73 : decode cX8_centuries 73 = .ok (.getfield 191, 3) := dk_180 0 191 (dk_at dksX8_centuries_3 3 rfl rfl)
theorem dX8_centuries_76 : decode cX8_centuries 76 = .ok (.invokevirtual 481, 3) := dk_182 1 225 (dk_at dksX8_centuries_3 6 rfl rfl)
theorem dX8_centuries_79 : decode cX8_centuries 79 = .ok (.iastore, 1) := dk_79 (dk_at dksX8_centuries_3 9 rfl rfl)
theorem dX8_centuries_80 : decode cX8_centuries 80 = .ok (.aload_n 0, 1) := dk_42 (dk_at dksX8_centuries_3 10 rfl rfl)
theorem dX8_centuries_81 : decode cX8_centuries 81 = .ok (.aload_n 0, 1) := dk_42 (dk_at dksX8_centuries_3 11 rfl rfl)
theorem dX8_centuries_82 : decode cX8_centuries 82 = .ok (.getfield 21, 3) := dk_180 0 21 (dk_at dksX8_centuries_3 12 rfl rfl)
theorem dX8_centuries_85 : decode cX8_centuries 85 = .ok (.aload_n 0, 1) := dk_42 (dk_at dksX8_centuries_3 15 rfl rfl)
theorem dX8_centuries_86 : decode cX8_centuries 86 = .ok (.bipush 100, 2) := dk_16 100 (dk_at dksX8_centuries_3 16 rfl rfl)
theorem dX8_centuries_88 : decode cX8_centuries 88 = .ok (.invokevirtual 481, 3) := dk_182 1 225 (dk_at dksX8_centuries_3 18 rfl rfl)
theorem dX8_centuries_91 : decode cX8_centuries 91 = .ok (.aload_n 0, 1) := dk_42 (dk_at dksX8_centuries_3 21 rfl rfl)
theorem dX8_centuries_92 : decode cX8_centuries 92 = .ok (.getfield 316, 3) := dk_180 1 60 (dk_at dksX8_centuries_4 0 rfl rfl)
theorem dX8_centuries_95 : decode cX8_centuries 95 = .ok (.getfield 232, 3) := dk_180 0 232 (dk_at dksX8_centuries_4 3 rfl rfl)
theorem dX8_centuries_98 : decode cX8_centuries 98 = .ok (.if_icmp .ge 7, 3) := dk_162 0 7 (dk_at dksX8_centuries_4 6 rfl rfl)
theorem dX8_centuries_101 : decode cX8_centuries 101 = .ok (.iconst 1, 1) := dk_4 (dk_at dksX8_centuries_4 9 rfl rfl)
theorem dX8_centuries_102 : decode cX8_centuries 102 = .ok (.goto 4, 3) := dk_167 0 4 (dk_at dksX8_centuries_4 10 rfl rfl)
theorem dX8_centuries_105 : decode cX8_centuries 105 = .ok (.iconst 0, 1) := dk_3 (dk_at dksX8_centuries_4 13 rfl rfl)
theorem dX8_centuries_106 : decode cX8_centuries 106 = .ok (.invokevirtual 352, 3) := dk_182 1 96 (dk_at dksX8_centuries_4 14 rfl rfl)
theorem dX8_centuries_109 : decode cX8_centuries 109 = .ok (.iinc 4 1, 3) := dk_132 4 1 (dk_at dksX8_centuries_4 17 rfl rfl)
theorem dX8_centuries_112 : decode cX8_centuries 112 = .ok (.goto (-71), 3) := dk_167 255 185 (dk_at dksX8_centuries_4 20 rfl rfl)
theorem dX8_centuries_115 : decode cX8_centuries 115 = .ok (.iconst 0, 1) := dk_3 (dk_at dksX8_centuries_4 23 rfl rfl)
theorem dX8_centuries_116 : decode cX8_centuries 116 = .ok (.ireturn, 1) := dk_172 (dk_at dksX8_centuries_5 0 rfl rfl)
abbrev cX8_draw : ByteArray := prog_26_method_112_code
def yX8_draw : MethodName := ⟨RX8, "draw", "(I)I"⟩
def dkwX8_draw_1 : List UInt8 := [180, 1, 217, 27, 112, 172]
abbrev dktX8_draw_1 : List UInt8 := dkwX8_draw_1 ++ []
def dkwX8_draw_0 : List UInt8 := [42, 20, 1, 215, 42, 180, 1, 217, 133, 105, 20, 1, 220, 97, 20, 1, 222, 113, 136, 181, 1, 217, 42]
abbrev dktX8_draw_0 : List UInt8 := dkwX8_draw_0 ++ dktX8_draw_1
theorem dksX8_draw_0 : cX8_draw.data.toList.drop 0 = dktX8_draw_0 := by decide +kernel
theorem dksX8_draw_1 : cX8_draw.data.toList.drop 23 = dktX8_draw_1 := dk_seg dksX8_draw_0 23 rfl rfl
theorem dX8_draw_0 : decode cX8_draw 0 = .ok (.aload_n 0, 1) := dk_42 (dk_at dksX8_draw_0 0 rfl rfl)
theorem dX8_draw_1 : decode cX8_draw 1 = .ok (.ldc2_w 471, 3) := dk_20 1 215 (dk_at dksX8_draw_0 1 rfl rfl)
theorem dX8_draw_4 : decode cX8_draw 4 = .ok (.aload_n 0, 1) := dk_42 (dk_at dksX8_draw_0 4 rfl rfl)
theorem dX8_draw_5 : decode cX8_draw 5 = .ok (.getfield 473, 3) := dk_180 1 217 (dk_at dksX8_draw_0 5 rfl rfl)
theorem dX8_draw_8 : decode cX8_draw 8 = .ok (.i2l, 1) := dk_133 (dk_at dksX8_draw_0 8 rfl rfl)
theorem dX8_draw_9 : decode cX8_draw 9 = .ok (.lmul, 1) := dk_105 (dk_at dksX8_draw_0 9 rfl rfl)
theorem dX8_draw_10 : decode cX8_draw 10 = .ok (.ldc2_w 476, 3) := dk_20 1 220 (dk_at dksX8_draw_0 10 rfl rfl)
theorem dX8_draw_13 : decode cX8_draw 13 = .ok (.ladd, 1) := dk_97 (dk_at dksX8_draw_0 13 rfl rfl)
theorem dX8_draw_14 : decode cX8_draw 14 = .ok (.ldc2_w 478, 3) := dk_20 1 222 (dk_at dksX8_draw_0 14 rfl rfl)
theorem dX8_draw_17 : decode cX8_draw 17 = .ok (.lrem, 1) := dk_113 (dk_at dksX8_draw_0 17 rfl rfl)
theorem dX8_draw_18 : decode cX8_draw 18 = .ok (.l2i, 1) := dk_136 (dk_at dksX8_draw_0 18 rfl rfl)
theorem dX8_draw_19 : decode cX8_draw 19 = .ok (.putfield 473, 3) := dk_181 1 217 (dk_at dksX8_draw_0 19 rfl rfl)
theorem dX8_draw_22 : decode cX8_draw 22 = .ok (.aload_n 0, 1) := dk_42 (dk_at dksX8_draw_0 22 rfl rfl)
theorem dX8_draw_23 : decode cX8_draw 23 = .ok (.getfield 473, 3) := dk_180 1 217 (dk_at dksX8_draw_1 0 rfl rfl)
theorem dX8_draw_26 : decode cX8_draw 26 = .ok (.iload_n 1, 1) := dk_27 (dk_at dksX8_draw_1 3 rfl rfl)
theorem dX8_draw_27 : decode cX8_draw 27 = .ok (.irem, 1) := dk_112 (dk_at dksX8_draw_1 4 rfl rfl)
theorem dX8_draw_28 : decode cX8_draw 28 = .ok (.ireturn, 1) := dk_172 (dk_at dksX8_draw_1 5 rfl rfl)
abbrev cX8_untitled : ByteArray := prog_26_method_115_code
def yX8_untitled : MethodName := ⟨RX8, "untitled", "(II)I"⟩
def dkwX8_untitled_3 : List UInt8 := [167, 0, 4, 3, 96, 54, 4, 132, 5, 1, 167, 255, 217, 42, 21, 4, 182, 0, 55, 172]
abbrev dktX8_untitled_3 : List UInt8 := dkwX8_untitled_3 ++ []
def dkwX8_untitled_2 : List UInt8 := [180, 0, 194, 162, 0, 33, 21, 4, 42, 180, 0, 21, 8, 21, 5, 96, 46, 16, 254, 160, 0, 7, 4]
abbrev dktX8_untitled_2 : List UInt8 := dkwX8_untitled_2 ++ dktX8_untitled_3
def dkwX8_untitled_1 : List UInt8 := [29, 158, 0, 9, 42, 29, 182, 0, 51, 172, 3, 54, 4, 3, 54, 5, 21, 5, 42, 180, 1, 60]
abbrev dktX8_untitled_1 : List UInt8 := dkwX8_untitled_1 ++ dktX8_untitled_2
def dkwX8_untitled_0 : List UInt8 := [42, 3, 181, 0, 45, 42, 42, 180, 1, 60, 198, 0, 7, 4, 167, 0, 4, 3, 27, 28, 182, 1, 228, 62]
abbrev dktX8_untitled_0 : List UInt8 := dkwX8_untitled_0 ++ dktX8_untitled_1
theorem dksX8_untitled_0 : cX8_untitled.data.toList.drop 0 = dktX8_untitled_0 := by decide +kernel
theorem dksX8_untitled_1 : cX8_untitled.data.toList.drop 24 = dktX8_untitled_1 := dk_seg dksX8_untitled_0 24 rfl rfl
theorem dksX8_untitled_2 : cX8_untitled.data.toList.drop 46 = dktX8_untitled_2 := dk_seg dksX8_untitled_1 22 rfl rfl
theorem dksX8_untitled_3 : cX8_untitled.data.toList.drop 69 = dktX8_untitled_3 := dk_seg dksX8_untitled_2 23 rfl rfl
theorem dX8_untitled_0 : decode cX8_untitled 0 = .ok (.aload_n 0, 1) := dk_42 (dk_at dksX8_untitled_0 0 rfl rfl)
theorem dX8_untitled_1 : decode cX8_untitled 1 = .ok (.iconst 0, 1) := dk_3 (dk_at dksX8_untitled_0 1 rfl rfl)
theorem dX8_untitled_2 : decode cX8_untitled 2 = .ok (.putfield 45, 3) := dk_181 0 45 (dk_at dksX8_untitled_0 2 rfl rfl)
theorem dX8_untitled_5 : decode cX8_untitled 5 = .ok (.aload_n 0, 1) := dk_42 (dk_at dksX8_untitled_0 5 rfl rfl)
theorem dX8_untitled_6 : decode cX8_untitled 6 = .ok (.aload_n 0, 1) := dk_42 (dk_at dksX8_untitled_0 6 rfl rfl)
theorem dX8_untitled_7 : decode cX8_untitled 7 = .ok (.getfield 316, 3) := dk_180 1 60 (dk_at dksX8_untitled_0 7 rfl rfl)
theorem dX8_untitled_10 : decode cX8_untitled 10 = .ok (.ifnull 7, 3) := dk_198 0 7 (dk_at dksX8_untitled_0 10 rfl rfl)
theorem dX8_untitled_13 : decode cX8_untitled 13 = .ok (.iconst 1, 1) := dk_4 (dk_at dksX8_untitled_0 13 rfl rfl)
theorem dX8_untitled_14 : decode cX8_untitled 14 = .ok (.goto 4, 3) := dk_167 0 4 (dk_at dksX8_untitled_0 14 rfl rfl)
theorem dX8_untitled_17 : decode cX8_untitled 17 = .ok (.iconst 0, 1) := dk_3 (dk_at dksX8_untitled_0 17 rfl rfl)
theorem dX8_untitled_18 : decode cX8_untitled 18 = .ok (.iload_n 1, 1) := dk_27 (dk_at dksX8_untitled_0 18 rfl rfl)
theorem dX8_untitled_19 : decode cX8_untitled 19 = .ok (.iload_n 2, 1) := dk_28 (dk_at dksX8_untitled_0 19 rfl rfl)
theorem dX8_untitled_20 : decode cX8_untitled 20 = .ok (.invokevirtual 484, 3) := dk_182 1 228 (dk_at dksX8_untitled_0 20 rfl rfl)
theorem dX8_untitled_23 : decode cX8_untitled 23 = .ok (.istore_n 3, 1) := dk_62 (dk_at dksX8_untitled_0 23 rfl rfl)
theorem dX8_untitled_24 : decode cX8_untitled 24 = .ok (.iload_n 3, 1) := dk_29 (dk_at dksX8_untitled_1 0 rfl rfl)
theorem dX8_untitled_25 : decode cX8_untitled 25 = .ok (.ifCond .le 9, 3) := dk_158 0 9 (dk_at dksX8_untitled_1 1 rfl rfl)
theorem dX8_untitled_28 : decode cX8_untitled 28 = .ok (.aload_n 0, 1) := dk_42 (dk_at dksX8_untitled_1 4 rfl rfl)
theorem dX8_untitled_29 : decode cX8_untitled 29 = .ok (.iload_n 3, 1) := dk_29 (dk_at dksX8_untitled_1 5 rfl rfl)
theorem dX8_untitled_30 : decode cX8_untitled 30 = .ok (.invokevirtual 51, 3) := dk_182 0 51 (dk_at dksX8_untitled_1 6 rfl rfl)
theorem dX8_untitled_33 : decode cX8_untitled 33 = .ok (.ireturn, 1) := dk_172 (dk_at dksX8_untitled_1 9 rfl rfl)
theorem dX8_untitled_34 : decode cX8_untitled 34 = .ok (.iconst 0, 1) := dk_3 (dk_at dksX8_untitled_1 10 rfl rfl)
theorem dX8_untitled_35 : decode cX8_untitled 35 = .ok (.istore 4, 2) := dk_54 4 (dk_at dksX8_untitled_1 11 rfl rfl)
theorem dX8_untitled_37 : decode cX8_untitled 37 = .ok (.iconst 0, 1) := dk_3 (dk_at dksX8_untitled_1 13 rfl rfl)
theorem dX8_untitled_38 : decode cX8_untitled 38 = .ok (.istore 5, 2) := dk_54 5 (dk_at dksX8_untitled_1 14 rfl rfl)
theorem dX8_untitled_40 : decode cX8_untitled 40 = .ok (.iload 5, 2) := dk_21 5 (dk_at dksX8_untitled_1 16 rfl rfl)
theorem dX8_untitled_42 : decode cX8_untitled 42 = .ok (.aload_n 0, 1) := dk_42 (dk_at dksX8_untitled_1 18 rfl rfl)
theorem dX8_untitled_43 : decode cX8_untitled 43 = .ok (.getfield 316, 3) := dk_180 1 60 (dk_at dksX8_untitled_1 19 rfl rfl)
theorem dX8_untitled_46 : decode cX8_untitled 46 = .ok (.getfield 194, 3) := dk_180 0 194 (dk_at dksX8_untitled_2 0 rfl rfl)
theorem dX8_untitled_49 : decode cX8_untitled 49 = .ok (.if_icmp .ge 33, 3) := dk_162 0 33 (dk_at dksX8_untitled_2 3 rfl rfl)
theorem dX8_untitled_52 : decode cX8_untitled 52 = .ok (.iload 4, 2) := dk_21 4 (dk_at dksX8_untitled_2 6 rfl rfl)
theorem dX8_untitled_54 : decode cX8_untitled 54 = .ok (.aload_n 0, 1) := dk_42 (dk_at dksX8_untitled_2 8 rfl rfl)
theorem dX8_untitled_55 : decode cX8_untitled 55 = .ok (.getfield 21, 3) := dk_180 0 21 (dk_at dksX8_untitled_2 9 rfl rfl)
theorem dX8_untitled_58 : decode cX8_untitled 58 = .ok (.iconst 5, 1) := dk_8 (dk_at dksX8_untitled_2 12 rfl rfl)
theorem dX8_untitled_59 : decode cX8_untitled 59 = .ok (.iload 5, 2) := dk_21 5 (dk_at dksX8_untitled_2 13 rfl rfl)
theorem dX8_untitled_61 : decode cX8_untitled 61 = .ok (.iadd, 1) := dk_96 (dk_at dksX8_untitled_2 15 rfl rfl)
theorem dX8_untitled_62 : decode cX8_untitled 62 = .ok (.iaload, 1) := dk_46 (dk_at dksX8_untitled_2 16 rfl rfl)
theorem dX8_untitled_63 : decode cX8_untitled 63 = .ok (.bipush (-2), 2) := dk_16 254 (dk_at dksX8_untitled_2 17 rfl rfl)
theorem dX8_untitled_65 : decode cX8_untitled 65 = .ok (.if_icmp .ne 7, 3) := dk_160 0 7 (dk_at dksX8_untitled_2 19 rfl rfl)
theorem dX8_untitled_68 : decode cX8_untitled 68 = .ok (.iconst 1, 1) := dk_4 (dk_at dksX8_untitled_2 22 rfl rfl)
theorem dX8_untitled_69 : decode cX8_untitled 69 = .ok (.goto 4, 3) := dk_167 0 4 (dk_at dksX8_untitled_3 0 rfl rfl)
theorem dX8_untitled_72 : decode cX8_untitled 72 = .ok (.iconst 0, 1) := dk_3 (dk_at dksX8_untitled_3 3 rfl rfl)
theorem dX8_untitled_73 : decode cX8_untitled 73 = .ok (.iadd, 1) := dk_96 (dk_at dksX8_untitled_3 4 rfl rfl)
theorem dX8_untitled_74 : decode cX8_untitled 74 = .ok (.istore 4, 2) := dk_54 4 (dk_at dksX8_untitled_3 5 rfl rfl)
theorem dX8_untitled_76 : decode cX8_untitled 76 = .ok (.iinc 5 1, 3) := dk_132 5 1 (dk_at dksX8_untitled_3 7 rfl rfl)
theorem dX8_untitled_79 : decode cX8_untitled 79 = .ok (.goto (-39), 3) := dk_167 255 217 (dk_at dksX8_untitled_3 10 rfl rfl)
theorem dX8_untitled_82 : decode cX8_untitled 82 = .ok (.aload_n 0, 1) := dk_42 (dk_at dksX8_untitled_3 13 rfl rfl)
theorem dX8_untitled_83 : decode cX8_untitled 83 = .ok (.iload 4, 2) := dk_21 4 (dk_at dksX8_untitled_3 14 rfl rfl)
theorem dX8_untitled_85 : decode cX8_untitled 85 = .ok (.invokevirtual 55, 3) := dk_182 0 55 (dk_at dksX8_untitled_3 16 rfl rfl)
theorem dX8_untitled_88 : decode cX8_untitled 88 = .ok (.ireturn, 1) := dk_172 (dk_at dksX8_untitled_3 19 rfl rfl)
abbrev cX8_lend : ByteArray := prog_26_method_117_code
def yX8_lend : MethodName := ⟨RX8, "lend", "(II)Z"⟩
def dkwX8_lend_2 : List UInt8 := [182, 1, 235, 42, 180, 0, 17, 3, 27, 96, 28, 79, 42, 182, 1, 238, 172]
abbrev dktX8_lend_2 : List UInt8 := dkwX8_lend_2 ++ []
def dkwX8_lend_1 : List UInt8 := [182, 1, 232, 172, 42, 180, 0, 17, 3, 27, 96, 46, 28, 160, 0, 9, 42, 8, 182, 1, 232, 172, 42]
abbrev dktX8_lend_1 : List UInt8 := dkwX8_lend_1 ++ dktX8_lend_2
def dkwX8_lend_0 : List UInt8 := [42, 3, 181, 0, 45, 42, 27, 182, 1, 103, 153, 0, 11, 42, 28, 182, 1, 106, 154, 0, 9, 42, 4]
abbrev dktX8_lend_0 : List UInt8 := dkwX8_lend_0 ++ dktX8_lend_1
theorem dksX8_lend_0 : cX8_lend.data.toList.drop 0 = dktX8_lend_0 := by decide +kernel
theorem dksX8_lend_1 : cX8_lend.data.toList.drop 23 = dktX8_lend_1 := dk_seg dksX8_lend_0 23 rfl rfl
theorem dksX8_lend_2 : cX8_lend.data.toList.drop 46 = dktX8_lend_2 := dk_seg dksX8_lend_1 23 rfl rfl
theorem dX8_lend_0 : decode cX8_lend 0 = .ok (.aload_n 0, 1) := dk_42 (dk_at dksX8_lend_0 0 rfl rfl)
theorem dX8_lend_1 : decode cX8_lend 1 = .ok (.iconst 0, 1) := dk_3 (dk_at dksX8_lend_0 1 rfl rfl)
theorem dX8_lend_2 : decode cX8_lend 2 = .ok (.putfield 45, 3) := dk_181 0 45 (dk_at dksX8_lend_0 2 rfl rfl)
theorem dX8_lend_5 : decode cX8_lend 5 = .ok (.aload_n 0, 1) := dk_42 (dk_at dksX8_lend_0 5 rfl rfl)
theorem dX8_lend_6 : decode cX8_lend 6 = .ok (.iload_n 1, 1) := dk_27 (dk_at dksX8_lend_0 6 rfl rfl)
theorem dX8_lend_7 : decode cX8_lend 7 = .ok (.invokevirtual 359, 3) := dk_182 1 103 (dk_at dksX8_lend_0 7 rfl rfl)
theorem dX8_lend_10 : decode cX8_lend 10 = .ok (.ifCond .eq 11, 3) := dk_153 0 11 (dk_at dksX8_lend_0 10 rfl rfl)
theorem dX8_lend_13 : decode cX8_lend 13 = .ok (.aload_n 0, 1) := dk_42 (dk_at dksX8_lend_0 13 rfl rfl)
theorem dX8_lend_14 : decode cX8_lend 14 = .ok (.iload_n 2, 1) := dk_28 (dk_at dksX8_lend_0 14 rfl rfl)
theorem dX8_lend_15 : decode cX8_lend 15 = .ok (.invokevirtual 362, 3) := dk_182 1 106 (dk_at dksX8_lend_0 15 rfl rfl)
theorem dX8_lend_18 : decode cX8_lend 18 = .ok (.ifCond .ne 9, 3) := dk_154 0 9 (dk_at dksX8_lend_0 18 rfl rfl)
theorem dX8_lend_21 : decode cX8_lend 21 = .ok (.aload_n 0, 1) := dk_42 (dk_at dksX8_lend_0 21 rfl rfl)
theorem dX8_lend_22 : decode cX8_lend 22 = .ok (.iconst 1, 1) := dk_4 (dk_at dksX8_lend_0 22 rfl rfl)
theorem dX8_lend_23 : decode cX8_lend 23 = .ok (.invokevirtual 488, 3) := dk_182 1 232 (dk_at dksX8_lend_1 0 rfl rfl)
theorem dX8_lend_26 : decode cX8_lend 26 = .ok (.ireturn, 1) := dk_172 (dk_at dksX8_lend_1 3 rfl rfl)
theorem dX8_lend_27 : decode cX8_lend 27 = .ok (.aload_n 0, 1) := dk_42 (dk_at dksX8_lend_1 4 rfl rfl)
theorem dX8_lend_28 : decode cX8_lend 28 = .ok (.getfield 17, 3) := dk_180 0 17 (dk_at dksX8_lend_1 5 rfl rfl)
theorem dX8_lend_31 : decode cX8_lend 31 = .ok (.iconst 0, 1) := dk_3 (dk_at dksX8_lend_1 8 rfl rfl)
theorem dX8_lend_32 : decode cX8_lend 32 = .ok (.iload_n 1, 1) := dk_27 (dk_at dksX8_lend_1 9 rfl rfl)
theorem dX8_lend_33 : decode cX8_lend 33 = .ok (.iadd, 1) := dk_96 (dk_at dksX8_lend_1 10 rfl rfl)
theorem dX8_lend_34 : decode cX8_lend 34 = .ok (.iaload, 1) := dk_46 (dk_at dksX8_lend_1 11 rfl rfl)
theorem dX8_lend_35 : decode cX8_lend 35 = .ok (.iload_n 2, 1) := dk_28 (dk_at dksX8_lend_1 12 rfl rfl)
theorem dX8_lend_36 : decode cX8_lend 36 = .ok (.if_icmp .ne 9, 3) := dk_160 0 9 (dk_at dksX8_lend_1 13 rfl rfl)
theorem dX8_lend_39 : decode cX8_lend 39 = .ok (.aload_n 0, 1) := dk_42 (dk_at dksX8_lend_1 16 rfl rfl)
theorem dX8_lend_40 : decode cX8_lend 40 = .ok (.iconst 5, 1) := dk_8 (dk_at dksX8_lend_1 17 rfl rfl)
theorem dX8_lend_41 : decode cX8_lend 41 = .ok (.invokevirtual 488, 3) := dk_182 1 232 (dk_at dksX8_lend_1 18 rfl rfl)
theorem dX8_lend_44 : decode cX8_lend 44 = .ok (.ireturn, 1) := dk_172 (dk_at dksX8_lend_1 21 rfl rfl)
theorem dX8_lend_45 : decode cX8_lend 45 = .ok (.aload_n 0, 1) := dk_42 (dk_at dksX8_lend_1 22 rfl rfl)
theorem dX8_lend_46 : decode cX8_lend 46 = .ok (.invokevirtual 491, 3) := dk_182 1 235 (dk_at dksX8_lend_2 0 rfl rfl)
theorem dX8_lend_49 : decode cX8_lend 49 = .ok (.aload_n 0, 1) := dk_42 (dk_at dksX8_lend_2 3 rfl rfl)
theorem dX8_lend_50 : decode cX8_lend 50 = .ok (.getfield 17, 3) := dk_180 0 17 (dk_at dksX8_lend_2 4 rfl rfl)
theorem dX8_lend_53 : decode cX8_lend 53 = .ok (.iconst 0, 1) := dk_3 (dk_at dksX8_lend_2 7 rfl rfl)
theorem dX8_lend_54 : decode cX8_lend 54 = .ok (.iload_n 1, 1) := dk_27 (dk_at dksX8_lend_2 8 rfl rfl)
theorem dX8_lend_55 : decode cX8_lend 55 = .ok (.iadd, 1) := dk_96 (dk_at dksX8_lend_2 9 rfl rfl)
theorem dX8_lend_56 : decode cX8_lend 56 = .ok (.iload_n 2, 1) := dk_28 (dk_at dksX8_lend_2 10 rfl rfl)
theorem dX8_lend_57 : decode cX8_lend 57 = .ok (.iastore, 1) := dk_79 (dk_at dksX8_lend_2 11 rfl rfl)
theorem dX8_lend_58 : decode cX8_lend 58 = .ok (.aload_n 0, 1) := dk_42 (dk_at dksX8_lend_2 12 rfl rfl)
theorem dX8_lend_59 : decode cX8_lend 59 = .ok (.invokevirtual 494, 3) := dk_182 1 238 (dk_at dksX8_lend_2 13 rfl rfl)
theorem dX8_lend_62 : decode cX8_lend 62 = .ok (.ireturn, 1) := dk_172 (dk_at dksX8_lend_2 16 rfl rfl)
abbrev cX8_denied : ByteArray := prog_26_method_5_code
def yX8_denied : MethodName := ⟨RX8, "denied", "(I)Z"⟩
def dkwX8_denied_0 : List UInt8 := [42, 27, 182, 0, 51, 87, 3, 172]
abbrev dktX8_denied_0 : List UInt8 := dkwX8_denied_0 ++ []
theorem dksX8_denied_0 : cX8_denied.data.toList.drop 0 = dktX8_denied_0 := by decide +kernel
theorem dX8_denied_0 : decode cX8_denied 0 = .ok (.aload_n 0, 1) := dk_42 (dk_at dksX8_denied_0 0 rfl rfl)
theorem dX8_denied_1 : decode cX8_denied 1 = .ok (.iload_n 1, 1) := dk_27 (dk_at dksX8_denied_0 1 rfl rfl)
theorem dX8_denied_2 : decode cX8_denied 2 = .ok (.invokevirtual 51, 3) := dk_182 0 51 (dk_at dksX8_denied_0 2 rfl rfl)
theorem dX8_denied_5 : decode cX8_denied 5 = .ok (.pop, 1) := dk_87 (dk_at dksX8_denied_0 5 rfl rfl)
theorem dX8_denied_6 : decode cX8_denied 6 = .ok (.iconst 0, 1) := dk_3 (dk_at dksX8_denied_0 6 rfl rfl)
theorem dX8_denied_7 : decode cX8_denied 7 = .ok (.ireturn, 1) := dk_172 (dk_at dksX8_denied_0 7 rfl rfl)
abbrev cX8_remembers : ByteArray := prog_26_method_116_code
def yX8_remembers : MethodName := ⟨RX8, "remembers", "()V"⟩
def dkwX8_remembers_3 : List UInt8 := [42, 180, 0, 17, 27, 46, 79, 132, 1, 1, 167, 255, 227, 42, 89, 180, 1, 66, 4, 96, 181, 1, 66, 177]
abbrev dktX8_remembers_3 : List UInt8 := dkwX8_remembers_3 ++ []
def dkwX8_remembers_2 : List UInt8 := [181, 1, 66, 3, 60, 27, 16, 11, 162, 0, 29, 42, 180, 0, 24, 16, 11, 42, 180, 1, 66, 104, 27, 96]
abbrev dktX8_remembers_2 : List UInt8 := dkwX8_remembers_2 ++ dktX8_remembers_3
def dkwX8_remembers_1 : List UInt8 := [180, 0, 24, 27, 16, 11, 96, 46, 79, 132, 1, 1, 167, 255, 231, 42, 89, 180, 1, 66, 4, 100]
abbrev dktX8_remembers_1 : List UInt8 := dkwX8_remembers_1 ++ dktX8_remembers_2
def dkwX8_remembers_0 : List UInt8 := [42, 180, 1, 66, 16, 16, 160, 0, 43, 3, 60, 27, 17, 0, 165, 162, 0, 24, 42, 180, 0, 24, 27, 42]
abbrev dktX8_remembers_0 : List UInt8 := dkwX8_remembers_0 ++ dktX8_remembers_1
theorem dksX8_remembers_0 : cX8_remembers.data.toList.drop 0 = dktX8_remembers_0 := by decide +kernel
theorem dksX8_remembers_1 : cX8_remembers.data.toList.drop 24 = dktX8_remembers_1 := dk_seg dksX8_remembers_0 24 rfl rfl
theorem dksX8_remembers_2 : cX8_remembers.data.toList.drop 46 = dktX8_remembers_2 := dk_seg dksX8_remembers_1 22 rfl rfl
theorem dksX8_remembers_3 : cX8_remembers.data.toList.drop 70 = dktX8_remembers_3 := dk_seg dksX8_remembers_2 24 rfl rfl
theorem dX8_remembers_0 : decode cX8_remembers 0 = .ok (.aload_n 0, 1) := dk_42 (dk_at dksX8_remembers_0 0 rfl rfl)
theorem dX8_remembers_1 : decode cX8_remembers 1 = .ok (.getfield 322, 3) := dk_180 1 66 (dk_at dksX8_remembers_0 1 rfl rfl)
theorem dX8_remembers_4 : decode cX8_remembers 4 = .ok (.bipush 16, 2) := dk_16 16 (dk_at dksX8_remembers_0 4 rfl rfl)
theorem dX8_remembers_6 : decode cX8_remembers 6 = .ok (.if_icmp .ne 43, 3) := dk_160 0 43 (dk_at dksX8_remembers_0 6 rfl rfl)
theorem dX8_remembers_9 : decode cX8_remembers 9 = .ok (.iconst 0, 1) := dk_3 (dk_at dksX8_remembers_0 9 rfl rfl)
theorem dX8_remembers_10 : decode cX8_remembers 10 = .ok (.istore_n 1, 1) := dk_60 (dk_at dksX8_remembers_0 10 rfl rfl)
theorem dX8_remembers_11 : decode cX8_remembers 11 = .ok (.iload_n 1, 1) := dk_27 (dk_at dksX8_remembers_0 11 rfl rfl)
theorem dX8_remembers_12 : decode cX8_remembers 12 = .ok (.sipush 165, 3) := dk_17 0 165 (dk_at dksX8_remembers_0 12 rfl rfl)
theorem dX8_remembers_15 : decode cX8_remembers 15 = .ok (.if_icmp .ge 24, 3) := dk_162 0 24 (dk_at dksX8_remembers_0 15 rfl rfl)
theorem dX8_remembers_18 : decode cX8_remembers 18 = .ok (.aload_n 0, 1) := dk_42 (dk_at dksX8_remembers_0 18 rfl rfl)
theorem dX8_remembers_19 : decode cX8_remembers 19 = .ok (.getfield 24, 3) := dk_180 0 24 (dk_at dksX8_remembers_0 19 rfl rfl)
theorem dX8_remembers_22 : decode cX8_remembers 22 = .ok (.iload_n 1, 1) := dk_27 (dk_at dksX8_remembers_0 22 rfl rfl)
theorem dX8_remembers_23 : decode cX8_remembers 23 = .ok (.aload_n 0, 1) := dk_42 (dk_at dksX8_remembers_0 23 rfl rfl)
theorem dX8_remembers_24 : decode cX8_remembers 24 = .ok (.getfield 24, 3) := dk_180 0 24 (dk_at dksX8_remembers_1 0 rfl rfl)
theorem dX8_remembers_27 : decode cX8_remembers 27 = .ok (.iload_n 1, 1) := dk_27 (dk_at dksX8_remembers_1 3 rfl rfl)
theorem dX8_remembers_28 : decode cX8_remembers 28 = .ok (.bipush 11, 2) := dk_16 11 (dk_at dksX8_remembers_1 4 rfl rfl)
theorem dX8_remembers_30 : decode cX8_remembers 30 = .ok (.iadd, 1) := dk_96 (dk_at dksX8_remembers_1 6 rfl rfl)
theorem dX8_remembers_31 : decode cX8_remembers 31 = .ok (.iaload, 1) := dk_46 (dk_at dksX8_remembers_1 7 rfl rfl)
theorem dX8_remembers_32 : decode cX8_remembers 32 = .ok (.iastore, 1) := dk_79 (dk_at dksX8_remembers_1 8 rfl rfl)
theorem dX8_remembers_33 : decode cX8_remembers 33 = .ok (.iinc 1 1, 3) := dk_132 1 1 (dk_at dksX8_remembers_1 9 rfl rfl)
theorem dX8_remembers_36 : decode cX8_remembers 36 = .ok (.goto (-25), 3) := dk_167 255 231 (dk_at dksX8_remembers_1 12 rfl rfl)
theorem dX8_remembers_39 : decode cX8_remembers 39 = .ok (.aload_n 0, 1) := dk_42 (dk_at dksX8_remembers_1 15 rfl rfl)
theorem dX8_remembers_40 : decode cX8_remembers 40 = .ok (.dup, 1) := dk_89 (dk_at dksX8_remembers_1 16 rfl rfl)
theorem dX8_remembers_41 : decode cX8_remembers 41 = .ok (.getfield 322, 3) := dk_180 1 66 (dk_at dksX8_remembers_1 17 rfl rfl)
theorem dX8_remembers_44 : decode cX8_remembers 44 = .ok (.iconst 1, 1) := dk_4 (dk_at dksX8_remembers_1 20 rfl rfl)
theorem dX8_remembers_45 : decode cX8_remembers 45 = .ok (.isub, 1) := dk_100 (dk_at dksX8_remembers_1 21 rfl rfl)
theorem dX8_remembers_46 : decode cX8_remembers 46 = .ok (.putfield 322, 3) := dk_181 1 66 (dk_at dksX8_remembers_2 0 rfl rfl)
theorem dX8_remembers_49 : decode cX8_remembers 49 = .ok (.iconst 0, 1) := dk_3 (dk_at dksX8_remembers_2 3 rfl rfl)
theorem dX8_remembers_50 : decode cX8_remembers 50 = .ok (.istore_n 1, 1) := dk_60 (dk_at dksX8_remembers_2 4 rfl rfl)
theorem dX8_remembers_51 : decode cX8_remembers 51 = .ok (.iload_n 1, 1) := dk_27 (dk_at dksX8_remembers_2 5 rfl rfl)
theorem dX8_remembers_52 : decode cX8_remembers 52 = .ok (.bipush 11, 2) := dk_16 11 (dk_at dksX8_remembers_2 6 rfl rfl)
theorem dX8_remembers_54 : decode cX8_remembers 54 = .ok (.if_icmp .ge 29, 3) := dk_162 0 29 (dk_at dksX8_remembers_2 8 rfl rfl)
theorem dX8_remembers_57 : decode cX8_remembers 57 = .ok (.aload_n 0, 1) := dk_42 (dk_at dksX8_remembers_2 11 rfl rfl)
theorem dX8_remembers_58 : decode cX8_remembers 58 = .ok (.getfield 24, 3) := dk_180 0 24 (dk_at dksX8_remembers_2 12 rfl rfl)
theorem dX8_remembers_61 : decode cX8_remembers 61 = .ok (.bipush 11, 2) := dk_16 11 (dk_at dksX8_remembers_2 15 rfl rfl)
theorem dX8_remembers_63 : decode cX8_remembers 63 = .ok (.aload_n 0, 1) := dk_42 (dk_at dksX8_remembers_2 17 rfl rfl)
theorem dX8_remembers_64 : decode cX8_remembers 64 = .ok (.getfield 322, 3) := dk_180 1 66 (dk_at dksX8_remembers_2 18 rfl rfl)
theorem dX8_remembers_67 : decode cX8_remembers 67 = .ok (.imul, 1) := dk_104 (dk_at dksX8_remembers_2 21 rfl rfl)
theorem dX8_remembers_68 : decode cX8_remembers 68 = .ok (.iload_n 1, 1) := dk_27 (dk_at dksX8_remembers_2 22 rfl rfl)
theorem dX8_remembers_69 : decode cX8_remembers 69 = .ok (.iadd, 1) := dk_96 (dk_at dksX8_remembers_2 23 rfl rfl)
theorem dX8_remembers_70 : decode cX8_remembers 70 = .ok (.aload_n 0, 1) := dk_42 (dk_at dksX8_remembers_3 0 rfl rfl)
theorem dX8_remembers_71 : decode cX8_remembers 71 = .ok (.getfield 17, 3) := dk_180 0 17 (dk_at dksX8_remembers_3 1 rfl rfl)
theorem dX8_remembers_74 : decode cX8_remembers 74 = .ok (.iload_n 1, 1) := dk_27 (dk_at dksX8_remembers_3 4 rfl rfl)
theorem dX8_remembers_75 : decode cX8_remembers 75 = .ok (.iaload, 1) := dk_46 (dk_at dksX8_remembers_3 5 rfl rfl)
theorem dX8_remembers_76 : decode cX8_remembers 76 = .ok (.iastore, 1) := dk_79 (dk_at dksX8_remembers_3 6 rfl rfl)
theorem dX8_remembers_77 : decode cX8_remembers 77 = .ok (.iinc 1 1, 3) := dk_132 1 1 (dk_at dksX8_remembers_3 7 rfl rfl)
theorem dX8_remembers_80 : decode cX8_remembers 80 = .ok (.goto (-29), 3) := dk_167 255 227 (dk_at dksX8_remembers_3 10 rfl rfl)
theorem dX8_remembers_83 : decode cX8_remembers 83 = .ok (.aload_n 0, 1) := dk_42 (dk_at dksX8_remembers_3 13 rfl rfl)
theorem dX8_remembers_84 : decode cX8_remembers 84 = .ok (.dup, 1) := dk_89 (dk_at dksX8_remembers_3 14 rfl rfl)
theorem dX8_remembers_85 : decode cX8_remembers 85 = .ok (.getfield 322, 3) := dk_180 1 66 (dk_at dksX8_remembers_3 15 rfl rfl)
theorem dX8_remembers_88 : decode cX8_remembers 88 = .ok (.iconst 1, 1) := dk_4 (dk_at dksX8_remembers_3 18 rfl rfl)
theorem dX8_remembers_89 : decode cX8_remembers 89 = .ok (.iadd, 1) := dk_96 (dk_at dksX8_remembers_3 19 rfl rfl)
theorem dX8_remembers_90 : decode cX8_remembers 90 = .ok (.putfield 322, 3) := dk_181 1 66 (dk_at dksX8_remembers_3 20 rfl rfl)
theorem dX8_remembers_93 : decode cX8_remembers 93 = .ok (.return_, 1) := dk_177 (dk_at dksX8_remembers_3 23 rfl rfl)
abbrev cX8_granted : ByteArray := prog_26_method_7_code
def yX8_granted : MethodName := ⟨RX8, "granted", "()Z"⟩
def dkwX8_granted_0 : List UInt8 := [42, 3, 182, 0, 55, 87, 4, 172]
abbrev dktX8_granted_0 : List UInt8 := dkwX8_granted_0 ++ []
theorem dksX8_granted_0 : cX8_granted.data.toList.drop 0 = dktX8_granted_0 := by decide +kernel
theorem dX8_granted_0 : decode cX8_granted 0 = .ok (.aload_n 0, 1) := dk_42 (dk_at dksX8_granted_0 0 rfl rfl)
theorem dX8_granted_1 : decode cX8_granted 1 = .ok (.iconst 0, 1) := dk_3 (dk_at dksX8_granted_0 1 rfl rfl)
theorem dX8_granted_2 : decode cX8_granted 2 = .ok (.invokevirtual 55, 3) := dk_182 0 55 (dk_at dksX8_granted_0 2 rfl rfl)
theorem dX8_granted_5 : decode cX8_granted 5 = .ok (.pop, 1) := dk_87 (dk_at dksX8_granted_0 5 rfl rfl)
theorem dX8_granted_6 : decode cX8_granted 6 = .ok (.iconst 1, 1) := dk_4 (dk_at dksX8_granted_0 6 rfl rfl)
theorem dX8_granted_7 : decode cX8_granted 7 = .ok (.ireturn, 1) := dk_172 (dk_at dksX8_granted_0 7 rfl rfl)
abbrev cX8_leave : ByteArray := prog_26_method_118_code
def yX8_leave : MethodName := ⟨RX8, "leave", "(I)Z"⟩
def dkwX8_leave_2 : List UInt8 := [96, 16, 254, 79, 42, 182, 1, 238, 172]
abbrev dktX8_leave_2 : List UInt8 := dkwX8_leave_2 ++ []
def dkwX8_leave_1 : List UInt8 := [27, 96, 46, 16, 254, 160, 0, 9, 42, 8, 182, 1, 232, 172, 42, 182, 1, 235, 42, 180, 0, 17, 3, 27]
abbrev dktX8_leave_1 : List UInt8 := dkwX8_leave_1 ++ dktX8_leave_2
def dkwX8_leave_0 : List UInt8 := [42, 3, 181, 0, 45, 42, 27, 182, 1, 103, 154, 0, 9, 42, 4, 182, 1, 232, 172, 42, 180, 0, 17, 3]
abbrev dktX8_leave_0 : List UInt8 := dkwX8_leave_0 ++ dktX8_leave_1
theorem dksX8_leave_0 : cX8_leave.data.toList.drop 0 = dktX8_leave_0 := by decide +kernel
theorem dksX8_leave_1 : cX8_leave.data.toList.drop 24 = dktX8_leave_1 := dk_seg dksX8_leave_0 24 rfl rfl
theorem dksX8_leave_2 : cX8_leave.data.toList.drop 48 = dktX8_leave_2 := dk_seg dksX8_leave_1 24 rfl rfl
theorem dX8_leave_0 : decode cX8_leave 0 = .ok (.aload_n 0, 1) := dk_42 (dk_at dksX8_leave_0 0 rfl rfl)
theorem dX8_leave_1 : decode cX8_leave 1 = .ok (.iconst 0, 1) := dk_3 (dk_at dksX8_leave_0 1 rfl rfl)
theorem dX8_leave_2 : decode cX8_leave 2 = .ok (.putfield 45, 3) := dk_181 0 45 (dk_at dksX8_leave_0 2 rfl rfl)
theorem dX8_leave_5 : decode cX8_leave 5 = .ok (.aload_n 0, 1) := dk_42 (dk_at dksX8_leave_0 5 rfl rfl)
theorem dX8_leave_6 : decode cX8_leave 6 = .ok (.iload_n 1, 1) := dk_27 (dk_at dksX8_leave_0 6 rfl rfl)
theorem dX8_leave_7 : decode cX8_leave 7 = .ok (.invokevirtual 359, 3) := dk_182 1 103 (dk_at dksX8_leave_0 7 rfl rfl)
theorem dX8_leave_10 : decode cX8_leave 10 = .ok (.ifCond .ne 9, 3) := dk_154 0 9 (dk_at dksX8_leave_0 10 rfl rfl)
theorem dX8_leave_13 : decode cX8_leave 13 = .ok (.aload_n 0, 1) := dk_42 (dk_at dksX8_leave_0 13 rfl rfl)
theorem dX8_leave_14 : decode cX8_leave 14 = .ok (.iconst 1, 1) := dk_4 (dk_at dksX8_leave_0 14 rfl rfl)
theorem dX8_leave_15 : decode cX8_leave 15 = .ok (.invokevirtual 488, 3) := dk_182 1 232 (dk_at dksX8_leave_0 15 rfl rfl)
theorem dX8_leave_18 : decode cX8_leave 18 = .ok (.ireturn, 1) := dk_172 (dk_at dksX8_leave_0 18 rfl rfl)
theorem dX8_leave_19 : decode cX8_leave 19 = .ok (.aload_n 0, 1) := dk_42 (dk_at dksX8_leave_0 19 rfl rfl)
theorem dX8_leave_20 : decode cX8_leave 20 = .ok (.getfield 17, 3) := dk_180 0 17 (dk_at dksX8_leave_0 20 rfl rfl)
theorem dX8_leave_23 : decode cX8_leave 23 = .ok (.iconst 0, 1) := dk_3 (dk_at dksX8_leave_0 23 rfl rfl)
theorem dX8_leave_24 : decode cX8_leave 24 = .ok (.iload_n 1, 1) := dk_27 (dk_at dksX8_leave_1 0 rfl rfl)
theorem dX8_leave_25 : decode cX8_leave 25 = .ok (.iadd, 1) := dk_96 (dk_at dksX8_leave_1 1 rfl rfl)
theorem dX8_leave_26 : decode cX8_leave 26 = .ok (.iaload, 1) := dk_46 (dk_at dksX8_leave_1 2 rfl rfl)
theorem dX8_leave_27 : decode cX8_leave 27 = .ok (.bipush (-2), 2) := dk_16 254 (dk_at dksX8_leave_1 3 rfl rfl)
theorem dX8_leave_29 : decode cX8_leave 29 = .ok (.if_icmp .ne 9, 3) := dk_160 0 9 (dk_at dksX8_leave_1 5 rfl rfl)
theorem dX8_leave_32 : decode cX8_leave 32 = .ok (.aload_n 0, 1) := dk_42 (dk_at dksX8_leave_1 8 rfl rfl)
theorem dX8_leave_33 : decode cX8_leave 33 = .ok (.iconst 5, 1) := dk_8 (dk_at dksX8_leave_1 9 rfl rfl)
theorem dX8_leave_34 : decode cX8_leave 34 = .ok (.invokevirtual 488, 3) := dk_182 1 232 (dk_at dksX8_leave_1 10 rfl rfl)
theorem dX8_leave_37 : decode cX8_leave 37 = .ok (.ireturn, 1) := dk_172 (dk_at dksX8_leave_1 13 rfl rfl)
theorem dX8_leave_38 : decode cX8_leave 38 = .ok (.aload_n 0, 1) := dk_42 (dk_at dksX8_leave_1 14 rfl rfl)
theorem dX8_leave_39 : decode cX8_leave 39 = .ok (.invokevirtual 491, 3) := dk_182 1 235 (dk_at dksX8_leave_1 15 rfl rfl)
theorem dX8_leave_42 : decode cX8_leave 42 = .ok (.aload_n 0, 1) := dk_42 (dk_at dksX8_leave_1 18 rfl rfl)
theorem dX8_leave_43 : decode cX8_leave 43 = .ok (.getfield 17, 3) := dk_180 0 17 (dk_at dksX8_leave_1 19 rfl rfl)
theorem dX8_leave_46 : decode cX8_leave 46 = .ok (.iconst 0, 1) := dk_3 (dk_at dksX8_leave_1 22 rfl rfl)
theorem dX8_leave_47 : decode cX8_leave 47 = .ok (.iload_n 1, 1) := dk_27 (dk_at dksX8_leave_1 23 rfl rfl)
theorem dX8_leave_48 : decode cX8_leave 48 = .ok (.iadd, 1) := dk_96 (dk_at dksX8_leave_2 0 rfl rfl)
theorem dX8_leave_49 : decode cX8_leave 49 = .ok (.bipush (-2), 2) := dk_16 254 (dk_at dksX8_leave_2 1 rfl rfl)
theorem dX8_leave_51 : decode cX8_leave 51 = .ok (.iastore, 1) := dk_79 (dk_at dksX8_leave_2 3 rfl rfl)
theorem dX8_leave_52 : decode cX8_leave 52 = .ok (.aload_n 0, 1) := dk_42 (dk_at dksX8_leave_2 4 rfl rfl)
theorem dX8_leave_53 : decode cX8_leave 53 = .ok (.invokevirtual 494, 3) := dk_182 1 238 (dk_at dksX8_leave_2 5 rfl rfl)
theorem dX8_leave_56 : decode cX8_leave 56 = .ok (.ireturn, 1) := dk_172 (dk_at dksX8_leave_2 8 rfl rfl)
abbrev cX8_exchange : ByteArray := prog_26_method_119_code
def yX8_exchange : MethodName := ⟨RX8, "exchange", "(II)Z"⟩
def dkwX8_exchange_2 : List UInt8 := [182, 1, 232, 172, 42, 182, 1, 235, 42, 180, 0, 17, 27, 28, 184, 1, 89, 42, 182, 1, 238, 172]
abbrev dktX8_exchange_2 : List UInt8 := dkwX8_exchange_2 ++ []
def dkwX8_exchange_1 : List UInt8 := [160, 0, 9, 42, 4, 182, 1, 232, 172, 42, 42, 180, 0, 17, 27, 28, 182, 1, 155, 154, 0, 9, 42, 8]
abbrev dktX8_exchange_1 : List UInt8 := dkwX8_exchange_1 ++ dktX8_exchange_2
def dkwX8_exchange_0 : List UInt8 := [42, 3, 181, 0, 45, 42, 27, 182, 1, 103, 153, 0, 16, 42, 28, 182, 1, 103, 153, 0, 8, 27, 28]
abbrev dktX8_exchange_0 : List UInt8 := dkwX8_exchange_0 ++ dktX8_exchange_1
theorem dksX8_exchange_0 : cX8_exchange.data.toList.drop 0 = dktX8_exchange_0 := by decide +kernel
theorem dksX8_exchange_1 : cX8_exchange.data.toList.drop 23 = dktX8_exchange_1 := dk_seg dksX8_exchange_0 23 rfl rfl
theorem dksX8_exchange_2 : cX8_exchange.data.toList.drop 47 = dktX8_exchange_2 := dk_seg dksX8_exchange_1 24 rfl rfl
theorem dX8_exchange_0 : decode cX8_exchange 0 = .ok (.aload_n 0, 1) := dk_42 (dk_at dksX8_exchange_0 0 rfl rfl)
theorem dX8_exchange_1 : decode cX8_exchange 1 = .ok (.iconst 0, 1) := dk_3 (dk_at dksX8_exchange_0 1 rfl rfl)
theorem dX8_exchange_2 : decode cX8_exchange 2 = .ok (.putfield 45, 3) := dk_181 0 45 (dk_at dksX8_exchange_0 2 rfl rfl)
theorem dX8_exchange_5 : decode cX8_exchange 5 = .ok (.aload_n 0, 1) := dk_42 (dk_at dksX8_exchange_0 5 rfl rfl)
theorem dX8_exchange_6 : decode cX8_exchange 6 = .ok (.iload_n 1, 1) := dk_27 (dk_at dksX8_exchange_0 6 rfl rfl)
theorem dX8_exchange_7 : decode cX8_exchange 7 = .ok (.invokevirtual 359, 3) := dk_182 1 103 (dk_at dksX8_exchange_0 7 rfl rfl)
theorem dX8_exchange_10 : decode cX8_exchange 10 = .ok (.ifCond .eq 16, 3) := dk_153 0 16 (dk_at dksX8_exchange_0 10 rfl rfl)
theorem dX8_exchange_13 : decode cX8_exchange 13 = .ok (.aload_n 0, 1) := dk_42 (dk_at dksX8_exchange_0 13 rfl rfl)
theorem dX8_exchange_14 : decode cX8_exchange 14 = .ok (.iload_n 2, 1) := dk_28 (dk_at dksX8_exchange_0 14 rfl rfl)
theorem dX8_exchange_15 : decode cX8_exchange 15 = .ok (.invokevirtual 359, 3) := dk_182 1 103 (dk_at dksX8_exchange_0 15 rfl rfl)
theorem dX8_exchange_18 : decode cX8_exchange 18 = .ok (.ifCond .eq 8, 3) := dk_153 0 8 (dk_at dksX8_exchange_0 18 rfl rfl)
theorem dX8_exchange_21 : decode cX8_exchange 21 = .ok (.iload_n 1, 1) := dk_27 (dk_at dksX8_exchange_0 21 rfl rfl)
theorem dX8_exchange_22 : decode cX8_exchange 22 = .ok (.iload_n 2, 1) := dk_28 (dk_at dksX8_exchange_0 22 rfl rfl)
theorem dX8_exchange_23 : decode cX8_exchange 23 = .ok (.if_icmp .ne 9, 3) := dk_160 0 9 (dk_at dksX8_exchange_1 0 rfl rfl)
theorem dX8_exchange_26 : decode cX8_exchange 26 = .ok (.aload_n 0, 1) := dk_42 (dk_at dksX8_exchange_1 3 rfl rfl)
theorem dX8_exchange_27 : decode cX8_exchange 27 = .ok (.iconst 1, 1) := dk_4 (dk_at dksX8_exchange_1 4 rfl rfl)
theorem dX8_exchange_28 : decode cX8_exchange 28 = .ok (.invokevirtual 488, 3) := dk_182 1 232 (dk_at dksX8_exchange_1 5 rfl rfl)
theorem dX8_exchange_31 : decode cX8_exchange 31 = .ok (.ireturn, 1) := dk_172 (dk_at dksX8_exchange_1 8 rfl rfl)
theorem dX8_exchange_32 : decode cX8_exchange 32 = .ok (.aload_n 0, 1) := dk_42 (dk_at dksX8_exchange_1 9 rfl rfl)
theorem dX8_exchange_33 : decode cX8_exchange 33 = .ok (.aload_n 0, 1) := dk_42 (dk_at dksX8_exchange_1 10 rfl rfl)
theorem dX8_exchange_34 : decode cX8_exchange 34 = .ok (.getfield 17, 3) := dk_180 0 17 (dk_at dksX8_exchange_1 11 rfl rfl)
theorem dX8_exchange_37 : decode cX8_exchange 37 = .ok (.iload_n 1, 1) := dk_27 (dk_at dksX8_exchange_1 14 rfl rfl)
theorem dX8_exchange_38 : decode cX8_exchange 38 = .ok (.iload_n 2, 1) := dk_28 (dk_at dksX8_exchange_1 15 rfl rfl)
theorem dX8_exchange_39 : decode cX8_exchange 39 = .ok (.invokevirtual 411, 3) := dk_182 1 155 (dk_at dksX8_exchange_1 16 rfl rfl)
theorem dX8_exchange_42 : decode cX8_exchange 42 = .ok (.ifCond .ne 9, 3) := dk_154 0 9 (dk_at dksX8_exchange_1 19 rfl rfl)
theorem dX8_exchange_45 : decode cX8_exchange 45 = .ok (.aload_n 0, 1) := dk_42 (dk_at dksX8_exchange_1 22 rfl rfl)
theorem dX8_exchange_46 : decode cX8_exchange 46 = .ok (.iconst 5, 1) := dk_8 (dk_at dksX8_exchange_1 23 rfl rfl)
theorem dX8_exchange_47 : decode cX8_exchange 47 = .ok (.invokevirtual 488, 3) := dk_182 1 232 (dk_at dksX8_exchange_2 0 rfl rfl)
theorem dX8_exchange_50 : decode cX8_exchange 50 = .ok (.ireturn, 1) := dk_172 (dk_at dksX8_exchange_2 3 rfl rfl)
theorem dX8_exchange_51 : decode cX8_exchange 51 = .ok (.aload_n 0, 1) := dk_42 (dk_at dksX8_exchange_2 4 rfl rfl)
theorem dX8_exchange_52 : decode cX8_exchange 52 = .ok (.invokevirtual 491, 3) := dk_182 1 235 (dk_at dksX8_exchange_2 5 rfl rfl)
theorem dX8_exchange_55 : decode cX8_exchange 55 = .ok (.aload_n 0, 1) := dk_42 (dk_at dksX8_exchange_2 8 rfl rfl)
theorem dX8_exchange_56 : decode cX8_exchange 56 = .ok (.getfield 17, 3) := dk_180 0 17 (dk_at dksX8_exchange_2 9 rfl rfl)
theorem dX8_exchange_59 : decode cX8_exchange 59 = .ok (.iload_n 1, 1) := dk_27 (dk_at dksX8_exchange_2 12 rfl rfl)
theorem dX8_exchange_60 : decode cX8_exchange 60 = .ok (.iload_n 2, 1) := dk_28 (dk_at dksX8_exchange_2 13 rfl rfl)
theorem dX8_exchange_61 : decode cX8_exchange 61 = .ok (.invokestatic 345, 3) := dk_184 1 89 (dk_at dksX8_exchange_2 14 rfl rfl)
theorem dX8_exchange_64 : decode cX8_exchange 64 = .ok (.aload_n 0, 1) := dk_42 (dk_at dksX8_exchange_2 17 rfl rfl)
theorem dX8_exchange_65 : decode cX8_exchange 65 = .ok (.invokevirtual 494, 3) := dk_182 1 238 (dk_at dksX8_exchange_2 18 rfl rfl)
theorem dX8_exchange_68 : decode cX8_exchange 68 = .ok (.ireturn, 1) := dk_172 (dk_at dksX8_exchange_2 21 rfl rfl)
abbrev cX8_day : ByteArray := prog_26_method_120_code
def yX8_day : MethodName := ⟨RX8, "day", "(Z)I"⟩
def dkwX8_day_3 : List UInt8 := [167, 0, 4, 4, 96, 61, 132, 3, 1, 167, 255, 215, 42, 28, 182, 0, 55, 172]
abbrev dktX8_day_3 : List UInt8 := dkwX8_day_3 ++ []
def dkwX8_day_2 : List UInt8 := [162, 0, 36, 28, 42, 180, 0, 17, 8, 29, 96, 46, 42, 180, 0, 21, 8, 29, 96, 46, 160, 0, 7, 3]
abbrev dktX8_day_2 : List UInt8 := dkwX8_day_2 ++ dktX8_day_3
def dkwX8_day_1 : List UInt8 := [182, 1, 137, 42, 42, 180, 0, 17, 27, 182, 1, 96, 3, 61, 3, 62, 29, 42, 180, 1, 60, 180, 0, 194]
abbrev dktX8_day_1 : List UInt8 := dkwX8_day_1 ++ dktX8_day_2
def dkwX8_day_0 : List UInt8 := [42, 3, 181, 0, 45, 42, 180, 1, 60, 199, 0, 9, 42, 4, 182, 0, 51, 172, 42, 182, 1, 235, 42]
abbrev dktX8_day_0 : List UInt8 := dkwX8_day_0 ++ dktX8_day_1
theorem dksX8_day_0 : cX8_day.data.toList.drop 0 = dktX8_day_0 := by decide +kernel
theorem dksX8_day_1 : cX8_day.data.toList.drop 23 = dktX8_day_1 := dk_seg dksX8_day_0 23 rfl rfl
theorem dksX8_day_2 : cX8_day.data.toList.drop 47 = dktX8_day_2 := dk_seg dksX8_day_1 24 rfl rfl
theorem dksX8_day_3 : cX8_day.data.toList.drop 71 = dktX8_day_3 := dk_seg dksX8_day_2 24 rfl rfl
theorem dX8_day_0 : decode cX8_day 0 = .ok (.aload_n 0, 1) := dk_42 (dk_at dksX8_day_0 0 rfl rfl)
theorem dX8_day_1 : decode cX8_day 1 = .ok (.iconst 0, 1) := dk_3 (dk_at dksX8_day_0 1 rfl rfl)
theorem dX8_day_2 : decode cX8_day 2 = .ok (.putfield 45, 3) := dk_181 0 45 (dk_at dksX8_day_0 2 rfl rfl)
theorem dX8_day_5 : decode cX8_day 5 = .ok (.aload_n 0, 1) := dk_42 (dk_at dksX8_day_0 5 rfl rfl)
theorem dX8_day_6 : decode cX8_day 6 = .ok (.getfield 316, 3) := dk_180 1 60 (dk_at dksX8_day_0 6 rfl rfl)
theorem dX8_day_9 : decode cX8_day 9 = .ok (.ifnonnull 9, 3) := dk_199 0 9 (dk_at dksX8_day_0 9 rfl rfl)
theorem dX8_day_12 : decode cX8_day 12 = .ok (.aload_n 0, 1) := dk_42 (dk_at dksX8_day_0 12 rfl rfl)
theorem dX8_day_13 : decode cX8_day 13 = .ok (.iconst 1, 1) := dk_4 (dk_at dksX8_day_0 13 rfl rfl)
theorem dX8_day_14 : decode cX8_day 14 = .ok (.invokevirtual 51, 3) := dk_182 0 51 (dk_at dksX8_day_0 14 rfl rfl)
theorem dX8_day_17 : decode cX8_day 17 = .ok (.ireturn, 1) := dk_172 (dk_at dksX8_day_0 17 rfl rfl)
theorem dX8_day_18 : decode cX8_day 18 = .ok (.aload_n 0, 1) := dk_42 (dk_at dksX8_day_0 18 rfl rfl)
theorem dX8_day_19 : decode cX8_day 19 = .ok (.invokevirtual 491, 3) := dk_182 1 235 (dk_at dksX8_day_0 19 rfl rfl)
theorem dX8_day_22 : decode cX8_day 22 = .ok (.aload_n 0, 1) := dk_42 (dk_at dksX8_day_0 22 rfl rfl)
theorem dX8_day_23 : decode cX8_day 23 = .ok (.invokevirtual 393, 3) := dk_182 1 137 (dk_at dksX8_day_1 0 rfl rfl)
theorem dX8_day_26 : decode cX8_day 26 = .ok (.aload_n 0, 1) := dk_42 (dk_at dksX8_day_1 3 rfl rfl)
theorem dX8_day_27 : decode cX8_day 27 = .ok (.aload_n 0, 1) := dk_42 (dk_at dksX8_day_1 4 rfl rfl)
theorem dX8_day_28 : decode cX8_day 28 = .ok (.getfield 17, 3) := dk_180 0 17 (dk_at dksX8_day_1 5 rfl rfl)
theorem dX8_day_31 : decode cX8_day 31 = .ok (.iload_n 1, 1) := dk_27 (dk_at dksX8_day_1 8 rfl rfl)
theorem dX8_day_32 : decode cX8_day 32 = .ok (.invokevirtual 352, 3) := dk_182 1 96 (dk_at dksX8_day_1 9 rfl rfl)
theorem dX8_day_35 : decode cX8_day 35 = .ok (.iconst 0, 1) := dk_3 (dk_at dksX8_day_1 12 rfl rfl)
theorem dX8_day_36 : decode cX8_day 36 = .ok (.istore_n 2, 1) := dk_61 (dk_at dksX8_day_1 13 rfl rfl)
theorem dX8_day_37 : decode cX8_day 37 = .ok (.iconst 0, 1) := dk_3 (dk_at dksX8_day_1 14 rfl rfl)
theorem dX8_day_38 : decode cX8_day 38 = .ok (.istore_n 3, 1) := dk_62 (dk_at dksX8_day_1 15 rfl rfl)
theorem dX8_day_39 : decode cX8_day 39 = .ok (.iload_n 3, 1) := dk_29 (dk_at dksX8_day_1 16 rfl rfl)
theorem dX8_day_40 : decode cX8_day 40 = .ok (.aload_n 0, 1) := dk_42 (dk_at dksX8_day_1 17 rfl rfl)
theorem dX8_day_41 : decode cX8_day 41 = .ok (.getfield 316, 3) := dk_180 1 60 (dk_at dksX8_day_1 18 rfl rfl)
theorem dX8_day_44 : decode cX8_day 44 = .ok (.getfield 194, 3) := dk_180 0 194 (dk_at dksX8_day_1 21 rfl rfl)
theorem dX8_day_47 : decode cX8_day 47 = .ok (.if_icmp .ge 36, 3) := dk_162 0 36 (dk_at dksX8_day_2 0 rfl rfl)
theorem dX8_day_50 : decode cX8_day 50 = .ok (.iload_n 2, 1) := dk_28 (dk_at dksX8_day_2 3 rfl rfl)
theorem dX8_day_51 : decode cX8_day 51 = .ok (.aload_n 0, 1) := dk_42 (dk_at dksX8_day_2 4 rfl rfl)
theorem dX8_day_52 : decode cX8_day 52 = .ok (.getfield 17, 3) := dk_180 0 17 (dk_at dksX8_day_2 5 rfl rfl)
theorem dX8_day_55 : decode cX8_day 55 = .ok (.iconst 5, 1) := dk_8 (dk_at dksX8_day_2 8 rfl rfl)
theorem dX8_day_56 : decode cX8_day 56 = .ok (.iload_n 3, 1) := dk_29 (dk_at dksX8_day_2 9 rfl rfl)
theorem dX8_day_57 : decode cX8_day 57 = .ok (.iadd, 1) := dk_96 (dk_at dksX8_day_2 10 rfl rfl)
theorem dX8_day_58 : decode cX8_day 58 = .ok (.iaload, 1) := dk_46 (dk_at dksX8_day_2 11 rfl rfl)
theorem dX8_day_59 : decode cX8_day 59 = .ok (.aload_n 0, 1) := dk_42 (dk_at dksX8_day_2 12 rfl rfl)
theorem dX8_day_60 : decode cX8_day 60 = .ok (.getfield 21, 3) := dk_180 0 21 (dk_at dksX8_day_2 13 rfl rfl)
theorem dX8_day_63 : decode cX8_day 63 = .ok (.iconst 5, 1) := dk_8 (dk_at dksX8_day_2 16 rfl rfl)
theorem dX8_day_64 : decode cX8_day 64 = .ok (.iload_n 3, 1) := dk_29 (dk_at dksX8_day_2 17 rfl rfl)
theorem dX8_day_65 : decode cX8_day 65 = .ok (.iadd, 1) := dk_96 (dk_at dksX8_day_2 18 rfl rfl)
theorem dX8_day_66 : decode cX8_day 66 = .ok (.iaload, 1) := dk_46 (dk_at dksX8_day_2 19 rfl rfl)
theorem dX8_day_67 : decode cX8_day 67 = .ok (.if_icmp .ne 7, 3) := dk_160 0 7 (dk_at dksX8_day_2 20 rfl rfl)
theorem dX8_day_70 : decode cX8_day 70 = .ok (.iconst 0, 1) := dk_3 (dk_at dksX8_day_2 23 rfl rfl)
theorem dX8_day_71 : decode cX8_day 71 = .ok (.goto 4, 3) := dk_167 0 4 (dk_at dksX8_day_3 0 rfl rfl)
theorem dX8_day_74 : decode cX8_day 74 = .ok (.iconst 1, 1) := dk_4 (dk_at dksX8_day_3 3 rfl rfl)
theorem dX8_day_75 : decode cX8_day 75 = .ok (.iadd, 1) := dk_96 (dk_at dksX8_day_3 4 rfl rfl)
theorem dX8_day_76 : decode cX8_day 76 = .ok (.istore_n 2, 1) := dk_61 (dk_at dksX8_day_3 5 rfl rfl)
theorem dX8_day_77 : decode cX8_day 77 = .ok (.iinc 3 1, 3) := dk_132 3 1 (dk_at dksX8_day_3 6 rfl rfl)
theorem dX8_day_80 : decode cX8_day 80 = .ok (.goto (-41), 3) := dk_167 255 215 (dk_at dksX8_day_3 9 rfl rfl)
theorem dX8_day_83 : decode cX8_day 83 = .ok (.aload_n 0, 1) := dk_42 (dk_at dksX8_day_3 12 rfl rfl)
theorem dX8_day_84 : decode cX8_day 84 = .ok (.iload_n 2, 1) := dk_28 (dk_at dksX8_day_3 13 rfl rfl)
theorem dX8_day_85 : decode cX8_day 85 = .ok (.invokevirtual 55, 3) := dk_182 0 55 (dk_at dksX8_day_3 14 rfl rfl)
theorem dX8_day_88 : decode cX8_day 88 = .ok (.ireturn, 1) := dk_172 (dk_at dksX8_day_3 17 rfl rfl)
abbrev cX8_undo : ByteArray := prog_26_method_121_code
def yX8_undo : MethodName := ⟨RX8, "undo", "()Z"⟩
def dkwX8_undo_3 : List UInt8 := [167, 255, 227, 42, 182, 1, 238, 172]
abbrev dktX8_undo_3 : List UInt8 := dkwX8_undo_3 ++ []
def dkwX8_undo_2 : List UInt8 := [180, 0, 17, 27, 42, 180, 0, 24, 16, 11, 42, 180, 1, 66, 104, 27, 96, 46, 79, 132, 1, 1]
abbrev dktX8_undo_2 : List UInt8 := dkwX8_undo_2 ++ dktX8_undo_3
def dkwX8_undo_1 : List UInt8 := [182, 1, 232, 172, 42, 89, 180, 1, 66, 4, 100, 181, 1, 66, 3, 60, 27, 16, 11, 162, 0, 29, 42]
abbrev dktX8_undo_1 : List UInt8 := dkwX8_undo_1 ++ dktX8_undo_2
def dkwX8_undo_0 : List UInt8 := [42, 3, 181, 0, 45, 42, 180, 1, 60, 198, 0, 10, 42, 180, 1, 66, 154, 0, 10, 42, 16, 6]
abbrev dktX8_undo_0 : List UInt8 := dkwX8_undo_0 ++ dktX8_undo_1
theorem dksX8_undo_0 : cX8_undo.data.toList.drop 0 = dktX8_undo_0 := by decide +kernel
theorem dksX8_undo_1 : cX8_undo.data.toList.drop 22 = dktX8_undo_1 := dk_seg dksX8_undo_0 22 rfl rfl
theorem dksX8_undo_2 : cX8_undo.data.toList.drop 45 = dktX8_undo_2 := dk_seg dksX8_undo_1 23 rfl rfl
theorem dksX8_undo_3 : cX8_undo.data.toList.drop 67 = dktX8_undo_3 := dk_seg dksX8_undo_2 22 rfl rfl
theorem dX8_undo_0 : decode cX8_undo 0 = .ok (.aload_n 0, 1) := dk_42 (dk_at dksX8_undo_0 0 rfl rfl)
theorem dX8_undo_1 : decode cX8_undo 1 = .ok (.iconst 0, 1) := dk_3 (dk_at dksX8_undo_0 1 rfl rfl)
theorem dX8_undo_2 : decode cX8_undo 2 = .ok (.putfield 45, 3) := dk_181 0 45 (dk_at dksX8_undo_0 2 rfl rfl)
theorem dX8_undo_5 : decode cX8_undo 5 = .ok (.aload_n 0, 1) := dk_42 (dk_at dksX8_undo_0 5 rfl rfl)
theorem dX8_undo_6 : decode cX8_undo 6 = .ok (.getfield 316, 3) := dk_180 1 60 (dk_at dksX8_undo_0 6 rfl rfl)
theorem dX8_undo_9 : decode cX8_undo 9 = .ok (.ifnull 10, 3) := dk_198 0 10 (dk_at dksX8_undo_0 9 rfl rfl)
theorem dX8_undo_12 : decode cX8_undo 12 = .ok (.aload_n 0, 1) := dk_42 (dk_at dksX8_undo_0 12 rfl rfl)
theorem dX8_undo_13 : decode cX8_undo 13 = .ok (.getfield 322, 3) := dk_180 1 66 (dk_at dksX8_undo_0 13 rfl rfl)
theorem dX8_undo_16 : decode cX8_undo 16 = .ok (.ifCond .ne 10, 3) := dk_154 0 10 (dk_at dksX8_undo_0 16 rfl rfl)
theorem dX8_undo_19 : decode cX8_undo 19 = .ok (.aload_n 0, 1) := dk_42 (dk_at dksX8_undo_0 19 rfl rfl)
theorem dX8_undo_20 : decode cX8_undo 20 = .ok (.bipush 6, 2) := dk_16 6 (dk_at dksX8_undo_0 20 rfl rfl)
theorem dX8_undo_22 : decode cX8_undo 22 = .ok (.invokevirtual 488, 3) := dk_182 1 232 (dk_at dksX8_undo_1 0 rfl rfl)
theorem dX8_undo_25 : decode cX8_undo 25 = .ok (.ireturn, 1) := dk_172 (dk_at dksX8_undo_1 3 rfl rfl)
theorem dX8_undo_26 : decode cX8_undo 26 = .ok (.aload_n 0, 1) := dk_42 (dk_at dksX8_undo_1 4 rfl rfl)
theorem dX8_undo_27 : decode cX8_undo 27 = .ok (.dup, 1) := dk_89 (dk_at dksX8_undo_1 5 rfl rfl)
theorem dX8_undo_28 : decode cX8_undo 28 = .ok (.getfield 322, 3) := dk_180 1 66 (dk_at dksX8_undo_1 6 rfl rfl)
theorem dX8_undo_31 : decode cX8_undo 31 = .ok (.iconst 1, 1) := dk_4 (dk_at dksX8_undo_1 9 rfl rfl)
theorem dX8_undo_32 : decode cX8_undo 32 = .ok (.isub, 1) := dk_100 (dk_at dksX8_undo_1 10 rfl rfl)
theorem dX8_undo_33 : decode cX8_undo 33 = .ok (.putfield 322, 3) := dk_181 1 66 (dk_at dksX8_undo_1 11 rfl rfl)
theorem dX8_undo_36 : decode cX8_undo 36 = .ok (.iconst 0, 1) := dk_3 (dk_at dksX8_undo_1 14 rfl rfl)
theorem dX8_undo_37 : decode cX8_undo 37 = .ok (.istore_n 1, 1) := dk_60 (dk_at dksX8_undo_1 15 rfl rfl)
theorem dX8_undo_38 : decode cX8_undo 38 = .ok (.iload_n 1, 1) := dk_27 (dk_at dksX8_undo_1 16 rfl rfl)
theorem dX8_undo_39 : decode cX8_undo 39 = .ok (.bipush 11, 2) := dk_16 11 (dk_at dksX8_undo_1 17 rfl rfl)
theorem dX8_undo_41 : decode cX8_undo 41 = .ok (.if_icmp .ge 29, 3) := dk_162 0 29 (dk_at dksX8_undo_1 19 rfl rfl)
theorem dX8_undo_44 : decode cX8_undo 44 = .ok (.aload_n 0, 1) := dk_42 (dk_at dksX8_undo_1 22 rfl rfl)
theorem dX8_undo_45 : decode cX8_undo 45 = .ok (.getfield 17, 3) := dk_180 0 17 (dk_at dksX8_undo_2 0 rfl rfl)
theorem dX8_undo_48 : decode cX8_undo 48 = .ok (.iload_n 1, 1) := dk_27 (dk_at dksX8_undo_2 3 rfl rfl)
theorem dX8_undo_49 : decode cX8_undo 49 = .ok (.aload_n 0, 1) := dk_42 (dk_at dksX8_undo_2 4 rfl rfl)
theorem dX8_undo_50 : decode cX8_undo 50 = .ok (.getfield 24, 3) := dk_180 0 24 (dk_at dksX8_undo_2 5 rfl rfl)
theorem dX8_undo_53 : decode cX8_undo 53 = .ok (.bipush 11, 2) := dk_16 11 (dk_at dksX8_undo_2 8 rfl rfl)
theorem dX8_undo_55 : decode cX8_undo 55 = .ok (.aload_n 0, 1) := dk_42 (dk_at dksX8_undo_2 10 rfl rfl)
theorem dX8_undo_56 : decode cX8_undo 56 = .ok (.getfield 322, 3) := dk_180 1 66 (dk_at dksX8_undo_2 11 rfl rfl)
theorem dX8_undo_59 : decode cX8_undo 59 = .ok (.imul, 1) := dk_104 (dk_at dksX8_undo_2 14 rfl rfl)
theorem dX8_undo_60 : decode cX8_undo 60 = .ok (.iload_n 1, 1) := dk_27 (dk_at dksX8_undo_2 15 rfl rfl)
theorem dX8_undo_61 : decode cX8_undo 61 = .ok (.iadd, 1) := dk_96 (dk_at dksX8_undo_2 16 rfl rfl)
theorem dX8_undo_62 : decode cX8_undo 62 = .ok (.iaload, 1) := dk_46 (dk_at dksX8_undo_2 17 rfl rfl)
theorem dX8_undo_63 : decode cX8_undo 63 = .ok (.iastore, 1) := dk_79 (dk_at dksX8_undo_2 18 rfl rfl)
theorem dX8_undo_64 : decode cX8_undo 64 = .ok (.iinc 1 1, 3) := dk_132 1 1 (dk_at dksX8_undo_2 19 rfl rfl)
theorem dX8_undo_67 : decode cX8_undo 67 = .ok (.goto (-29), 3) := dk_167 255 227 (dk_at dksX8_undo_3 0 rfl rfl)
theorem dX8_undo_70 : decode cX8_undo 70 = .ok (.aload_n 0, 1) := dk_42 (dk_at dksX8_undo_3 3 rfl rfl)
theorem dX8_undo_71 : decode cX8_undo 71 = .ok (.invokevirtual 494, 3) := dk_182 1 238 (dk_at dksX8_undo_3 4 rfl rfl)
theorem dX8_undo_74 : decode cX8_undo 74 = .ok (.ireturn, 1) := dk_172 (dk_at dksX8_undo_3 7 rfl rfl)
abbrev cX8_mark : ByteArray := prog_26_method_122_code
def yX8_mark : MethodName := ⟨RX8, "mark", "()I"⟩
def dkwX8_mark_3 : List UInt8 := [4, 96, 181, 1, 69, 42, 42, 180, 1, 69, 4, 100, 182, 0, 55, 172]
abbrev dktX8_mark_3 : List UInt8 := dkwX8_mark_3 ++ []
def dkwX8_mark_2 : List UInt8 := [180, 1, 69, 104, 27, 96, 42, 180, 0, 17, 27, 46, 79, 132, 1, 1, 167, 255, 227, 42, 89, 180, 1, 69]
abbrev dktX8_mark_2 : List UInt8 := dkwX8_mark_2 ++ dktX8_mark_3
def dkwX8_mark_1 : List UInt8 := [160, 0, 9, 42, 6, 182, 0, 51, 172, 3, 60, 27, 16, 11, 162, 0, 29, 42, 180, 0, 27, 16, 11, 42]
abbrev dktX8_mark_1 : List UInt8 := dkwX8_mark_1 ++ dktX8_mark_2
def dkwX8_mark_0 : List UInt8 := [42, 3, 181, 0, 45, 42, 180, 1, 60, 199, 0, 9, 42, 4, 182, 0, 51, 172, 42, 180, 1, 69, 6]
abbrev dktX8_mark_0 : List UInt8 := dkwX8_mark_0 ++ dktX8_mark_1
theorem dksX8_mark_0 : cX8_mark.data.toList.drop 0 = dktX8_mark_0 := by decide +kernel
theorem dksX8_mark_1 : cX8_mark.data.toList.drop 23 = dktX8_mark_1 := dk_seg dksX8_mark_0 23 rfl rfl
theorem dksX8_mark_2 : cX8_mark.data.toList.drop 47 = dktX8_mark_2 := dk_seg dksX8_mark_1 24 rfl rfl
theorem dksX8_mark_3 : cX8_mark.data.toList.drop 71 = dktX8_mark_3 := dk_seg dksX8_mark_2 24 rfl rfl
theorem dX8_mark_0 : decode cX8_mark 0 = .ok (.aload_n 0, 1) := dk_42 (dk_at dksX8_mark_0 0 rfl rfl)
theorem dX8_mark_1 : decode cX8_mark 1 = .ok (.iconst 0, 1) := dk_3 (dk_at dksX8_mark_0 1 rfl rfl)
theorem dX8_mark_2 : decode cX8_mark 2 = .ok (.putfield 45, 3) := dk_181 0 45 (dk_at dksX8_mark_0 2 rfl rfl)
theorem dX8_mark_5 : decode cX8_mark 5 = .ok (.aload_n 0, 1) := dk_42 (dk_at dksX8_mark_0 5 rfl rfl)
theorem dX8_mark_6 : decode cX8_mark 6 = .ok (.getfield 316, 3) := dk_180 1 60 (dk_at dksX8_mark_0 6 rfl rfl)
theorem dX8_mark_9 : decode cX8_mark 9 = .ok (.ifnonnull 9, 3) := dk_199 0 9 (dk_at dksX8_mark_0 9 rfl rfl)
theorem dX8_mark_12 : decode cX8_mark 12 = .ok (.aload_n 0, 1) := dk_42 (dk_at dksX8_mark_0 12 rfl rfl)
theorem dX8_mark_13 : decode cX8_mark 13 = .ok (.iconst 1, 1) := dk_4 (dk_at dksX8_mark_0 13 rfl rfl)
theorem dX8_mark_14 : decode cX8_mark 14 = .ok (.invokevirtual 51, 3) := dk_182 0 51 (dk_at dksX8_mark_0 14 rfl rfl)
theorem dX8_mark_17 : decode cX8_mark 17 = .ok (.ireturn, 1) := dk_172 (dk_at dksX8_mark_0 17 rfl rfl)
theorem dX8_mark_18 : decode cX8_mark 18 = .ok (.aload_n 0, 1) := dk_42 (dk_at dksX8_mark_0 18 rfl rfl)
theorem dX8_mark_19 : decode cX8_mark 19 = .ok (.getfield 325, 3) := dk_180 1 69 (dk_at dksX8_mark_0 19 rfl rfl)
theorem dX8_mark_22 : decode cX8_mark 22 = .ok (.iconst 3, 1) := dk_6 (dk_at dksX8_mark_0 22 rfl rfl)
theorem dX8_mark_23 : decode cX8_mark 23 = .ok (.if_icmp .ne 9, 3) := dk_160 0 9 (dk_at dksX8_mark_1 0 rfl rfl)
theorem dX8_mark_26 : decode cX8_mark 26 = .ok (.aload_n 0, 1) := dk_42 (dk_at dksX8_mark_1 3 rfl rfl)
theorem dX8_mark_27 : decode cX8_mark 27 = .ok (.iconst 3, 1) := dk_6 (dk_at dksX8_mark_1 4 rfl rfl)
theorem dX8_mark_28 : decode cX8_mark 28 = .ok (.invokevirtual 51, 3) := dk_182 0 51 (dk_at dksX8_mark_1 5 rfl rfl)
theorem dX8_mark_31 : decode cX8_mark 31 = .ok (.ireturn, 1) := dk_172 (dk_at dksX8_mark_1 8 rfl rfl)
theorem dX8_mark_32 : decode cX8_mark 32 = .ok (.iconst 0, 1) := dk_3 (dk_at dksX8_mark_1 9 rfl rfl)
theorem dX8_mark_33 : decode cX8_mark 33 = .ok (.istore_n 1, 1) := dk_60 (dk_at dksX8_mark_1 10 rfl rfl)
theorem dX8_mark_34 : decode cX8_mark 34 = .ok (.iload_n 1, 1) := dk_27 (dk_at dksX8_mark_1 11 rfl rfl)
theorem dX8_mark_35 : decode cX8_mark 35 = .ok (.bipush 11, 2) := dk_16 11 (dk_at dksX8_mark_1 12 rfl rfl)
theorem dX8_mark_37 : decode cX8_mark 37 = .ok (.if_icmp .ge 29, 3) := dk_162 0 29 (dk_at dksX8_mark_1 14 rfl rfl)
theorem dX8_mark_40 : decode cX8_mark 40 = .ok (.aload_n 0, 1) := dk_42 (dk_at dksX8_mark_1 17 rfl rfl)
theorem dX8_mark_41 : decode cX8_mark 41 = .ok (.getfield 27, 3) := dk_180 0 27 (dk_at dksX8_mark_1 18 rfl rfl)
theorem dX8_mark_44 : decode cX8_mark 44 = .ok (.bipush 11, 2) := dk_16 11 (dk_at dksX8_mark_1 21 rfl rfl)
theorem dX8_mark_46 : decode cX8_mark 46 = .ok (.aload_n 0, 1) := dk_42 (dk_at dksX8_mark_1 23 rfl rfl)
theorem dX8_mark_47 : decode cX8_mark 47 = .ok (.getfield 325, 3) := dk_180 1 69 (dk_at dksX8_mark_2 0 rfl rfl)
theorem dX8_mark_50 : decode cX8_mark 50 = .ok (.imul, 1) := dk_104 (dk_at dksX8_mark_2 3 rfl rfl)
theorem dX8_mark_51 : decode cX8_mark 51 = .ok (.iload_n 1, 1) := dk_27 (dk_at dksX8_mark_2 4 rfl rfl)
theorem dX8_mark_52 : decode cX8_mark 52 = .ok (.iadd, 1) := dk_96 (dk_at dksX8_mark_2 5 rfl rfl)
theorem dX8_mark_53 : decode cX8_mark 53 = .ok (.aload_n 0, 1) := dk_42 (dk_at dksX8_mark_2 6 rfl rfl)
theorem dX8_mark_54 : decode cX8_mark 54 = .ok (.getfield 17, 3) := dk_180 0 17 (dk_at dksX8_mark_2 7 rfl rfl)
theorem dX8_mark_57 : decode cX8_mark 57 = .ok (.iload_n 1, 1) := dk_27 (dk_at dksX8_mark_2 10 rfl rfl)
theorem dX8_mark_58 : decode cX8_mark 58 = .ok (.iaload, 1) := dk_46 (dk_at dksX8_mark_2 11 rfl rfl)
theorem dX8_mark_59 : decode cX8_mark 59 = .ok (.iastore, 1) := dk_79 (dk_at dksX8_mark_2 12 rfl rfl)
theorem dX8_mark_60 : decode cX8_mark 60 = .ok (.iinc 1 1, 3) := dk_132 1 1 (dk_at dksX8_mark_2 13 rfl rfl)
theorem dX8_mark_63 : decode cX8_mark 63 = .ok (.goto (-29), 3) := dk_167 255 227 (dk_at dksX8_mark_2 16 rfl rfl)
theorem dX8_mark_66 : decode cX8_mark 66 = .ok (.aload_n 0, 1) := dk_42 (dk_at dksX8_mark_2 19 rfl rfl)
theorem dX8_mark_67 : decode cX8_mark 67 = .ok (.dup, 1) := dk_89 (dk_at dksX8_mark_2 20 rfl rfl)
theorem dX8_mark_68 : decode cX8_mark 68 = .ok (.getfield 325, 3) := dk_180 1 69 (dk_at dksX8_mark_2 21 rfl rfl)
theorem dX8_mark_71 : decode cX8_mark 71 = .ok (.iconst 1, 1) := dk_4 (dk_at dksX8_mark_3 0 rfl rfl)
theorem dX8_mark_72 : decode cX8_mark 72 = .ok (.iadd, 1) := dk_96 (dk_at dksX8_mark_3 1 rfl rfl)
theorem dX8_mark_73 : decode cX8_mark 73 = .ok (.putfield 325, 3) := dk_181 1 69 (dk_at dksX8_mark_3 2 rfl rfl)
theorem dX8_mark_76 : decode cX8_mark 76 = .ok (.aload_n 0, 1) := dk_42 (dk_at dksX8_mark_3 5 rfl rfl)
theorem dX8_mark_77 : decode cX8_mark 77 = .ok (.aload_n 0, 1) := dk_42 (dk_at dksX8_mark_3 6 rfl rfl)
theorem dX8_mark_78 : decode cX8_mark 78 = .ok (.getfield 325, 3) := dk_180 1 69 (dk_at dksX8_mark_3 7 rfl rfl)
theorem dX8_mark_81 : decode cX8_mark 81 = .ok (.iconst 1, 1) := dk_4 (dk_at dksX8_mark_3 10 rfl rfl)
theorem dX8_mark_82 : decode cX8_mark 82 = .ok (.isub, 1) := dk_100 (dk_at dksX8_mark_3 11 rfl rfl)
theorem dX8_mark_83 : decode cX8_mark 83 = .ok (.invokevirtual 55, 3) := dk_182 0 55 (dk_at dksX8_mark_3 12 rfl rfl)
theorem dX8_mark_86 : decode cX8_mark 86 = .ok (.ireturn, 1) := dk_172 (dk_at dksX8_mark_3 15 rfl rfl)
abbrev cX8_back : ByteArray := prog_26_method_123_code
def yX8_back : MethodName := ⟨RX8, "back", "(I)Z"⟩
def dkwX8_back_2 : List UInt8 := [16, 11, 27, 104, 28, 96, 46, 79, 132, 2, 1, 167, 255, 230, 42, 3, 181, 1, 66, 42, 182, 1, 238, 172]
abbrev dktX8_back_2 : List UInt8 := dkwX8_back_2 ++ []
def dkwX8_back_1 : List UInt8 := [42, 4, 182, 1, 232, 172, 3, 61, 28, 16, 11, 162, 0, 26, 42, 180, 0, 17, 28, 42, 180, 0, 27]
abbrev dktX8_back_1 : List UInt8 := dkwX8_back_1 ++ dktX8_back_2
def dkwX8_back_0 : List UInt8 := [42, 3, 181, 0, 45, 42, 180, 1, 60, 198, 0, 15, 27, 155, 0, 11, 27, 42, 180, 1, 69, 161, 0, 9]
abbrev dktX8_back_0 : List UInt8 := dkwX8_back_0 ++ dktX8_back_1
theorem dksX8_back_0 : cX8_back.data.toList.drop 0 = dktX8_back_0 := by decide +kernel
theorem dksX8_back_1 : cX8_back.data.toList.drop 24 = dktX8_back_1 := dk_seg dksX8_back_0 24 rfl rfl
theorem dksX8_back_2 : cX8_back.data.toList.drop 47 = dktX8_back_2 := dk_seg dksX8_back_1 23 rfl rfl
theorem dX8_back_0 : decode cX8_back 0 = .ok (.aload_n 0, 1) := dk_42 (dk_at dksX8_back_0 0 rfl rfl)
theorem dX8_back_1 : decode cX8_back 1 = .ok (.iconst 0, 1) := dk_3 (dk_at dksX8_back_0 1 rfl rfl)
theorem dX8_back_2 : decode cX8_back 2 = .ok (.putfield 45, 3) := dk_181 0 45 (dk_at dksX8_back_0 2 rfl rfl)
theorem dX8_back_5 : decode cX8_back 5 = .ok (.aload_n 0, 1) := dk_42 (dk_at dksX8_back_0 5 rfl rfl)
theorem dX8_back_6 : decode cX8_back 6 = .ok (.getfield 316, 3) := dk_180 1 60 (dk_at dksX8_back_0 6 rfl rfl)
theorem dX8_back_9 : decode cX8_back 9 = .ok (.ifnull 15, 3) := dk_198 0 15 (dk_at dksX8_back_0 9 rfl rfl)
theorem dX8_back_12 : decode cX8_back 12 = .ok (.iload_n 1, 1) := dk_27 (dk_at dksX8_back_0 12 rfl rfl)
theorem dX8_back_13 : decode cX8_back 13 = .ok (.ifCond .lt 11, 3) := dk_155 0 11 (dk_at dksX8_back_0 13 rfl rfl)
theorem dX8_back_16 : decode cX8_back 16 = .ok (.iload_n 1, 1) := dk_27 (dk_at dksX8_back_0 16 rfl rfl)
theorem dX8_back_17 : decode cX8_back 17 = .ok (.aload_n 0, 1) := dk_42 (dk_at dksX8_back_0 17 rfl rfl)
theorem dX8_back_18 : decode cX8_back 18 = .ok (.getfield 325, 3) := dk_180 1 69 (dk_at dksX8_back_0 18 rfl rfl)
theorem dX8_back_21 : decode cX8_back 21 = .ok (.if_icmp .lt 9, 3) := dk_161 0 9 (dk_at dksX8_back_0 21 rfl rfl)
theorem dX8_back_24 : decode cX8_back 24 = .ok (.aload_n 0, 1) := dk_42 (dk_at dksX8_back_1 0 rfl rfl)
theorem dX8_back_25 : decode cX8_back 25 = .ok (.iconst 1, 1) := dk_4 (dk_at dksX8_back_1 1 rfl rfl)
theorem dX8_back_26 : decode cX8_back 26 = .ok (.invokevirtual 488, 3) := dk_182 1 232 (dk_at dksX8_back_1 2 rfl rfl)
theorem dX8_back_29 : decode cX8_back 29 = .ok (.ireturn, 1) := dk_172 (dk_at dksX8_back_1 5 rfl rfl)
theorem dX8_back_30 : decode cX8_back 30 = .ok (.iconst 0, 1) := dk_3 (dk_at dksX8_back_1 6 rfl rfl)
theorem dX8_back_31 : decode cX8_back 31 = .ok (.istore_n 2, 1) := dk_61 (dk_at dksX8_back_1 7 rfl rfl)
theorem dX8_back_32 : decode cX8_back 32 = .ok (.iload_n 2, 1) := dk_28 (dk_at dksX8_back_1 8 rfl rfl)
theorem dX8_back_33 : decode cX8_back 33 = .ok (.bipush 11, 2) := dk_16 11 (dk_at dksX8_back_1 9 rfl rfl)
theorem dX8_back_35 : decode cX8_back 35 = .ok (.if_icmp .ge 26, 3) := dk_162 0 26 (dk_at dksX8_back_1 11 rfl rfl)
theorem dX8_back_38 : decode cX8_back 38 = .ok (.aload_n 0, 1) := dk_42 (dk_at dksX8_back_1 14 rfl rfl)
theorem dX8_back_39 : decode cX8_back 39 = .ok (.getfield 17, 3) := dk_180 0 17 (dk_at dksX8_back_1 15 rfl rfl)
theorem dX8_back_42 : decode cX8_back 42 = .ok (.iload_n 2, 1) := dk_28 (dk_at dksX8_back_1 18 rfl rfl)
theorem dX8_back_43 : decode cX8_back 43 = .ok (.aload_n 0, 1) := dk_42 (dk_at dksX8_back_1 19 rfl rfl)
theorem dX8_back_44 : decode cX8_back 44 = .ok (.getfield 27, 3) := dk_180 0 27 (dk_at dksX8_back_1 20 rfl rfl)
theorem dX8_back_47 : decode cX8_back 47 = .ok (.bipush 11, 2) := dk_16 11 (dk_at dksX8_back_2 0 rfl rfl)
theorem dX8_back_49 : decode cX8_back 49 = .ok (.iload_n 1, 1) := dk_27 (dk_at dksX8_back_2 2 rfl rfl)
theorem dX8_back_50 : decode cX8_back 50 = .ok (.imul, 1) := dk_104 (dk_at dksX8_back_2 3 rfl rfl)
theorem dX8_back_51 : decode cX8_back 51 = .ok (.iload_n 2, 1) := dk_28 (dk_at dksX8_back_2 4 rfl rfl)
theorem dX8_back_52 : decode cX8_back 52 = .ok (.iadd, 1) := dk_96 (dk_at dksX8_back_2 5 rfl rfl)
theorem dX8_back_53 : decode cX8_back 53 = .ok (.iaload, 1) := dk_46 (dk_at dksX8_back_2 6 rfl rfl)
theorem dX8_back_54 : decode cX8_back 54 = .ok (.iastore, 1) := dk_79 (dk_at dksX8_back_2 7 rfl rfl)
theorem dX8_back_55 : decode cX8_back 55 = .ok (.iinc 2 1, 3) := dk_132 2 1 (dk_at dksX8_back_2 8 rfl rfl)
theorem dX8_back_58 : decode cX8_back 58 = .ok (.goto (-26), 3) := dk_167 255 230 (dk_at dksX8_back_2 11 rfl rfl)
theorem dX8_back_61 : decode cX8_back 61 = .ok (.aload_n 0, 1) := dk_42 (dk_at dksX8_back_2 14 rfl rfl)
theorem dX8_back_62 : decode cX8_back 62 = .ok (.iconst 0, 1) := dk_3 (dk_at dksX8_back_2 15 rfl rfl)
theorem dX8_back_63 : decode cX8_back 63 = .ok (.putfield 322, 3) := dk_181 1 66 (dk_at dksX8_back_2 16 rfl rfl)
theorem dX8_back_66 : decode cX8_back 66 = .ok (.aload_n 0, 1) := dk_42 (dk_at dksX8_back_2 19 rfl rfl)
theorem dX8_back_67 : decode cX8_back 67 = .ok (.invokevirtual 494, 3) := dk_182 1 238 (dk_at dksX8_back_2 20 rfl rfl)
theorem dX8_back_70 : decode cX8_back 70 = .ok (.ireturn, 1) := dk_172 (dk_at dksX8_back_2 23 rfl rfl)
abbrev cX8_led : ByteArray := prog_26_method_124_code
def yX8_led : MethodName := ⟨RX8, "led", "(I)I"⟩
def dkwX8_led_2 : List UInt8 := [29, 172, 132, 2, 1, 132, 3, 1, 167, 255, 209, 42, 4, 181, 0, 45, 3, 172]
abbrev dktX8_led_2 : List UInt8 := dkwX8_led_2 ++ []
def dkwX8_led_1 : List UInt8 := [162, 0, 35, 42, 180, 0, 17, 3, 29, 96, 46, 16, 254, 159, 0, 6, 167, 0, 13, 28, 27, 160, 0, 5]
abbrev dktX8_led_1 : List UInt8 := dkwX8_led_1 ++ dktX8_led_2
def dkwX8_led_0 : List UInt8 := [42, 3, 181, 0, 45, 3, 61, 3, 62, 42, 180, 1, 60, 198, 0, 46, 29, 42, 180, 1, 60, 180, 0, 194]
abbrev dktX8_led_0 : List UInt8 := dkwX8_led_0 ++ dktX8_led_1
theorem dksX8_led_0 : cX8_led.data.toList.drop 0 = dktX8_led_0 := by decide +kernel
theorem dksX8_led_1 : cX8_led.data.toList.drop 24 = dktX8_led_1 := dk_seg dksX8_led_0 24 rfl rfl
theorem dksX8_led_2 : cX8_led.data.toList.drop 48 = dktX8_led_2 := dk_seg dksX8_led_1 24 rfl rfl
theorem dX8_led_0 : decode cX8_led 0 = .ok (.aload_n 0, 1) := dk_42 (dk_at dksX8_led_0 0 rfl rfl)
theorem dX8_led_1 : decode cX8_led 1 = .ok (.iconst 0, 1) := dk_3 (dk_at dksX8_led_0 1 rfl rfl)
theorem dX8_led_2 : decode cX8_led 2 = .ok (.putfield 45, 3) := dk_181 0 45 (dk_at dksX8_led_0 2 rfl rfl)
theorem dX8_led_5 : decode cX8_led 5 = .ok (.iconst 0, 1) := dk_3 (dk_at dksX8_led_0 5 rfl rfl)
theorem dX8_led_6 : decode cX8_led 6 = .ok (.istore_n 2, 1) := dk_61 (dk_at dksX8_led_0 6 rfl rfl)
theorem dX8_led_7 : decode cX8_led 7 = .ok (.iconst 0, 1) := dk_3 (dk_at dksX8_led_0 7 rfl rfl)
theorem dX8_led_8 : decode cX8_led 8 = .ok (.istore_n 3, 1) := dk_62 (dk_at dksX8_led_0 8 rfl rfl)
theorem dX8_led_9 : decode cX8_led 9 = .ok (.aload_n 0, 1) := dk_42 (dk_at dksX8_led_0 9 rfl rfl)
theorem dX8_led_10 : decode cX8_led 10 = .ok (.getfield 316, 3) := dk_180 1 60 (dk_at dksX8_led_0 10 rfl rfl)
theorem dX8_led_13 : decode cX8_led 13 = .ok (.ifnull 46, 3) := dk_198 0 46 (dk_at dksX8_led_0 13 rfl rfl)
theorem dX8_led_16 : decode cX8_led 16 = .ok (.iload_n 3, 1) := dk_29 (dk_at dksX8_led_0 16 rfl rfl)
theorem dX8_led_17 : decode cX8_led 17 = .ok (.aload_n 0, 1) := dk_42 (dk_at dksX8_led_0 17 rfl rfl)
theorem dX8_led_18 : decode cX8_led 18 = .ok (.getfield 316, 3) := dk_180 1 60 (dk_at dksX8_led_0 18 rfl rfl)
theorem dX8_led_21 : decode cX8_led 21 = .ok (.getfield 194, 3) := dk_180 0 194 (dk_at dksX8_led_0 21 rfl rfl)
theorem dX8_led_24 : decode cX8_led 24 = .ok (.if_icmp .ge 35, 3) := dk_162 0 35 (dk_at dksX8_led_1 0 rfl rfl)
theorem dX8_led_27 : decode cX8_led 27 = .ok (.aload_n 0, 1) := dk_42 (dk_at dksX8_led_1 3 rfl rfl)
theorem dX8_led_28 : decode cX8_led 28 = .ok (.getfield 17, 3) := dk_180 0 17 (dk_at dksX8_led_1 4 rfl rfl)
theorem dX8_led_31 : decode cX8_led 31 = .ok (.iconst 0, 1) := dk_3 (dk_at dksX8_led_1 7 rfl rfl)
theorem dX8_led_32 : decode cX8_led 32 = .ok (.iload_n 3, 1) := dk_29 (dk_at dksX8_led_1 8 rfl rfl)
theorem dX8_led_33 : decode cX8_led 33 = .ok (.iadd, 1) := dk_96 (dk_at dksX8_led_1 9 rfl rfl)
theorem dX8_led_34 : decode cX8_led 34 = .ok (.iaload, 1) := dk_46 (dk_at dksX8_led_1 10 rfl rfl)
theorem dX8_led_35 : decode cX8_led 35 = .ok (.bipush (-2), 2) := dk_16 254 (dk_at dksX8_led_1 11 rfl rfl)
theorem dX8_led_37 : decode cX8_led 37 = .ok (.if_icmp .eq 6, 3) := dk_159 0 6 (dk_at dksX8_led_1 13 rfl rfl)
theorem dX8_led_40 : decode cX8_led 40 = .ok (.goto 13, 3) := dk_167 0 13 (dk_at dksX8_led_1 16 rfl rfl)
theorem dX8_led_43 : decode cX8_led 43 = .ok (.iload_n 2, 1) := dk_28 (dk_at dksX8_led_1 19 rfl rfl)
theorem dX8_led_44 : decode cX8_led 44 = .ok (.iload_n 1, 1) := dk_27 (dk_at dksX8_led_1 20 rfl rfl)
theorem dX8_led_45 : decode cX8_led 45 = .ok (.if_icmp .ne 5, 3) := dk_160 0 5 (dk_at dksX8_led_1 21 rfl rfl)
theorem dX8_led_48 : decode cX8_led 48 = .ok (.iload_n 3, 1) := dk_29 (dk_at dksX8_led_2 0 rfl rfl)
theorem dX8_led_49 : decode cX8_led 49 = .ok (.ireturn, 1) := dk_172 (dk_at dksX8_led_2 1 rfl rfl)
theorem dX8_led_50 : decode cX8_led 50 = .ok (.iinc 2 1, 3) := dk_132 2 1 (dk_at dksX8_led_2 2 rfl rfl)
theorem dX8_led_53 : decode cX8_led 53 = .ok (.iinc 3 1, 3) := dk_132 3 1 (dk_at dksX8_led_2 5 rfl rfl)
theorem dX8_led_56 : decode cX8_led 56 = .ok (.goto (-47), 3) := dk_167 255 209 (dk_at dksX8_led_2 8 rfl rfl)
theorem dX8_led_59 : decode cX8_led 59 = .ok (.aload_n 0, 1) := dk_42 (dk_at dksX8_led_2 11 rfl rfl)
theorem dX8_led_60 : decode cX8_led 60 = .ok (.iconst 1, 1) := dk_4 (dk_at dksX8_led_2 12 rfl rfl)
theorem dX8_led_61 : decode cX8_led 61 = .ok (.putfield 45, 3) := dk_181 0 45 (dk_at dksX8_led_2 13 rfl rfl)
theorem dX8_led_64 : decode cX8_led 64 = .ok (.iconst 0, 1) := dk_3 (dk_at dksX8_led_2 16 rfl rfl)
theorem dX8_led_65 : decode cX8_led 65 = .ok (.ireturn, 1) := dk_172 (dk_at dksX8_led_2 17 rfl rfl)
abbrev cX8_size : ByteArray := prog_26_method_125_code
def yX8_size : MethodName := ⟨RX8, "size", "(I)I"⟩
def dkwX8_size_6 : List UInt8 := [180, 1, 69, 172]
abbrev dktX8_size_6 : List UInt8 := dkwX8_size_6 ++ []
def dkwX8_size_5 : List UInt8 := [42, 180, 1, 60, 180, 1, 42, 172, 42, 180, 0, 17, 16, 10, 46, 172, 42, 180, 1, 66, 172, 42]
abbrev dktX8_size_5 : List UInt8 := dkwX8_size_5 ++ dktX8_size_6
def dkwX8_size_4 : List UInt8 := [42, 180, 1, 60, 180, 0, 191, 172, 42, 180, 1, 60, 180, 0, 194, 172, 42, 180, 1, 60, 180, 1, 23, 172]
abbrev dktX8_size_4 : List UInt8 := dkwX8_size_4 ++ dktX8_size_5
def dkwX8_size_3 : List UInt8 := [42, 180, 1, 60, 180, 0, 156, 172, 42, 180, 1, 60, 180, 0, 230, 172, 42, 180, 1, 60, 180, 0, 232, 172]
abbrev dktX8_size_3 : List UInt8 := dkwX8_size_3 ++ dktX8_size_4
def dkwX8_size_2 : List UInt8 := [170, 0, 0, 0, 0, 119, 0, 0, 0, 0, 0, 0, 0, 8, 0, 0, 0, 50, 0, 0, 0, 58, 0, 0, 0, 66, 0, 0, 0, 74, 0, 0, 0, 82, 0, 0, 0, 90, 0, 0, 0, 98, 0, 0, 0, 106, 0, 0, 0, 114]
abbrev dktX8_size_2 : List UInt8 := dkwX8_size_2 ++ dktX8_size_3
def dkwX8_size_1 : List UInt8 := [154, 0, 5, 2, 172, 42, 180, 1, 60, 199, 0, 5, 3, 172, 27]
abbrev dktX8_size_1 : List UInt8 := dkwX8_size_1 ++ dktX8_size_2
def dkwX8_size_0 : List UInt8 := [42, 3, 181, 0, 45, 27, 16, 10, 160, 0, 8, 42, 180, 1, 53, 172, 27, 3, 16, 9, 184, 0, 124]
abbrev dktX8_size_0 : List UInt8 := dkwX8_size_0 ++ dktX8_size_1
theorem dksX8_size_0 : cX8_size.data.toList.drop 0 = dktX8_size_0 := by decide +kernel
theorem dksX8_size_1 : cX8_size.data.toList.drop 23 = dktX8_size_1 := dk_seg dksX8_size_0 23 rfl rfl
theorem dksX8_size_2 : cX8_size.data.toList.drop 38 = dktX8_size_2 := dk_seg dksX8_size_1 15 rfl rfl
theorem dksX8_size_3 : cX8_size.data.toList.drop 88 = dktX8_size_3 := dk_seg dksX8_size_2 50 rfl rfl
theorem dksX8_size_4 : cX8_size.data.toList.drop 112 = dktX8_size_4 := dk_seg dksX8_size_3 24 rfl rfl
theorem dksX8_size_5 : cX8_size.data.toList.drop 136 = dktX8_size_5 := dk_seg dksX8_size_4 24 rfl rfl
theorem dksX8_size_6 : cX8_size.data.toList.drop 158 = dktX8_size_6 := dk_seg dksX8_size_5 22 rfl rfl
theorem dX8_size_0 : decode cX8_size 0 = .ok (.aload_n 0, 1) := dk_42 (dk_at dksX8_size_0 0 rfl rfl)
theorem dX8_size_1 : decode cX8_size 1 = .ok (.iconst 0, 1) := dk_3 (dk_at dksX8_size_0 1 rfl rfl)
theorem dX8_size_2 : decode cX8_size 2 = .ok (.putfield 45, 3) := dk_181 0 45 (dk_at dksX8_size_0 2 rfl rfl)
theorem dX8_size_5 : decode cX8_size 5 = .ok (.iload_n 1, 1) := dk_27 (dk_at dksX8_size_0 5 rfl rfl)
theorem dX8_size_6 : decode cX8_size 6 = .ok (.bipush 10, 2) := dk_16 10 (dk_at dksX8_size_0 6 rfl rfl)
theorem dX8_size_8 : decode cX8_size 8 = .ok (.if_icmp .ne 8, 3) := dk_160 0 8 (dk_at dksX8_size_0 8 rfl rfl)
theorem dX8_size_11 : decode cX8_size 11 = .ok (.aload_n 0, 1) := dk_42 (dk_at dksX8_size_0 11 rfl rfl)
theorem dX8_size_12 : decode cX8_size 12 = .ok (.getfield 309, 3) := dk_180 1 53 (dk_at dksX8_size_0 12 rfl rfl)
theorem dX8_size_15 : decode cX8_size 15 = .ok (.ireturn, 1) := dk_172 (dk_at dksX8_size_0 15 rfl rfl)
theorem dX8_size_16 : decode cX8_size 16 = .ok (.iload_n 1, 1) := dk_27 (dk_at dksX8_size_0 16 rfl rfl)
theorem dX8_size_17 : decode cX8_size 17 = .ok (.iconst 0, 1) := dk_3 (dk_at dksX8_size_0 17 rfl rfl)
theorem dX8_size_18 : decode cX8_size 18 = .ok (.bipush 9, 2) := dk_16 9 (dk_at dksX8_size_0 18 rfl rfl)
theorem dX8_size_20 : decode cX8_size 20 = .ok (.invokestatic 124, 3) := dk_184 0 124 (dk_at dksX8_size_0 20 rfl rfl)
theorem dX8_size_23 : decode cX8_size 23 = .ok (.ifCond .ne 5, 3) := dk_154 0 5 (dk_at dksX8_size_1 0 rfl rfl)
theorem dX8_size_26 : decode cX8_size 26 = .ok (.iconst (-1), 1) := dk_2 (dk_at dksX8_size_1 3 rfl rfl)
theorem dX8_size_27 : decode cX8_size 27 = .ok (.ireturn, 1) := dk_172 (dk_at dksX8_size_1 4 rfl rfl)
theorem dX8_size_28 : decode cX8_size 28 = .ok (.aload_n 0, 1) := dk_42 (dk_at dksX8_size_1 5 rfl rfl)
theorem dX8_size_29 : decode cX8_size 29 = .ok (.getfield 316, 3) := dk_180 1 60 (dk_at dksX8_size_1 6 rfl rfl)
theorem dX8_size_32 : decode cX8_size 32 = .ok (.ifnonnull 5, 3) := dk_199 0 5 (dk_at dksX8_size_1 9 rfl rfl)
theorem dX8_size_35 : decode cX8_size 35 = .ok (.iconst 0, 1) := dk_3 (dk_at dksX8_size_1 12 rfl rfl)
theorem dX8_size_36 : decode cX8_size 36 = .ok (.ireturn, 1) := dk_172 (dk_at dksX8_size_1 13 rfl rfl)
theorem dX8_size_37 : decode cX8_size 37 = .ok (.iload_n 1, 1) := dk_27 (dk_at dksX8_size_1 14 rfl rfl)
theorem dX8_size_38 : decode cX8_size 38 = .ok (.tableswitch 119 0 8 #[50, 58, 66, 74, 82, 90, 98, 106, 114], 50) := by decide +kernel
theorem dX8_size_88 : decode cX8_size 88 = .ok (.aload_n 0, 1) := dk_42 (dk_at dksX8_size_3 0 rfl rfl)
theorem dX8_size_89 : decode cX8_size 89 = .ok (.getfield 316, 3) := dk_180 1 60 (dk_at dksX8_size_3 1 rfl rfl)
theorem dX8_size_92 : decode cX8_size 92 = .ok (.getfield 156, 3) := dk_180 0 156 (dk_at dksX8_size_3 4 rfl rfl)
theorem dX8_size_95 : decode cX8_size 95 = .ok (.ireturn, 1) := dk_172 (dk_at dksX8_size_3 7 rfl rfl)
theorem dX8_size_96 : decode cX8_size 96 = .ok (.aload_n 0, 1) := dk_42 (dk_at dksX8_size_3 8 rfl rfl)
theorem dX8_size_97 : decode cX8_size 97 = .ok (.getfield 316, 3) := dk_180 1 60 (dk_at dksX8_size_3 9 rfl rfl)
theorem dX8_size_100 : decode cX8_size 100 = .ok (.getfield 230, 3) := dk_180 0 230 (dk_at dksX8_size_3 12 rfl rfl)
theorem dX8_size_103 : decode cX8_size 103 = .ok (.ireturn, 1) := dk_172 (dk_at dksX8_size_3 15 rfl rfl)
theorem dX8_size_104 : decode cX8_size 104 = .ok (.aload_n 0, 1) := dk_42 (dk_at dksX8_size_3 16 rfl rfl)
theorem dX8_size_105 : decode cX8_size 105 = .ok (.getfield 316, 3) := dk_180 1 60 (dk_at dksX8_size_3 17 rfl rfl)
theorem dX8_size_108 : decode cX8_size 108 = .ok (.getfield 232, 3) := dk_180 0 232 (dk_at dksX8_size_3 20 rfl rfl)
theorem dX8_size_111 : decode cX8_size 111 = .ok (.ireturn, 1) := dk_172 (dk_at dksX8_size_3 23 rfl rfl)
theorem dX8_size_112 : decode cX8_size 112 = .ok (.aload_n 0, 1) := dk_42 (dk_at dksX8_size_4 0 rfl rfl)
theorem dX8_size_113 : decode cX8_size 113 = .ok (.getfield 316, 3) := dk_180 1 60 (dk_at dksX8_size_4 1 rfl rfl)
theorem dX8_size_116 : decode cX8_size 116 = .ok (.getfield 191, 3) := dk_180 0 191 (dk_at dksX8_size_4 4 rfl rfl)
theorem dX8_size_119 : decode cX8_size 119 = .ok (.ireturn, 1) := dk_172 (dk_at dksX8_size_4 7 rfl rfl)
theorem dX8_size_120 : decode cX8_size 120 = .ok (.aload_n 0, 1) := dk_42 (dk_at dksX8_size_4 8 rfl rfl)
theorem dX8_size_121 : decode cX8_size 121 = .ok (.getfield 316, 3) := dk_180 1 60 (dk_at dksX8_size_4 9 rfl rfl)
theorem dX8_size_124 : decode cX8_size 124 = .ok (.getfield 194, 3) := dk_180 0 194 (dk_at dksX8_size_4 12 rfl rfl)
theorem dX8_size_127 : decode cX8_size 127 = .ok (.ireturn, 1) := dk_172 (dk_at dksX8_size_4 15 rfl rfl)
theorem dX8_size_128 : decode cX8_size 128 = .ok (.aload_n 0, 1) := dk_42 (dk_at dksX8_size_4 16 rfl rfl)
theorem dX8_size_129 : decode cX8_size 129 = .ok (.getfield 316, 3) := dk_180 1 60 (dk_at dksX8_size_4 17 rfl rfl)
theorem dX8_size_132 : decode cX8_size 132 = .ok (.getfield 279, 3) := dk_180 1 23 (dk_at dksX8_size_4 20 rfl rfl)
theorem dX8_size_135 : decode cX8_size 135 = .ok (.ireturn, 1) := dk_172 (dk_at dksX8_size_4 23 rfl rfl)
theorem dX8_size_136 : decode cX8_size 136 = .ok (.aload_n 0, 1) := dk_42 (dk_at dksX8_size_5 0 rfl rfl)
theorem dX8_size_137 : decode cX8_size 137 = .ok (.getfield 316, 3) := dk_180 1 60 (dk_at dksX8_size_5 1 rfl rfl)
theorem dX8_size_140 : decode cX8_size 140 = .ok (.getfield 298, 3) := dk_180 1 42 (dk_at dksX8_size_5 4 rfl rfl)
theorem dX8_size_143 : decode cX8_size 143 = .ok (.ireturn, 1) := dk_172 (dk_at dksX8_size_5 7 rfl rfl)
theorem dX8_size_144 : decode cX8_size 144 = .ok (.aload_n 0, 1) := dk_42 (dk_at dksX8_size_5 8 rfl rfl)
theorem dX8_size_145 : decode cX8_size 145 = .ok (.getfield 17, 3) := dk_180 0 17 (dk_at dksX8_size_5 9 rfl rfl)
theorem dX8_size_148 : decode cX8_size 148 = .ok (.bipush 10, 2) := dk_16 10 (dk_at dksX8_size_5 12 rfl rfl)
theorem dX8_size_150 : decode cX8_size 150 = .ok (.iaload, 1) := dk_46 (dk_at dksX8_size_5 14 rfl rfl)
theorem dX8_size_151 : decode cX8_size 151 = .ok (.ireturn, 1) := dk_172 (dk_at dksX8_size_5 15 rfl rfl)
theorem dX8_size_152 : decode cX8_size 152 = .ok (.aload_n 0, 1) := dk_42 (dk_at dksX8_size_5 16 rfl rfl)
theorem dX8_size_153 : decode cX8_size 153 = .ok (.getfield 322, 3) := dk_180 1 66 (dk_at dksX8_size_5 17 rfl rfl)
theorem dX8_size_156 : decode cX8_size 156 = .ok (.ireturn, 1) := dk_172 (dk_at dksX8_size_5 20 rfl rfl)
theorem dX8_size_157 : decode cX8_size 157 = .ok (.aload_n 0, 1) := dk_42 (dk_at dksX8_size_5 21 rfl rfl)
theorem dX8_size_158 : decode cX8_size 158 = .ok (.getfield 325, 3) := dk_180 1 69 (dk_at dksX8_size_6 0 rfl rfl)
theorem dX8_size_161 : decode cX8_size 161 = .ok (.ireturn, 1) := dk_172 (dk_at dksX8_size_6 3 rfl rfl)
abbrev cX8_trouble : ByteArray := prog_26_method_126_code
def yX8_trouble : MethodName := ⟨RX8, "trouble", "()I"⟩
def dkwX8_trouble_0 : List UInt8 := [42, 3, 181, 0, 45, 42, 180, 0, 48, 172]
abbrev dktX8_trouble_0 : List UInt8 := dkwX8_trouble_0 ++ []
theorem dksX8_trouble_0 : cX8_trouble.data.toList.drop 0 = dktX8_trouble_0 := by decide +kernel
theorem dX8_trouble_0 : decode cX8_trouble 0 = .ok (.aload_n 0, 1) := dk_42 (dk_at dksX8_trouble_0 0 rfl rfl)
theorem dX8_trouble_1 : decode cX8_trouble 1 = .ok (.iconst 0, 1) := dk_3 (dk_at dksX8_trouble_0 1 rfl rfl)
theorem dX8_trouble_2 : decode cX8_trouble 2 = .ok (.putfield 45, 3) := dk_181 0 45 (dk_at dksX8_trouble_0 2 rfl rfl)
theorem dX8_trouble_5 : decode cX8_trouble 5 = .ok (.aload_n 0, 1) := dk_42 (dk_at dksX8_trouble_0 5 rfl rfl)
theorem dX8_trouble_6 : decode cX8_trouble 6 = .ok (.getfield 48, 3) := dk_180 0 48 (dk_at dksX8_trouble_0 6 rfl rfl)
theorem dX8_trouble_9 : decode cX8_trouble 9 = .ok (.ireturn, 1) := dk_172 (dk_at dksX8_trouble_0 9 rfl rfl)
theorem q125 : (Jvm.Cond.initialized "UmbrellaHeirModel") ∈ lw_all := lw_g (lw_at lw_m1 11 rfl) rfl
theorem q1543 : (Jvm.Cond.instantiable "UmbrellaHeirModel" (32 : Nat)) ∈ lw_all := lw_g (lw_at lw_m6 229 rfl) rfl
theorem q1545 : (Jvm.Cond.instanceMethod ({ cls := "UmbrellaHeirModel", name := "<init>", desc := "()V" } : Jvm.MethodName)) ∈ lw_all := lw_g (lw_at lw_m6 231 rfl) rfl
theorem q1546 : (Jvm.Cond.code ({ cls := "UmbrellaHeirModel", name := "<init>", desc := "()V" } : Jvm.MethodName) prog_26_method_1_code (1 : Nat) (Option.none : Option Jvm.ClassFile.FieldType)) ∈ lw_all := lw_g (lw_at lw_m6 232 rfl) rfl
theorem q1547 : (Jvm.Cond.methodLink "UmbrellaHeirModel" (3 : Nat) ({ cls := "java/lang/Object", name := "<init>", desc := "()V" } : Jvm.MethodName)) ∈ lw_all := lw_g (lw_at lw_m6 233 rfl) rfl
theorem q1548 : (Jvm.Cond.fieldLink "UmbrellaHeirModel" (45 : Nat) "UmbrellaHeirModel" "thrown" "I") ∈ lw_all := lw_g (lw_at lw_m6 234 rfl) rfl
theorem q1549 : (Jvm.Cond.fieldLink "UmbrellaHeirModel" (48 : Nat) "UmbrellaHeirModel" "trouble" "I") ∈ lw_all := lw_g (lw_at lw_m6 235 rfl) rfl
theorem q1550 : (Jvm.Cond.fieldLink "UmbrellaHeirModel" (9 : Nat) "UmbrellaHeirModel" "where" "I") ∈ lw_all := lw_g (lw_at lw_m6 236 rfl) rfl
theorem q1551 : (Jvm.Cond.fieldLink "UmbrellaHeirModel" (316 : Nat) "UmbrellaHeirModel" "county" "LUmbrellaHeirModel$County;") ∈ lw_all := lw_g (lw_at lw_m6 237 rfl) rfl
theorem q1552 : (Jvm.Cond.fieldLink "UmbrellaHeirModel" (152 : Nat) "UmbrellaHeirModel" "read" "LUmbrellaHeirModel$County;") ∈ lw_all := lw_g (lw_at lw_m6 238 rfl) rfl
theorem q1553 : (Jvm.Cond.fieldLink "UmbrellaHeirModel" (13 : Nat) "UmbrellaHeirModel" "tape" "[B") ∈ lw_all := lw_g (lw_at lw_m6 239 rfl) rfl
theorem q1554 : (Jvm.Cond.fieldLink "UmbrellaHeirModel" (309 : Nat) "UmbrellaHeirModel" "taped" "I") ∈ lw_all := lw_g (lw_at lw_m7 0 rfl) rfl
theorem q1555 : (Jvm.Cond.fieldLink "UmbrellaHeirModel" (62 : Nat) "UmbrellaHeirModel" "size" "I") ∈ lw_all := lw_g (lw_at lw_m7 1 rfl) rfl
theorem q1556 : (Jvm.Cond.fieldLink "UmbrellaHeirModel" (80 : Nat) "UmbrellaHeirModel" "spot" "I") ∈ lw_all := lw_g (lw_at lw_m7 2 rfl) rfl
theorem q1557 : (Jvm.Cond.fieldLink "UmbrellaHeirModel" (77 : Nat) "UmbrellaHeirModel" "sort" "I") ∈ lw_all := lw_g (lw_at lw_m7 3 rfl) rfl
theorem q1558 : (Jvm.Cond.fieldLink "UmbrellaHeirModel" (86 : Nat) "UmbrellaHeirModel" "place" "I") ∈ lw_all := lw_g (lw_at lw_m7 4 rfl) rfl
theorem q1559 : (Jvm.Cond.fieldLink "UmbrellaHeirModel" (100 : Nat) "UmbrellaHeirModel" "number" "I") ∈ lw_all := lw_g (lw_at lw_m7 5 rfl) rfl
theorem q1560 : (Jvm.Cond.fieldLink "UmbrellaHeirModel" (103 : Nat) "UmbrellaHeirModel" "fault" "I") ∈ lw_all := lw_g (lw_at lw_m7 6 rfl) rfl
theorem q1561 : (Jvm.Cond.fieldLink "UmbrellaHeirModel" (106 : Nat) "UmbrellaHeirModel" "wrongAt" "I") ∈ lw_all := lw_g (lw_at lw_m7 7 rfl) rfl
theorem q1562 : (Jvm.Cond.fieldLink "UmbrellaHeirModel" (93 : Nat) "UmbrellaHeirModel" "word" "J") ∈ lw_all := lw_g (lw_at lw_m7 8 rfl) rfl
theorem q1563 : (Jvm.Cond.fieldLink "UmbrellaHeirModel" (17 : Nat) "UmbrellaHeirModel" "v" "[I") ∈ lw_all := lw_g (lw_at lw_m7 9 rfl) rfl
theorem q1564 : (Jvm.Cond.fieldLink "UmbrellaHeirModel" (21 : Nat) "UmbrellaHeirModel" "x" "[I") ∈ lw_all := lw_g (lw_at lw_m7 10 rfl) rfl
theorem q1565 : (Jvm.Cond.fieldLink "UmbrellaHeirModel" (24 : Nat) "UmbrellaHeirModel" "past" "[I") ∈ lw_all := lw_g (lw_at lw_m7 11 rfl) rfl
theorem q1566 : (Jvm.Cond.fieldLink "UmbrellaHeirModel" (27 : Nat) "UmbrellaHeirModel" "kept" "[I") ∈ lw_all := lw_g (lw_at lw_m7 12 rfl) rfl
theorem q1567 : (Jvm.Cond.fieldLink "UmbrellaHeirModel" (322 : Nat) "UmbrellaHeirModel" "acts" "I") ∈ lw_all := lw_g (lw_at lw_m7 13 rfl) rfl
theorem q1568 : (Jvm.Cond.fieldLink "UmbrellaHeirModel" (325 : Nat) "UmbrellaHeirModel" "marks" "I") ∈ lw_all := lw_g (lw_at lw_m7 14 rfl) rfl
theorem q1569 : (Jvm.Cond.fieldLink "UmbrellaHeirModel" (387 : Nat) "UmbrellaHeirModel" "foundWay" "I") ∈ lw_all := lw_g (lw_at lw_m7 15 rfl) rfl
theorem q1570 : (Jvm.Cond.fieldLink "UmbrellaHeirModel" (30 : Nat) "UmbrellaHeirModel" "row" "[I") ∈ lw_all := lw_g (lw_at lw_m7 16 rfl) rfl
theorem q1571 : (Jvm.Cond.fieldLink "UmbrellaHeirModel" (33 : Nat) "UmbrellaHeirModel" "bestRow" "[I") ∈ lw_all := lw_g (lw_at lw_m7 17 rfl) rfl
theorem q1572 : (Jvm.Cond.fieldLink "UmbrellaHeirModel" (396 : Nat) "UmbrellaHeirModel" "bestRight" "I") ∈ lw_all := lw_g (lw_at lw_m7 18 rfl) rfl
theorem q1573 : (Jvm.Cond.fieldLink "UmbrellaHeirModel" (408 : Nat) "UmbrellaHeirModel" "bestMany" "I") ∈ lw_all := lw_g (lw_at lw_m7 19 rfl) rfl
theorem q1574 : (Jvm.Cond.fieldLink "UmbrellaHeirModel" (36 : Nat) "UmbrellaHeirModel" "under" "[I") ∈ lw_all := lw_g (lw_at lw_m7 20 rfl) rfl
theorem q1575 : (Jvm.Cond.fieldLink "UmbrellaHeirModel" (39 : Nat) "UmbrellaHeirModel" "bestUnder" "[I") ∈ lw_all := lw_g (lw_at lw_m7 21 rfl) rfl
theorem q1576 : (Jvm.Cond.fieldLink "UmbrellaHeirModel" (42 : Nat) "UmbrellaHeirModel" "free" "[I") ∈ lw_all := lw_g (lw_at lw_m7 22 rfl) rfl
theorem q1577 : (Jvm.Cond.fieldLink "UmbrellaHeirModel" (421 : Nat) "UmbrellaHeirModel" "danger" "I") ∈ lw_all := lw_g (lw_at lw_m7 23 rfl) rfl
theorem q1578 : (Jvm.Cond.fieldLink "UmbrellaHeirModel" (465 : Nat) "UmbrellaHeirModel" "mostOf" "I") ∈ lw_all := lw_g (lw_at lw_m7 24 rfl) rfl
theorem q1579 : (Jvm.Cond.fieldLink "UmbrellaHeirModel" (473 : Nat) "UmbrellaHeirModel" "seedNow" "I") ∈ lw_all := lw_g (lw_at lw_m7 25 rfl) rfl
theorem q1580 : (Jvm.Cond.lays "UmbrellaHeirModel" "UmbrellaHeirModel" "thrown" "I") ∈ lw_all := lw_g (lw_at lw_m7 26 rfl) rfl
theorem q1581 : (Jvm.Cond.soleField "UmbrellaHeirModel" "thrown") ∈ lw_all := lw_g (lw_at lw_m7 27 rfl) rfl
theorem q1582 : (Jvm.Cond.lays "UmbrellaHeirModel" "UmbrellaHeirModel" "trouble" "I") ∈ lw_all := lw_g (lw_at lw_m7 28 rfl) rfl
theorem q1583 : (Jvm.Cond.soleField "UmbrellaHeirModel" "trouble") ∈ lw_all := lw_g (lw_at lw_m7 29 rfl) rfl
theorem q1584 : (Jvm.Cond.lays "UmbrellaHeirModel" "UmbrellaHeirModel" "where" "I") ∈ lw_all := lw_g (lw_at lw_m7 30 rfl) rfl
theorem q1585 : (Jvm.Cond.soleField "UmbrellaHeirModel" "where") ∈ lw_all := lw_g (lw_at lw_m7 31 rfl) rfl
theorem q1586 : (Jvm.Cond.lays "UmbrellaHeirModel" "UmbrellaHeirModel" "county" "LUmbrellaHeirModel$County;") ∈ lw_all := lw_g (lw_at lw_m7 32 rfl) rfl
theorem q1587 : (Jvm.Cond.soleField "UmbrellaHeirModel" "county") ∈ lw_all := lw_g (lw_at lw_m7 33 rfl) rfl
theorem q1588 : (Jvm.Cond.lays "UmbrellaHeirModel" "UmbrellaHeirModel" "read" "LUmbrellaHeirModel$County;") ∈ lw_all := lw_g (lw_at lw_m7 34 rfl) rfl
theorem q1589 : (Jvm.Cond.soleField "UmbrellaHeirModel" "read") ∈ lw_all := lw_g (lw_at lw_m7 35 rfl) rfl
theorem q1590 : (Jvm.Cond.laysFinal "UmbrellaHeirModel" "UmbrellaHeirModel" "tape" "[B") ∈ lw_all := lw_g (lw_at lw_m7 36 rfl) rfl
theorem q1591 : (Jvm.Cond.soleField "UmbrellaHeirModel" "tape") ∈ lw_all := lw_g (lw_at lw_m7 37 rfl) rfl
theorem q1592 : (Jvm.Cond.lays "UmbrellaHeirModel" "UmbrellaHeirModel" "taped" "I") ∈ lw_all := lw_g (lw_at lw_m7 38 rfl) rfl
theorem q1593 : (Jvm.Cond.soleField "UmbrellaHeirModel" "taped") ∈ lw_all := lw_g (lw_at lw_m7 39 rfl) rfl
theorem q1594 : (Jvm.Cond.lays "UmbrellaHeirModel" "UmbrellaHeirModel" "size" "I") ∈ lw_all := lw_g (lw_at lw_m7 40 rfl) rfl
theorem q1595 : (Jvm.Cond.soleField "UmbrellaHeirModel" "size") ∈ lw_all := lw_g (lw_at lw_m7 41 rfl) rfl
theorem q1596 : (Jvm.Cond.lays "UmbrellaHeirModel" "UmbrellaHeirModel" "spot" "I") ∈ lw_all := lw_g (lw_at lw_m7 42 rfl) rfl
theorem q1597 : (Jvm.Cond.soleField "UmbrellaHeirModel" "spot") ∈ lw_all := lw_g (lw_at lw_m7 43 rfl) rfl
theorem q1598 : (Jvm.Cond.lays "UmbrellaHeirModel" "UmbrellaHeirModel" "sort" "I") ∈ lw_all := lw_g (lw_at lw_m7 44 rfl) rfl
theorem q1599 : (Jvm.Cond.soleField "UmbrellaHeirModel" "sort") ∈ lw_all := lw_g (lw_at lw_m7 45 rfl) rfl
theorem q1600 : (Jvm.Cond.lays "UmbrellaHeirModel" "UmbrellaHeirModel" "place" "I") ∈ lw_all := lw_g (lw_at lw_m7 46 rfl) rfl
theorem q1601 : (Jvm.Cond.soleField "UmbrellaHeirModel" "place") ∈ lw_all := lw_g (lw_at lw_m7 47 rfl) rfl
theorem q1602 : (Jvm.Cond.lays "UmbrellaHeirModel" "UmbrellaHeirModel" "number" "I") ∈ lw_all := lw_g (lw_at lw_m7 48 rfl) rfl
theorem q1603 : (Jvm.Cond.soleField "UmbrellaHeirModel" "number") ∈ lw_all := lw_g (lw_at lw_m7 49 rfl) rfl
theorem q1604 : (Jvm.Cond.lays "UmbrellaHeirModel" "UmbrellaHeirModel" "fault" "I") ∈ lw_all := lw_g (lw_at lw_m7 50 rfl) rfl
theorem q1605 : (Jvm.Cond.soleField "UmbrellaHeirModel" "fault") ∈ lw_all := lw_g (lw_at lw_m7 51 rfl) rfl
theorem q1606 : (Jvm.Cond.lays "UmbrellaHeirModel" "UmbrellaHeirModel" "wrongAt" "I") ∈ lw_all := lw_g (lw_at lw_m7 52 rfl) rfl
theorem q1607 : (Jvm.Cond.soleField "UmbrellaHeirModel" "wrongAt") ∈ lw_all := lw_g (lw_at lw_m7 53 rfl) rfl
theorem q1608 : (Jvm.Cond.lays "UmbrellaHeirModel" "UmbrellaHeirModel" "word" "J") ∈ lw_all := lw_g (lw_at lw_m7 54 rfl) rfl
theorem q1609 : (Jvm.Cond.soleField "UmbrellaHeirModel" "word") ∈ lw_all := lw_g (lw_at lw_m7 55 rfl) rfl
theorem q1610 : (Jvm.Cond.laysFinal "UmbrellaHeirModel" "UmbrellaHeirModel" "v" "[I") ∈ lw_all := lw_g (lw_at lw_m7 56 rfl) rfl
theorem q1611 : (Jvm.Cond.soleField "UmbrellaHeirModel" "v") ∈ lw_all := lw_g (lw_at lw_m7 57 rfl) rfl
theorem q1612 : (Jvm.Cond.laysFinal "UmbrellaHeirModel" "UmbrellaHeirModel" "x" "[I") ∈ lw_all := lw_g (lw_at lw_m7 58 rfl) rfl
theorem q1613 : (Jvm.Cond.soleField "UmbrellaHeirModel" "x") ∈ lw_all := lw_g (lw_at lw_m7 59 rfl) rfl
theorem q1614 : (Jvm.Cond.laysFinal "UmbrellaHeirModel" "UmbrellaHeirModel" "past" "[I") ∈ lw_all := lw_g (lw_at lw_m7 60 rfl) rfl
theorem q1615 : (Jvm.Cond.soleField "UmbrellaHeirModel" "past") ∈ lw_all := lw_g (lw_at lw_m7 61 rfl) rfl
theorem q1616 : (Jvm.Cond.laysFinal "UmbrellaHeirModel" "UmbrellaHeirModel" "kept" "[I") ∈ lw_all := lw_g (lw_at lw_m7 62 rfl) rfl
theorem q1617 : (Jvm.Cond.soleField "UmbrellaHeirModel" "kept") ∈ lw_all := lw_g (lw_at lw_m7 63 rfl) rfl
theorem q1618 : (Jvm.Cond.lays "UmbrellaHeirModel" "UmbrellaHeirModel" "acts" "I") ∈ lw_all := lw_g (lw_at lw_m7 64 rfl) rfl
theorem q1619 : (Jvm.Cond.soleField "UmbrellaHeirModel" "acts") ∈ lw_all := lw_g (lw_at lw_m7 65 rfl) rfl
theorem q1620 : (Jvm.Cond.lays "UmbrellaHeirModel" "UmbrellaHeirModel" "marks" "I") ∈ lw_all := lw_g (lw_at lw_m7 66 rfl) rfl
theorem q1621 : (Jvm.Cond.soleField "UmbrellaHeirModel" "marks") ∈ lw_all := lw_g (lw_at lw_m7 67 rfl) rfl
theorem q1622 : (Jvm.Cond.lays "UmbrellaHeirModel" "UmbrellaHeirModel" "foundWay" "I") ∈ lw_all := lw_g (lw_at lw_m7 68 rfl) rfl
theorem q1623 : (Jvm.Cond.soleField "UmbrellaHeirModel" "foundWay") ∈ lw_all := lw_g (lw_at lw_m7 69 rfl) rfl
theorem q1624 : (Jvm.Cond.laysFinal "UmbrellaHeirModel" "UmbrellaHeirModel" "row" "[I") ∈ lw_all := lw_g (lw_at lw_m7 70 rfl) rfl
theorem q1625 : (Jvm.Cond.soleField "UmbrellaHeirModel" "row") ∈ lw_all := lw_g (lw_at lw_m7 71 rfl) rfl
theorem q1626 : (Jvm.Cond.laysFinal "UmbrellaHeirModel" "UmbrellaHeirModel" "bestRow" "[I") ∈ lw_all := lw_g (lw_at lw_m7 72 rfl) rfl
theorem q1627 : (Jvm.Cond.soleField "UmbrellaHeirModel" "bestRow") ∈ lw_all := lw_g (lw_at lw_m7 73 rfl) rfl
theorem q1628 : (Jvm.Cond.lays "UmbrellaHeirModel" "UmbrellaHeirModel" "bestRight" "I") ∈ lw_all := lw_g (lw_at lw_m7 74 rfl) rfl
theorem q1629 : (Jvm.Cond.soleField "UmbrellaHeirModel" "bestRight") ∈ lw_all := lw_g (lw_at lw_m7 75 rfl) rfl
theorem q1630 : (Jvm.Cond.lays "UmbrellaHeirModel" "UmbrellaHeirModel" "bestMany" "I") ∈ lw_all := lw_g (lw_at lw_m7 76 rfl) rfl
theorem q1631 : (Jvm.Cond.soleField "UmbrellaHeirModel" "bestMany") ∈ lw_all := lw_g (lw_at lw_m7 77 rfl) rfl
theorem q1632 : (Jvm.Cond.laysFinal "UmbrellaHeirModel" "UmbrellaHeirModel" "under" "[I") ∈ lw_all := lw_g (lw_at lw_m7 78 rfl) rfl
theorem q1633 : (Jvm.Cond.soleField "UmbrellaHeirModel" "under") ∈ lw_all := lw_g (lw_at lw_m7 79 rfl) rfl
theorem q1634 : (Jvm.Cond.laysFinal "UmbrellaHeirModel" "UmbrellaHeirModel" "bestUnder" "[I") ∈ lw_all := lw_g (lw_at lw_m7 80 rfl) rfl
theorem q1635 : (Jvm.Cond.soleField "UmbrellaHeirModel" "bestUnder") ∈ lw_all := lw_g (lw_at lw_m7 81 rfl) rfl
theorem q1636 : (Jvm.Cond.laysFinal "UmbrellaHeirModel" "UmbrellaHeirModel" "free" "[I") ∈ lw_all := lw_g (lw_at lw_m7 82 rfl) rfl
theorem q1637 : (Jvm.Cond.soleField "UmbrellaHeirModel" "free") ∈ lw_all := lw_g (lw_at lw_m7 83 rfl) rfl
theorem q1638 : (Jvm.Cond.lays "UmbrellaHeirModel" "UmbrellaHeirModel" "danger" "I") ∈ lw_all := lw_g (lw_at lw_m7 84 rfl) rfl
theorem q1639 : (Jvm.Cond.soleField "UmbrellaHeirModel" "danger") ∈ lw_all := lw_g (lw_at lw_m7 85 rfl) rfl
theorem q1640 : (Jvm.Cond.lays "UmbrellaHeirModel" "UmbrellaHeirModel" "mostOf" "I") ∈ lw_all := lw_g (lw_at lw_m7 86 rfl) rfl
theorem q1641 : (Jvm.Cond.soleField "UmbrellaHeirModel" "mostOf") ∈ lw_all := lw_g (lw_at lw_m7 87 rfl) rfl
theorem q1642 : (Jvm.Cond.lays "UmbrellaHeirModel" "UmbrellaHeirModel" "seedNow" "I") ∈ lw_all := lw_g (lw_at lw_m7 88 rfl) rfl
theorem q1643 : (Jvm.Cond.soleField "UmbrellaHeirModel" "seedNow") ∈ lw_all := lw_g (lw_at lw_m7 89 rfl) rfl
theorem q1644 : (Jvm.Cond.superclass "UmbrellaHeirModel" "java/lang/Object") ∈ lw_all := lw_g (lw_at lw_m7 90 rfl) rfl
theorem q1646 : (Jvm.Cond.instanceMethod ({ cls := "UmbrellaHeirModel", name := "thrown", desc := "()I" } : Jvm.MethodName)) ∈ lw_all := lw_g (lw_at lw_m7 92 rfl) rfl
theorem q1647 : (Jvm.Cond.selects "UmbrellaHeirModel" ({ cls := "UmbrellaHeirModel", name := "thrown", desc := "()I" } : Jvm.MethodName) ({ cls := "UmbrellaHeirModel", name := "thrown", desc := "()I" } : Jvm.MethodName)) ∈ lw_all := lw_g (lw_at lw_m7 93 rfl) rfl
theorem q1648 : (Jvm.Cond.code ({ cls := "UmbrellaHeirModel", name := "thrown", desc := "()I" } : Jvm.MethodName) prog_26_method_2_code (1 : Nat) (Option.some Jvm.ClassFile.FieldType.int)) ∈ lw_all := lw_g (lw_at lw_m7 94 rfl) rfl
theorem q1650 : (Jvm.Cond.instanceMethod ({ cls := "UmbrellaHeirModel", name := "feed", desc := "(IIIII)I" } : Jvm.MethodName)) ∈ lw_all := lw_g (lw_at lw_m7 96 rfl) rfl
theorem q1651 : (Jvm.Cond.selects "UmbrellaHeirModel" ({ cls := "UmbrellaHeirModel", name := "feed", desc := "(IIIII)I" } : Jvm.MethodName) ({ cls := "UmbrellaHeirModel", name := "feed", desc := "(IIIII)I" } : Jvm.MethodName)) ∈ lw_all := lw_g (lw_at lw_m7 97 rfl) rfl
theorem q1652 : (Jvm.Cond.code ({ cls := "UmbrellaHeirModel", name := "feed", desc := "(IIIII)I" } : Jvm.MethodName) prog_26_method_41_code (8 : Nat) (Option.some Jvm.ClassFile.FieldType.int)) ∈ lw_all := lw_g (lw_at lw_m7 98 rfl) rfl
theorem q1654 : (Jvm.Cond.instanceMethod ({ cls := "UmbrellaHeirModel", name := "county", desc := "(I)I" } : Jvm.MethodName)) ∈ lw_all := lw_g (lw_at lw_m7 100 rfl) rfl
theorem q1655 : (Jvm.Cond.selects "UmbrellaHeirModel" ({ cls := "UmbrellaHeirModel", name := "county", desc := "(I)I" } : Jvm.MethodName) ({ cls := "UmbrellaHeirModel", name := "county", desc := "(I)I" } : Jvm.MethodName)) ∈ lw_all := lw_g (lw_at lw_m7 101 rfl) rfl
theorem q1656 : (Jvm.Cond.code ({ cls := "UmbrellaHeirModel", name := "county", desc := "(I)I" } : Jvm.MethodName) prog_26_method_42_code (2 : Nat) (Option.some Jvm.ClassFile.FieldType.int)) ∈ lw_all := lw_g (lw_at lw_m7 102 rfl) rfl
theorem q1657 : (Jvm.Cond.methodLink "UmbrellaHeirModel" (51 : Nat) ({ cls := "UmbrellaHeirModel", name := "refused", desc := "(I)I" } : Jvm.MethodName)) ∈ lw_all := lw_g (lw_at lw_m7 103 rfl) rfl
theorem q1658 : (Jvm.Cond.privateMethod ({ cls := "UmbrellaHeirModel", name := "refused", desc := "(I)I" } : Jvm.MethodName)) ∈ lw_tbl := lw_at lw_m7 104 rfl
theorem q1659 : (Jvm.Cond.instanceMethod ({ cls := "UmbrellaHeirModel", name := "refused", desc := "(I)I" } : Jvm.MethodName)) ∈ lw_all := lw_g (lw_at lw_m7 105 rfl) rfl
theorem q1660 : (Jvm.Cond.code ({ cls := "UmbrellaHeirModel", name := "refused", desc := "(I)I" } : Jvm.MethodName) prog_26_method_3_code (2 : Nat) (Option.some Jvm.ClassFile.FieldType.int)) ∈ lw_all := lw_g (lw_at lw_m7 106 rfl) rfl
theorem q1661 : (Jvm.Cond.classLink "UmbrellaHeirModel" (157 : Nat) "UmbrellaHeirModel$County") ∈ lw_all := lw_g (lw_at lw_m7 107 rfl) rfl
theorem q1663 : (Jvm.Cond.methodLinkNest "UmbrellaHeirModel" (312 : Nat) ({ cls := "UmbrellaHeirModel$County", name := "<init>", desc := "()V" } : Jvm.MethodName) "UmbrellaHeirModel") ∈ lw_tbl := lw_at lw_m7 109 rfl
theorem q1667 : (Jvm.Cond.fieldLinkNest "UmbrellaHeirModel" (156 : Nat) "UmbrellaHeirModel$County" "lapse" "I" "UmbrellaHeirModel") ∈ lw_tbl := lw_at lw_m7 113 rfl
theorem q1668 : (Jvm.Cond.fieldLinkNest "UmbrellaHeirModel" (230 : Nat) "UmbrellaHeirModel$County" "gust" "I" "UmbrellaHeirModel") ∈ lw_tbl := lw_at lw_m7 114 rfl
theorem q1669 : (Jvm.Cond.fieldLinkNest "UmbrellaHeirModel" (232 : Nat) "UmbrellaHeirModel$County" "rains" "I" "UmbrellaHeirModel") ∈ lw_tbl := lw_at lw_m7 115 rfl
theorem q1670 : (Jvm.Cond.fieldLinkNest "UmbrellaHeirModel" (191 : Nat) "UmbrellaHeirModel$County" "people" "I" "UmbrellaHeirModel") ∈ lw_tbl := lw_at lw_m7 116 rfl
theorem q1671 : (Jvm.Cond.fieldLinkNest "UmbrellaHeirModel" (194 : Nat) "UmbrellaHeirModel$County" "umbrellas" "I" "UmbrellaHeirModel") ∈ lw_tbl := lw_at lw_m7 117 rfl
theorem q1672 : (Jvm.Cond.fieldLinkNest "UmbrellaHeirModel" (279 : Nat) "UmbrellaHeirModel$County" "logs" "I" "UmbrellaHeirModel") ∈ lw_tbl := lw_at lw_m7 118 rfl
theorem q1673 : (Jvm.Cond.fieldLinkNest "UmbrellaHeirModel" (298 : Nat) "UmbrellaHeirModel$County" "claims" "I" "UmbrellaHeirModel") ∈ lw_tbl := lw_at lw_m7 119 rfl
theorem q1675 : (Jvm.Cond.fieldLinkNest "UmbrellaHeirModel" (173 : Nat) "UmbrellaHeirModel$County" "names" "I" "UmbrellaHeirModel") ∈ lw_tbl := lw_at lw_m7 121 rfl
theorem q1677 : (Jvm.Cond.fieldLinkNest "UmbrellaHeirModel" (251 : Nat) "UmbrellaHeirModel$County" "sort" "[I" "UmbrellaHeirModel") ∈ lw_tbl := lw_at lw_m7 123 rfl
theorem q1679 : (Jvm.Cond.fieldLinkNest "UmbrellaHeirModel" (270 : Nat) "UmbrellaHeirModel$County" "kind" "[I" "UmbrellaHeirModel") ∈ lw_tbl := lw_at lw_m7 125 rfl
theorem q1681 : (Jvm.Cond.fieldLinkNest "UmbrellaHeirModel" (273 : Nat) "UmbrellaHeirModel$County" "lands" "[I" "UmbrellaHeirModel") ∈ lw_tbl := lw_at lw_m7 127 rfl
theorem q1683 : (Jvm.Cond.fieldLinkNest "UmbrellaHeirModel" (275 : Nat) "UmbrellaHeirModel$County" "ribs" "[I" "UmbrellaHeirModel") ∈ lw_tbl := lw_at lw_m7 129 rfl
theorem q1685 : (Jvm.Cond.fieldLinkNest "UmbrellaHeirModel" (277 : Nat) "UmbrellaHeirModel$County" "with" "[I" "UmbrellaHeirModel") ∈ lw_tbl := lw_at lw_m7 131 rfl
theorem q1687 : (Jvm.Cond.fieldLinkNest "UmbrellaHeirModel" (286 : Nat) "UmbrellaHeirModel$County" "what" "[I" "UmbrellaHeirModel") ∈ lw_tbl := lw_at lw_m7 133 rfl
theorem q1689 : (Jvm.Cond.fieldLinkNest "UmbrellaHeirModel" (289 : Nat) "UmbrellaHeirModel$County" "one" "[I" "UmbrellaHeirModel") ∈ lw_tbl := lw_at lw_m7 135 rfl
theorem q1691 : (Jvm.Cond.fieldLinkNest "UmbrellaHeirModel" (292 : Nat) "UmbrellaHeirModel$County" "other" "[I" "UmbrellaHeirModel") ∈ lw_tbl := lw_at lw_m7 137 rfl
theorem q1693 : (Jvm.Cond.fieldLinkNest "UmbrellaHeirModel" (282 : Nat) "UmbrellaHeirModel$County" "day" "[I" "UmbrellaHeirModel") ∈ lw_tbl := lw_at lw_m7 139 rfl
theorem q1695 : (Jvm.Cond.fieldLinkNest "UmbrellaHeirModel" (300 : Nat) "UmbrellaHeirModel$County" "claimer" "[I" "UmbrellaHeirModel") ∈ lw_tbl := lw_at lw_m7 141 rfl
theorem q1697 : (Jvm.Cond.fieldLinkNest "UmbrellaHeirModel" (303 : Nat) "UmbrellaHeirModel$County" "claimed" "[I" "UmbrellaHeirModel") ∈ lw_tbl := lw_at lw_m7 143 rfl
theorem q1699 : (Jvm.Cond.fieldLinkNest "UmbrellaHeirModel" (306 : Nat) "UmbrellaHeirModel$County" "claimDay" "[I" "UmbrellaHeirModel") ∈ lw_tbl := lw_at lw_m7 145 rfl
theorem q1701 : (Jvm.Cond.fieldLinkNest "UmbrellaHeirModel" (169 : Nat) "UmbrellaHeirModel$County" "name" "[J" "UmbrellaHeirModel") ∈ lw_tbl := lw_at lw_m7 147 rfl
theorem q1703 : (Jvm.Cond.fieldLinkNest "UmbrellaHeirModel" (176 : Nat) "UmbrellaHeirModel$County" "nameSort" "[I" "UmbrellaHeirModel") ∈ lw_tbl := lw_at lw_m7 149 rfl
theorem q1705 : (Jvm.Cond.fieldLinkNest "UmbrellaHeirModel" (179 : Nat) "UmbrellaHeirModel$County" "numberOf" "[I" "UmbrellaHeirModel") ∈ lw_tbl := lw_at lw_m7 151 rfl
theorem q1754 : (Jvm.Cond.methodLink "UmbrellaHeirModel" (113 : Nat) ({ cls := "UmbrellaHeirModel", name := "goesOn", desc := "()V" } : Jvm.MethodName)) ∈ lw_all := lw_g (lw_at lw_m7 200 rfl) rfl
theorem q1755 : (Jvm.Cond.privateMethod ({ cls := "UmbrellaHeirModel", name := "goesOn", desc := "()V" } : Jvm.MethodName)) ∈ lw_tbl := lw_at lw_m7 201 rfl
theorem q1756 : (Jvm.Cond.instanceMethod ({ cls := "UmbrellaHeirModel", name := "goesOn", desc := "()V" } : Jvm.MethodName)) ∈ lw_all := lw_g (lw_at lw_m7 202 rfl) rfl
theorem q1757 : (Jvm.Cond.code ({ cls := "UmbrellaHeirModel", name := "goesOn", desc := "()V" } : Jvm.MethodName) prog_26_method_17_code (3 : Nat) (Option.none : Option Jvm.ClassFile.FieldType)) ∈ lw_all := lw_g (lw_at lw_m7 203 rfl) rfl
theorem q1758 : (Jvm.Cond.methodLink "UmbrellaHeirModel" (83 : Nat) ({ cls := "UmbrellaHeirModel", name := "byteAt", desc := "(I)I" } : Jvm.MethodName)) ∈ lw_all := lw_g (lw_at lw_m7 204 rfl) rfl
theorem q1759 : (Jvm.Cond.privateMethod ({ cls := "UmbrellaHeirModel", name := "byteAt", desc := "(I)I" } : Jvm.MethodName)) ∈ lw_tbl := lw_at lw_m7 205 rfl
theorem q1760 : (Jvm.Cond.instanceMethod ({ cls := "UmbrellaHeirModel", name := "byteAt", desc := "(I)I" } : Jvm.MethodName)) ∈ lw_all := lw_g (lw_at lw_m7 206 rfl) rfl
theorem q1761 : (Jvm.Cond.code ({ cls := "UmbrellaHeirModel", name := "byteAt", desc := "(I)I" } : Jvm.MethodName) prog_26_method_13_code (2 : Nat) (Option.some Jvm.ClassFile.FieldType.int)) ∈ lw_all := lw_g (lw_at lw_m7 207 rfl) rfl
theorem q1762 : (Jvm.Cond.methodLink "UmbrellaHeirModel" (89 : Nat) ({ cls := "UmbrellaHeirModel", name := "isLetter", desc := "(I)Z" } : Jvm.MethodName)) ∈ lw_all := lw_g (lw_at lw_m7 208 rfl) rfl
theorem q1763 : (Jvm.Cond.static ({ cls := "UmbrellaHeirModel", name := "isLetter", desc := "(I)Z" } : Jvm.MethodName)) ∈ lw_all := lw_g (lw_at lw_m7 209 rfl) rfl
theorem q1764 : (Jvm.Cond.code ({ cls := "UmbrellaHeirModel", name := "isLetter", desc := "(I)Z" } : Jvm.MethodName) prog_26_method_14_code (1 : Nat) (Option.some Jvm.ClassFile.FieldType.boolean)) ∈ lw_all := lw_g (lw_at lw_m7 210 rfl) rfl
theorem q1765 : (Jvm.Cond.constantLong "UmbrellaHeirModel" (71 : Nat) (32 : Int64)) ∈ lw_all := lw_g (lw_at lw_m7 211 rfl) rfl
theorem q1766 : (Jvm.Cond.methodLink "UmbrellaHeirModel" (97 : Nat) ({ cls := "UmbrellaHeirModel", name := "isDigit", desc := "(I)Z" } : Jvm.MethodName)) ∈ lw_all := lw_g (lw_at lw_m7 212 rfl) rfl
theorem q1767 : (Jvm.Cond.static ({ cls := "UmbrellaHeirModel", name := "isDigit", desc := "(I)Z" } : Jvm.MethodName)) ∈ lw_all := lw_g (lw_at lw_m7 213 rfl) rfl
theorem q1768 : (Jvm.Cond.code ({ cls := "UmbrellaHeirModel", name := "isDigit", desc := "(I)Z" } : Jvm.MethodName) prog_26_method_15_code (1 : Nat) (Option.some Jvm.ClassFile.FieldType.boolean)) ∈ lw_all := lw_g (lw_at lw_m7 214 rfl) rfl
theorem q1769 : (Jvm.Cond.methodLink "UmbrellaHeirModel" (313 : Nat) ({ cls := "UmbrellaHeirModel", name := "readAll", desc := "()V" } : Jvm.MethodName)) ∈ lw_all := lw_g (lw_at lw_m7 215 rfl) rfl
theorem q1770 : (Jvm.Cond.privateMethod ({ cls := "UmbrellaHeirModel", name := "readAll", desc := "()V" } : Jvm.MethodName)) ∈ lw_tbl := lw_at lw_m7 216 rfl
theorem q1771 : (Jvm.Cond.instanceMethod ({ cls := "UmbrellaHeirModel", name := "readAll", desc := "()V" } : Jvm.MethodName)) ∈ lw_all := lw_g (lw_at lw_m7 217 rfl) rfl
theorem q1772 : (Jvm.Cond.code ({ cls := "UmbrellaHeirModel", name := "readAll", desc := "()V" } : Jvm.MethodName) prog_26_method_30_code (2 : Nat) (Option.none : Option Jvm.ClassFile.FieldType)) ∈ lw_all := lw_g (lw_at lw_m7 218 rfl) rfl
theorem q1773 : (Jvm.Cond.methodLink "UmbrellaHeirModel" (185 : Nat) ({ cls := "UmbrellaHeirModel", name := "readLine", desc := "()V" } : Jvm.MethodName)) ∈ lw_all := lw_g (lw_at lw_m7 219 rfl) rfl
theorem q1774 : (Jvm.Cond.privateMethod ({ cls := "UmbrellaHeirModel", name := "readLine", desc := "()V" } : Jvm.MethodName)) ∈ lw_tbl := lw_at lw_m7 220 rfl
theorem q1775 : (Jvm.Cond.instanceMethod ({ cls := "UmbrellaHeirModel", name := "readLine", desc := "()V" } : Jvm.MethodName)) ∈ lw_all := lw_g (lw_at lw_m7 221 rfl) rfl
theorem q1776 : (Jvm.Cond.code ({ cls := "UmbrellaHeirModel", name := "readLine", desc := "()V" } : Jvm.MethodName) prog_26_method_31_code (1 : Nat) (Option.none : Option Jvm.ClassFile.FieldType)) ∈ lw_all := lw_g (lw_at lw_m7 222 rfl) rfl
theorem q1777 : (Jvm.Cond.stringRef "UmbrellaHeirModel" (136 : Nat) "county") ∈ lw_tbl := lw_at lw_m7 223 rfl
theorem q1778 : (Jvm.Cond.methodLink "UmbrellaHeirModel" (116 : Nat) ({ cls := "UmbrellaHeirModel", name := "isWord", desc := "(Ljava/lang/String;)Z" } : Jvm.MethodName)) ∈ lw_all := lw_g (lw_at lw_m7 224 rfl) rfl
theorem q1779 : (Jvm.Cond.privateMethod ({ cls := "UmbrellaHeirModel", name := "isWord", desc := "(Ljava/lang/String;)Z" } : Jvm.MethodName)) ∈ lw_tbl := lw_at lw_m7 225 rfl
theorem q1780 : (Jvm.Cond.instanceMethod ({ cls := "UmbrellaHeirModel", name := "isWord", desc := "(Ljava/lang/String;)Z" } : Jvm.MethodName)) ∈ lw_all := lw_g (lw_at lw_m7 226 rfl) rfl
theorem q1781 : (Jvm.Cond.code ({ cls := "UmbrellaHeirModel", name := "isWord", desc := "(Ljava/lang/String;)Z" } : Jvm.MethodName) prog_26_method_19_code (2 : Nat) (Option.some Jvm.ClassFile.FieldType.boolean)) ∈ lw_all := lw_g (lw_at lw_m7 227 rfl) rfl
theorem q1782 : (Jvm.Cond.methodLink "UmbrellaHeirModel" (109 : Nat) ({ cls := "UmbrellaHeirModel", name := "packed", desc := "(Ljava/lang/String;)J" } : Jvm.MethodName)) ∈ lw_all := lw_g (lw_at lw_m7 228 rfl) rfl
theorem q1783 : (Jvm.Cond.static ({ cls := "UmbrellaHeirModel", name := "packed", desc := "(Ljava/lang/String;)J" } : Jvm.MethodName)) ∈ lw_all := lw_g (lw_at lw_m7 229 rfl) rfl
theorem q1784 : (Jvm.Cond.code ({ cls := "UmbrellaHeirModel", name := "packed", desc := "(Ljava/lang/String;)J" } : Jvm.MethodName) prog_26_method_16_code (4 : Nat) (Option.some Jvm.ClassFile.FieldType.long)) ∈ lw_all := lw_g (lw_at lw_m7 230 rfl) rfl
theorem q1785 : (Jvm.Cond.methodLink "UmbrellaHeirModel" (65 : Nat) ({ cls := "java/lang/String", name := "length", desc := "()I" } : Jvm.MethodName)) ∈ lw_all := lw_g (lw_at lw_m7 231 rfl) rfl
theorem q1793 : (Jvm.Cond.methodLink "UmbrellaHeirModel" (73 : Nat) ({ cls := "java/lang/String", name := "charAt", desc := "(I)C" } : Jvm.MethodName)) ∈ lw_all := lw_g (lw_at lw_m7 239 rfl) rfl
theorem q1813 : (Jvm.Cond.methodLink "UmbrellaHeirModel" (197 : Nat) ({ cls := "UmbrellaHeirModel", name := "readCounty", desc := "()V" } : Jvm.MethodName)) ∈ lw_all := lw_g (lw_at lw_m8 19 rfl) rfl
theorem q1814 : (Jvm.Cond.privateMethod ({ cls := "UmbrellaHeirModel", name := "readCounty", desc := "()V" } : Jvm.MethodName)) ∈ lw_tbl := lw_at lw_m8 20 rfl
theorem q1815 : (Jvm.Cond.instanceMethod ({ cls := "UmbrellaHeirModel", name := "readCounty", desc := "()V" } : Jvm.MethodName)) ∈ lw_all := lw_g (lw_at lw_m8 21 rfl) rfl
theorem q1816 : (Jvm.Cond.code ({ cls := "UmbrellaHeirModel", name := "readCounty", desc := "()V" } : Jvm.MethodName) prog_26_method_32_code (4 : Nat) (Option.none : Option Jvm.ClassFile.FieldType)) ∈ lw_all := lw_g (lw_at lw_m8 22 rfl) rfl
theorem q1817 : (Jvm.Cond.methodLink "UmbrellaHeirModel" (120 : Nat) ({ cls := "UmbrellaHeirModel", name := "flaw", desc := "(I)V" } : Jvm.MethodName)) ∈ lw_all := lw_g (lw_at lw_m8 23 rfl) rfl
theorem q1818 : (Jvm.Cond.privateMethod ({ cls := "UmbrellaHeirModel", name := "flaw", desc := "(I)V" } : Jvm.MethodName)) ∈ lw_tbl := lw_at lw_m8 24 rfl
theorem q1819 : (Jvm.Cond.instanceMethod ({ cls := "UmbrellaHeirModel", name := "flaw", desc := "(I)V" } : Jvm.MethodName)) ∈ lw_all := lw_g (lw_at lw_m8 25 rfl) rfl
theorem q1820 : (Jvm.Cond.code ({ cls := "UmbrellaHeirModel", name := "flaw", desc := "(I)V" } : Jvm.MethodName) prog_26_method_18_code (2 : Nat) (Option.none : Option Jvm.ClassFile.FieldType)) ∈ lw_all := lw_g (lw_at lw_m8 26 rfl) rfl
theorem q1821 : (Jvm.Cond.stringRef "UmbrellaHeirModel" (221 : Nat) "lapse") ∈ lw_tbl := lw_at lw_m8 27 rfl
theorem q1822 : (Jvm.Cond.methodLink "UmbrellaHeirModel" (222 : Nat) ({ cls := "UmbrellaHeirModel", name := "readPart", desc := "(Ljava/lang/String;II)I" } : Jvm.MethodName)) ∈ lw_all := lw_g (lw_at lw_m8 28 rfl) rfl
theorem q1823 : (Jvm.Cond.privateMethod ({ cls := "UmbrellaHeirModel", name := "readPart", desc := "(Ljava/lang/String;II)I" } : Jvm.MethodName)) ∈ lw_tbl := lw_at lw_m8 29 rfl
theorem q1824 : (Jvm.Cond.instanceMethod ({ cls := "UmbrellaHeirModel", name := "readPart", desc := "(Ljava/lang/String;II)I" } : Jvm.MethodName)) ∈ lw_all := lw_g (lw_at lw_m8 30 rfl) rfl
theorem q1825 : (Jvm.Cond.code ({ cls := "UmbrellaHeirModel", name := "readPart", desc := "(Ljava/lang/String;II)I" } : Jvm.MethodName) prog_26_method_23_code (4 : Nat) (Option.some Jvm.ClassFile.FieldType.int)) ∈ lw_all := lw_g (lw_at lw_m8 31 rfl) rfl
theorem q1826 : (Jvm.Cond.methodLink "UmbrellaHeirModel" (128 : Nat) ({ cls := "UmbrellaHeirModel", name := "needs", desc := "(Ljava/lang/String;)V" } : Jvm.MethodName)) ∈ lw_all := lw_g (lw_at lw_m8 32 rfl) rfl
theorem q1827 : (Jvm.Cond.privateMethod ({ cls := "UmbrellaHeirModel", name := "needs", desc := "(Ljava/lang/String;)V" } : Jvm.MethodName)) ∈ lw_tbl := lw_at lw_m8 33 rfl
theorem q1828 : (Jvm.Cond.instanceMethod ({ cls := "UmbrellaHeirModel", name := "needs", desc := "(Ljava/lang/String;)V" } : Jvm.MethodName)) ∈ lw_all := lw_g (lw_at lw_m8 34 rfl) rfl
theorem q1829 : (Jvm.Cond.code ({ cls := "UmbrellaHeirModel", name := "needs", desc := "(Ljava/lang/String;)V" } : Jvm.MethodName) prog_26_method_21_code (2 : Nat) (Option.none : Option Jvm.ClassFile.FieldType)) ∈ lw_all := lw_g (lw_at lw_m8 35 rfl) rfl
theorem q1830 : (Jvm.Cond.methodLink "UmbrellaHeirModel" (132 : Nat) ({ cls := "UmbrellaHeirModel", name := "readWhole", desc := "(II)I" } : Jvm.MethodName)) ∈ lw_all := lw_g (lw_at lw_m8 36 rfl) rfl
theorem q1831 : (Jvm.Cond.privateMethod ({ cls := "UmbrellaHeirModel", name := "readWhole", desc := "(II)I" } : Jvm.MethodName)) ∈ lw_tbl := lw_at lw_m8 37 rfl
theorem q1832 : (Jvm.Cond.instanceMethod ({ cls := "UmbrellaHeirModel", name := "readWhole", desc := "(II)I" } : Jvm.MethodName)) ∈ lw_all := lw_g (lw_at lw_m8 38 rfl) rfl
theorem q1833 : (Jvm.Cond.code ({ cls := "UmbrellaHeirModel", name := "readWhole", desc := "(II)I" } : Jvm.MethodName) prog_26_method_22_code (4 : Nat) (Option.some Jvm.ClassFile.FieldType.int)) ∈ lw_all := lw_g (lw_at lw_m8 39 rfl) rfl
theorem q1834 : (Jvm.Cond.methodLink "UmbrellaHeirModel" (124 : Nat) ({ cls := "UmbrellaHeirModel", name := "in", desc := "(III)Z" } : Jvm.MethodName)) ∈ lw_all := lw_g (lw_at lw_m8 40 rfl) rfl
theorem q1835 : (Jvm.Cond.static ({ cls := "UmbrellaHeirModel", name := "in", desc := "(III)Z" } : Jvm.MethodName)) ∈ lw_all := lw_g (lw_at lw_m8 41 rfl) rfl
theorem q1836 : (Jvm.Cond.code ({ cls := "UmbrellaHeirModel", name := "in", desc := "(III)Z" } : Jvm.MethodName) prog_26_method_8_code (3 : Nat) (Option.some Jvm.ClassFile.FieldType.boolean)) ∈ lw_all := lw_g (lw_at lw_m8 42 rfl) rfl
theorem q1837 : (Jvm.Cond.stringRef "UmbrellaHeirModel" (226 : Nat) "gust") ∈ lw_tbl := lw_at lw_m8 43 rfl
theorem q1838 : (Jvm.Cond.stringRef "UmbrellaHeirModel" (228 : Nat) "rains") ∈ lw_tbl := lw_at lw_m8 44 rfl
theorem q1839 : (Jvm.Cond.stringRef "UmbrellaHeirModel" (138 : Nat) "person") ∈ lw_tbl := lw_at lw_m8 45 rfl
theorem q1840 : (Jvm.Cond.methodLink "UmbrellaHeirModel" (200 : Nat) ({ cls := "UmbrellaHeirModel", name := "readPerson", desc := "()V" } : Jvm.MethodName)) ∈ lw_all := lw_g (lw_at lw_m8 46 rfl) rfl
theorem q1841 : (Jvm.Cond.privateMethod ({ cls := "UmbrellaHeirModel", name := "readPerson", desc := "()V" } : Jvm.MethodName)) ∈ lw_tbl := lw_at lw_m8 47 rfl
theorem q1842 : (Jvm.Cond.instanceMethod ({ cls := "UmbrellaHeirModel", name := "readPerson", desc := "()V" } : Jvm.MethodName)) ∈ lw_all := lw_g (lw_at lw_m8 48 rfl) rfl
theorem q1843 : (Jvm.Cond.code ({ cls := "UmbrellaHeirModel", name := "readPerson", desc := "()V" } : Jvm.MethodName) prog_26_method_33_code (4 : Nat) (Option.none : Option Jvm.ClassFile.FieldType)) ∈ lw_all := lw_g (lw_at lw_m8 49 rfl) rfl
theorem q1844 : (Jvm.Cond.methodLink "UmbrellaHeirModel" (234 : Nat) ({ cls := "UmbrellaHeirModel", name := "lineBegins", desc := "(II)V" } : Jvm.MethodName)) ∈ lw_all := lw_g (lw_at lw_m8 50 rfl) rfl
theorem q1845 : (Jvm.Cond.privateMethod ({ cls := "UmbrellaHeirModel", name := "lineBegins", desc := "(II)V" } : Jvm.MethodName)) ∈ lw_tbl := lw_at lw_m8 51 rfl
theorem q1846 : (Jvm.Cond.instanceMethod ({ cls := "UmbrellaHeirModel", name := "lineBegins", desc := "(II)V" } : Jvm.MethodName)) ∈ lw_all := lw_g (lw_at lw_m8 52 rfl) rfl
theorem q1847 : (Jvm.Cond.code ({ cls := "UmbrellaHeirModel", name := "lineBegins", desc := "(II)V" } : Jvm.MethodName) prog_26_method_25_code (3 : Nat) (Option.none : Option Jvm.ClassFile.FieldType)) ∈ lw_all := lw_g (lw_at lw_m8 53 rfl) rfl
theorem q1848 : (Jvm.Cond.methodLink "UmbrellaHeirModel" (238 : Nat) ({ cls := "UmbrellaHeirModel", name := "readFresh", desc := "()J" } : Jvm.MethodName)) ∈ lw_all := lw_g (lw_at lw_m8 54 rfl) rfl
theorem q1849 : (Jvm.Cond.privateMethod ({ cls := "UmbrellaHeirModel", name := "readFresh", desc := "()J" } : Jvm.MethodName)) ∈ lw_tbl := lw_at lw_m8 55 rfl
theorem q1850 : (Jvm.Cond.instanceMethod ({ cls := "UmbrellaHeirModel", name := "readFresh", desc := "()J" } : Jvm.MethodName)) ∈ lw_all := lw_g (lw_at lw_m8 56 rfl) rfl
theorem q1851 : (Jvm.Cond.code ({ cls := "UmbrellaHeirModel", name := "readFresh", desc := "()J" } : Jvm.MethodName) prog_26_method_26_code (3 : Nat) (Option.some Jvm.ClassFile.FieldType.long)) ∈ lw_all := lw_g (lw_at lw_m8 57 rfl) rfl
theorem q1852 : (Jvm.Cond.methodLink "UmbrellaHeirModel" (161 : Nat) ({ cls := "UmbrellaHeirModel", name := "isName", desc := "()Z" } : Jvm.MethodName)) ∈ lw_all := lw_g (lw_at lw_m8 58 rfl) rfl
theorem q1853 : (Jvm.Cond.privateMethod ({ cls := "UmbrellaHeirModel", name := "isName", desc := "()Z" } : Jvm.MethodName)) ∈ lw_tbl := lw_at lw_m8 59 rfl
theorem q1854 : (Jvm.Cond.instanceMethod ({ cls := "UmbrellaHeirModel", name := "isName", desc := "()Z" } : Jvm.MethodName)) ∈ lw_all := lw_g (lw_at lw_m8 60 rfl) rfl
theorem q1855 : (Jvm.Cond.code ({ cls := "UmbrellaHeirModel", name := "isName", desc := "()Z" } : Jvm.MethodName) prog_26_method_24_code (1 : Nat) (Option.some Jvm.ClassFile.FieldType.boolean)) ∈ lw_all := lw_g (lw_at lw_m8 61 rfl) rfl
theorem q1856 : (Jvm.Cond.stringRef "UmbrellaHeirModel" (140 : Nat) "umbrella") ∈ lw_tbl := lw_at lw_m8 62 rfl
theorem q1857 : (Jvm.Cond.stringRef "UmbrellaHeirModel" (142 : Nat) "lent") ∈ lw_tbl := lw_at lw_m8 63 rfl
theorem q1858 : (Jvm.Cond.stringRef "UmbrellaHeirModel" (144 : Nat) "left") ∈ lw_tbl := lw_at lw_m8 64 rfl
theorem q1859 : (Jvm.Cond.stringRef "UmbrellaHeirModel" (146 : Nat) "changed") ∈ lw_tbl := lw_at lw_m8 65 rfl
theorem q1860 : (Jvm.Cond.stringRef "UmbrellaHeirModel" (148 : Nat) "rain") ∈ lw_tbl := lw_at lw_m8 66 rfl
theorem q1861 : (Jvm.Cond.stringRef "UmbrellaHeirModel" (150 : Nat) "claims") ∈ lw_tbl := lw_at lw_m8 67 rfl
theorem q1862 : (Jvm.Cond.methodLink "UmbrellaHeirModel" (165 : Nat) ({ cls := "UmbrellaHeirModel$County", name := "find", desc := "(J)I" } : Jvm.MethodName)) ∈ lw_all := lw_g (lw_at lw_m8 68 rfl) rfl
theorem q1866 : (Jvm.Cond.stringRef "UmbrellaHeirModel" (242 : Nat) "plain") ∈ lw_tbl := lw_at lw_m8 72 rfl
theorem q1867 : (Jvm.Cond.stringRef "UmbrellaHeirModel" (244 : Nat) "child") ∈ lw_tbl := lw_at lw_m8 73 rfl
theorem q1868 : (Jvm.Cond.stringRef "UmbrellaHeirModel" (246 : Nat) "careless") ∈ lw_tbl := lw_at lw_m8 74 rfl
theorem q1869 : (Jvm.Cond.methodLink "UmbrellaHeirModel" (248 : Nat) ({ cls := "UmbrellaHeirModel", name := "names", desc := "(JII)V" } : Jvm.MethodName)) ∈ lw_all := lw_g (lw_at lw_m8 75 rfl) rfl
theorem q1870 : (Jvm.Cond.privateMethod ({ cls := "UmbrellaHeirModel", name := "names", desc := "(JII)V" } : Jvm.MethodName)) ∈ lw_tbl := lw_at lw_m8 76 rfl
theorem q1871 : (Jvm.Cond.instanceMethod ({ cls := "UmbrellaHeirModel", name := "names", desc := "(JII)V" } : Jvm.MethodName)) ∈ lw_all := lw_g (lw_at lw_m8 77 rfl) rfl
theorem q1872 : (Jvm.Cond.code ({ cls := "UmbrellaHeirModel", name := "names", desc := "(JII)V" } : Jvm.MethodName) prog_26_method_27_code (5 : Nat) (Option.none : Option Jvm.ClassFile.FieldType)) ∈ lw_all := lw_g (lw_at lw_m8 78 rfl) rfl
theorem q1873 : (Jvm.Cond.methodLink "UmbrellaHeirModel" (203 : Nat) ({ cls := "UmbrellaHeirModel", name := "readUmbrella", desc := "()V" } : Jvm.MethodName)) ∈ lw_all := lw_g (lw_at lw_m8 79 rfl) rfl
theorem q1874 : (Jvm.Cond.privateMethod ({ cls := "UmbrellaHeirModel", name := "readUmbrella", desc := "()V" } : Jvm.MethodName)) ∈ lw_tbl := lw_at lw_m8 80 rfl
theorem q1875 : (Jvm.Cond.instanceMethod ({ cls := "UmbrellaHeirModel", name := "readUmbrella", desc := "()V" } : Jvm.MethodName)) ∈ lw_all := lw_g (lw_at lw_m8 81 rfl) rfl
theorem q1876 : (Jvm.Cond.code ({ cls := "UmbrellaHeirModel", name := "readUmbrella", desc := "()V" } : Jvm.MethodName) prog_26_method_34_code (8 : Nat) (Option.none : Option Jvm.ClassFile.FieldType)) ∈ lw_all := lw_g (lw_at lw_m8 82 rfl) rfl
theorem q1877 : (Jvm.Cond.stringRef "UmbrellaHeirModel" (253 : Nat) "silk") ∈ lw_tbl := lw_at lw_m8 83 rfl
theorem q1878 : (Jvm.Cond.stringRef "UmbrellaHeirModel" (255 : Nat) "cotton") ∈ lw_tbl := lw_at lw_m8 84 rfl
theorem q1879 : (Jvm.Cond.stringRef "UmbrellaHeirModel" (257 : Nat) "stick") ∈ lw_tbl := lw_at lw_m8 85 rfl
theorem q1880 : (Jvm.Cond.stringRef "UmbrellaHeirModel" (259 : Nat) "parasol") ∈ lw_tbl := lw_at lw_m8 86 rfl
theorem q1881 : (Jvm.Cond.stringRef "UmbrellaHeirModel" (261 : Nat) "lands") ∈ lw_tbl := lw_at lw_m8 87 rfl
theorem q1882 : (Jvm.Cond.stringRef "UmbrellaHeirModel" (263 : Nat) "ribs") ∈ lw_tbl := lw_at lw_m8 88 rfl
theorem q1883 : (Jvm.Cond.stringRef "UmbrellaHeirModel" (265 : Nat) "with") ∈ lw_tbl := lw_at lw_m8 89 rfl
theorem q1884 : (Jvm.Cond.methodLink "UmbrellaHeirModel" (267 : Nat) ({ cls := "UmbrellaHeirModel", name := "readKnown", desc := "(I)I" } : Jvm.MethodName)) ∈ lw_all := lw_g (lw_at lw_m8 90 rfl) rfl
theorem q1885 : (Jvm.Cond.privateMethod ({ cls := "UmbrellaHeirModel", name := "readKnown", desc := "(I)I" } : Jvm.MethodName)) ∈ lw_tbl := lw_at lw_m8 91 rfl
theorem q1886 : (Jvm.Cond.instanceMethod ({ cls := "UmbrellaHeirModel", name := "readKnown", desc := "(I)I" } : Jvm.MethodName)) ∈ lw_all := lw_g (lw_at lw_m8 92 rfl) rfl
theorem q1887 : (Jvm.Cond.code ({ cls := "UmbrellaHeirModel", name := "readKnown", desc := "(I)I" } : Jvm.MethodName) prog_26_method_29_code (3 : Nat) (Option.some Jvm.ClassFile.FieldType.int)) ∈ lw_all := lw_g (lw_at lw_m8 93 rfl) rfl
theorem q1888 : (Jvm.Cond.methodLink "UmbrellaHeirModel" (182 : Nat) ({ cls := "UmbrellaHeirModel", name := "knownOne", desc := "(I)I" } : Jvm.MethodName)) ∈ lw_all := lw_g (lw_at lw_m8 94 rfl) rfl
theorem q1889 : (Jvm.Cond.privateMethod ({ cls := "UmbrellaHeirModel", name := "knownOne", desc := "(I)I" } : Jvm.MethodName)) ∈ lw_tbl := lw_at lw_m8 95 rfl
theorem q1890 : (Jvm.Cond.instanceMethod ({ cls := "UmbrellaHeirModel", name := "knownOne", desc := "(I)I" } : Jvm.MethodName)) ∈ lw_all := lw_g (lw_at lw_m8 96 rfl) rfl
theorem q1891 : (Jvm.Cond.code ({ cls := "UmbrellaHeirModel", name := "knownOne", desc := "(I)I" } : Jvm.MethodName) prog_26_method_28_code (3 : Nat) (Option.some Jvm.ClassFile.FieldType.int)) ∈ lw_all := lw_g (lw_at lw_m8 97 rfl) rfl
theorem q1892 : (Jvm.Cond.methodLink "UmbrellaHeirModel" (206 : Nat) ({ cls := "UmbrellaHeirModel", name := "readLent", desc := "()V" } : Jvm.MethodName)) ∈ lw_all := lw_g (lw_at lw_m8 98 rfl) rfl
theorem q1893 : (Jvm.Cond.privateMethod ({ cls := "UmbrellaHeirModel", name := "readLent", desc := "()V" } : Jvm.MethodName)) ∈ lw_tbl := lw_at lw_m8 99 rfl
theorem q1894 : (Jvm.Cond.instanceMethod ({ cls := "UmbrellaHeirModel", name := "readLent", desc := "()V" } : Jvm.MethodName)) ∈ lw_all := lw_g (lw_at lw_m8 100 rfl) rfl
theorem q1895 : (Jvm.Cond.code ({ cls := "UmbrellaHeirModel", name := "readLent", desc := "()V" } : Jvm.MethodName) prog_26_method_36_code (3 : Nat) (Option.none : Option Jvm.ClassFile.FieldType)) ∈ lw_all := lw_g (lw_at lw_m8 101 rfl) rfl
theorem q1896 : (Jvm.Cond.methodLink "UmbrellaHeirModel" (295 : Nat) ({ cls := "UmbrellaHeirModel", name := "logs", desc := "(III)V" } : Jvm.MethodName)) ∈ lw_all := lw_g (lw_at lw_m8 102 rfl) rfl
theorem q1897 : (Jvm.Cond.privateMethod ({ cls := "UmbrellaHeirModel", name := "logs", desc := "(III)V" } : Jvm.MethodName)) ∈ lw_tbl := lw_at lw_m8 103 rfl
theorem q1898 : (Jvm.Cond.instanceMethod ({ cls := "UmbrellaHeirModel", name := "logs", desc := "(III)V" } : Jvm.MethodName)) ∈ lw_all := lw_g (lw_at lw_m8 104 rfl) rfl
theorem q1899 : (Jvm.Cond.code ({ cls := "UmbrellaHeirModel", name := "logs", desc := "(III)V" } : Jvm.MethodName) prog_26_method_35_code (6 : Nat) (Option.none : Option Jvm.ClassFile.FieldType)) ∈ lw_all := lw_g (lw_at lw_m8 105 rfl) rfl
theorem q1900 : (Jvm.Cond.stringRef "UmbrellaHeirModel" (285 : Nat) "day") ∈ lw_tbl := lw_at lw_m8 106 rfl
theorem q1901 : (Jvm.Cond.methodLink "UmbrellaHeirModel" (209 : Nat) ({ cls := "UmbrellaHeirModel", name := "readLeft", desc := "()V" } : Jvm.MethodName)) ∈ lw_all := lw_g (lw_at lw_m8 107 rfl) rfl
theorem q1902 : (Jvm.Cond.privateMethod ({ cls := "UmbrellaHeirModel", name := "readLeft", desc := "()V" } : Jvm.MethodName)) ∈ lw_tbl := lw_at lw_m8 108 rfl
theorem q1903 : (Jvm.Cond.instanceMethod ({ cls := "UmbrellaHeirModel", name := "readLeft", desc := "()V" } : Jvm.MethodName)) ∈ lw_all := lw_g (lw_at lw_m8 109 rfl) rfl
theorem q1904 : (Jvm.Cond.code ({ cls := "UmbrellaHeirModel", name := "readLeft", desc := "()V" } : Jvm.MethodName) prog_26_method_37_code (2 : Nat) (Option.none : Option Jvm.ClassFile.FieldType)) ∈ lw_all := lw_g (lw_at lw_m8 110 rfl) rfl
theorem q1905 : (Jvm.Cond.methodLink "UmbrellaHeirModel" (212 : Nat) ({ cls := "UmbrellaHeirModel", name := "readChanged", desc := "()V" } : Jvm.MethodName)) ∈ lw_all := lw_g (lw_at lw_m8 111 rfl) rfl
theorem q1906 : (Jvm.Cond.privateMethod ({ cls := "UmbrellaHeirModel", name := "readChanged", desc := "()V" } : Jvm.MethodName)) ∈ lw_tbl := lw_at lw_m8 112 rfl
theorem q1907 : (Jvm.Cond.instanceMethod ({ cls := "UmbrellaHeirModel", name := "readChanged", desc := "()V" } : Jvm.MethodName)) ∈ lw_all := lw_g (lw_at lw_m8 113 rfl) rfl
theorem q1908 : (Jvm.Cond.code ({ cls := "UmbrellaHeirModel", name := "readChanged", desc := "()V" } : Jvm.MethodName) prog_26_method_38_code (3 : Nat) (Option.none : Option Jvm.ClassFile.FieldType)) ∈ lw_all := lw_g (lw_at lw_m8 114 rfl) rfl
theorem q1909 : (Jvm.Cond.methodLink "UmbrellaHeirModel" (215 : Nat) ({ cls := "UmbrellaHeirModel", name := "readRain", desc := "()V" } : Jvm.MethodName)) ∈ lw_all := lw_g (lw_at lw_m8 115 rfl) rfl
theorem q1910 : (Jvm.Cond.privateMethod ({ cls := "UmbrellaHeirModel", name := "readRain", desc := "()V" } : Jvm.MethodName)) ∈ lw_tbl := lw_at lw_m8 116 rfl
theorem q1911 : (Jvm.Cond.instanceMethod ({ cls := "UmbrellaHeirModel", name := "readRain", desc := "()V" } : Jvm.MethodName)) ∈ lw_all := lw_g (lw_at lw_m8 117 rfl) rfl
theorem q1912 : (Jvm.Cond.code ({ cls := "UmbrellaHeirModel", name := "readRain", desc := "()V" } : Jvm.MethodName) prog_26_method_39_code (1 : Nat) (Option.none : Option Jvm.ClassFile.FieldType)) ∈ lw_all := lw_g (lw_at lw_m8 118 rfl) rfl
theorem q1913 : (Jvm.Cond.methodLink "UmbrellaHeirModel" (218 : Nat) ({ cls := "UmbrellaHeirModel", name := "readClaims", desc := "()V" } : Jvm.MethodName)) ∈ lw_all := lw_g (lw_at lw_m8 119 rfl) rfl
theorem q1914 : (Jvm.Cond.privateMethod ({ cls := "UmbrellaHeirModel", name := "readClaims", desc := "()V" } : Jvm.MethodName)) ∈ lw_tbl := lw_at lw_m8 120 rfl
theorem q1915 : (Jvm.Cond.instanceMethod ({ cls := "UmbrellaHeirModel", name := "readClaims", desc := "()V" } : Jvm.MethodName)) ∈ lw_all := lw_g (lw_at lw_m8 121 rfl) rfl
theorem q1916 : (Jvm.Cond.code ({ cls := "UmbrellaHeirModel", name := "readClaims", desc := "()V" } : Jvm.MethodName) prog_26_method_40_code (4 : Nat) (Option.none : Option Jvm.ClassFile.FieldType)) ∈ lw_all := lw_g (lw_at lw_m8 122 rfl) rfl
theorem q1917 : (Jvm.Cond.methodLink "UmbrellaHeirModel" (188 : Nat) ({ cls := "UmbrellaHeirModel", name := "eatsSemicolon", desc := "()Z" } : Jvm.MethodName)) ∈ lw_all := lw_g (lw_at lw_m8 123 rfl) rfl
theorem q1918 : (Jvm.Cond.privateMethod ({ cls := "UmbrellaHeirModel", name := "eatsSemicolon", desc := "()Z" } : Jvm.MethodName)) ∈ lw_tbl := lw_at lw_m8 124 rfl
theorem q1919 : (Jvm.Cond.instanceMethod ({ cls := "UmbrellaHeirModel", name := "eatsSemicolon", desc := "()Z" } : Jvm.MethodName)) ∈ lw_all := lw_g (lw_at lw_m8 125 rfl) rfl
theorem q1920 : (Jvm.Cond.code ({ cls := "UmbrellaHeirModel", name := "eatsSemicolon", desc := "()Z" } : Jvm.MethodName) prog_26_method_20_code (2 : Nat) (Option.some Jvm.ClassFile.FieldType.boolean)) ∈ lw_all := lw_g (lw_at lw_m8 126 rfl) rfl
theorem q1921 : (Jvm.Cond.methodLink "UmbrellaHeirModel" (318 : Nat) ({ cls := "UmbrellaHeirModel", name := "starts", desc := "([I)V" } : Jvm.MethodName)) ∈ lw_all := lw_g (lw_at lw_m8 127 rfl) rfl
theorem q1922 : (Jvm.Cond.privateMethod ({ cls := "UmbrellaHeirModel", name := "starts", desc := "([I)V" } : Jvm.MethodName)) ∈ lw_tbl := lw_at lw_m8 128 rfl
theorem q1923 : (Jvm.Cond.instanceMethod ({ cls := "UmbrellaHeirModel", name := "starts", desc := "([I)V" } : Jvm.MethodName)) ∈ lw_all := lw_g (lw_at lw_m8 129 rfl) rfl
theorem q1924 : (Jvm.Cond.code ({ cls := "UmbrellaHeirModel", name := "starts", desc := "([I)V" } : Jvm.MethodName) prog_26_method_46_code (4 : Nat) (Option.none : Option Jvm.ClassFile.FieldType)) ∈ lw_all := lw_g (lw_at lw_m8 130 rfl) rfl
theorem q1925 : (Jvm.Cond.methodLink "UmbrellaHeirModel" (328 : Nat) ({ cls := "UmbrellaHeirModel", name := "isChild", desc := "(I)Z" } : Jvm.MethodName)) ∈ lw_all := lw_g (lw_at lw_m8 131 rfl) rfl
theorem q1926 : (Jvm.Cond.privateMethod ({ cls := "UmbrellaHeirModel", name := "isChild", desc := "(I)Z" } : Jvm.MethodName)) ∈ lw_tbl := lw_at lw_m8 132 rfl
theorem q1927 : (Jvm.Cond.instanceMethod ({ cls := "UmbrellaHeirModel", name := "isChild", desc := "(I)Z" } : Jvm.MethodName)) ∈ lw_all := lw_g (lw_at lw_m8 133 rfl) rfl
theorem q1928 : (Jvm.Cond.code ({ cls := "UmbrellaHeirModel", name := "isChild", desc := "(I)Z" } : Jvm.MethodName) prog_26_method_45_code (2 : Nat) (Option.some Jvm.ClassFile.FieldType.boolean)) ∈ lw_all := lw_g (lw_at lw_m8 134 rfl) rfl
theorem q1929 : (Jvm.Cond.methodLink "UmbrellaHeirModel" (55 : Nat) ({ cls := "UmbrellaHeirModel", name := "good", desc := "(I)I" } : Jvm.MethodName)) ∈ lw_all := lw_g (lw_at lw_m8 135 rfl) rfl
theorem q1930 : (Jvm.Cond.privateMethod ({ cls := "UmbrellaHeirModel", name := "good", desc := "(I)I" } : Jvm.MethodName)) ∈ lw_tbl := lw_at lw_m8 136 rfl
theorem q1931 : (Jvm.Cond.instanceMethod ({ cls := "UmbrellaHeirModel", name := "good", desc := "(I)I" } : Jvm.MethodName)) ∈ lw_all := lw_g (lw_at lw_m8 137 rfl) rfl
theorem q1932 : (Jvm.Cond.code ({ cls := "UmbrellaHeirModel", name := "good", desc := "(I)I" } : Jvm.MethodName) prog_26_method_6_code (2 : Nat) (Option.some Jvm.ClassFile.FieldType.int)) ∈ lw_all := lw_g (lw_at lw_m8 138 rfl) rfl
theorem q1934 : (Jvm.Cond.instanceMethod ({ cls := "UmbrellaHeirModel", name := "fault", desc := "()I" } : Jvm.MethodName)) ∈ lw_all := lw_g (lw_at lw_m8 140 rfl) rfl
theorem q1935 : (Jvm.Cond.selects "UmbrellaHeirModel" ({ cls := "UmbrellaHeirModel", name := "fault", desc := "()I" } : Jvm.MethodName) ({ cls := "UmbrellaHeirModel", name := "fault", desc := "()I" } : Jvm.MethodName)) ∈ lw_all := lw_g (lw_at lw_m8 141 rfl) rfl
theorem q1936 : (Jvm.Cond.code ({ cls := "UmbrellaHeirModel", name := "fault", desc := "()I" } : Jvm.MethodName) prog_26_method_43_code (1 : Nat) (Option.some Jvm.ClassFile.FieldType.int)) ∈ lw_all := lw_g (lw_at lw_m8 142 rfl) rfl
theorem q1938 : (Jvm.Cond.instanceMethod ({ cls := "UmbrellaHeirModel", name := "where", desc := "()I" } : Jvm.MethodName)) ∈ lw_all := lw_g (lw_at lw_m8 144 rfl) rfl
theorem q1939 : (Jvm.Cond.selects "UmbrellaHeirModel" ({ cls := "UmbrellaHeirModel", name := "where", desc := "()I" } : Jvm.MethodName) ({ cls := "UmbrellaHeirModel", name := "where", desc := "()I" } : Jvm.MethodName)) ∈ lw_all := lw_g (lw_at lw_m8 145 rfl) rfl
theorem q1940 : (Jvm.Cond.code ({ cls := "UmbrellaHeirModel", name := "where", desc := "()I" } : Jvm.MethodName) prog_26_method_44_code (1 : Nat) (Option.some Jvm.ClassFile.FieldType.int)) ∈ lw_all := lw_g (lw_at lw_m8 146 rfl) rfl
theorem q1942 : (Jvm.Cond.instanceMethod ({ cls := "UmbrellaHeirModel", name := "umbrella", desc := "(II)I" } : Jvm.MethodName)) ∈ lw_all := lw_g (lw_at lw_m8 148 rfl) rfl
theorem q1943 : (Jvm.Cond.selects "UmbrellaHeirModel" ({ cls := "UmbrellaHeirModel", name := "umbrella", desc := "(II)I" } : Jvm.MethodName) ({ cls := "UmbrellaHeirModel", name := "umbrella", desc := "(II)I" } : Jvm.MethodName)) ∈ lw_all := lw_g (lw_at lw_m8 149 rfl) rfl
theorem q1944 : (Jvm.Cond.code ({ cls := "UmbrellaHeirModel", name := "umbrella", desc := "(II)I" } : Jvm.MethodName) prog_26_method_59_code (3 : Nat) (Option.some Jvm.ClassFile.FieldType.int)) ∈ lw_all := lw_g (lw_at lw_m8 150 rfl) rfl
theorem q1945 : (Jvm.Cond.methodLink "UmbrellaHeirModel" (359 : Nat) ({ cls := "UmbrellaHeirModel", name := "isUmbrella", desc := "(I)Z" } : Jvm.MethodName)) ∈ lw_all := lw_g (lw_at lw_m8 151 rfl) rfl
theorem q1946 : (Jvm.Cond.privateMethod ({ cls := "UmbrellaHeirModel", name := "isUmbrella", desc := "(I)Z" } : Jvm.MethodName)) ∈ lw_tbl := lw_at lw_m8 152 rfl
theorem q1947 : (Jvm.Cond.instanceMethod ({ cls := "UmbrellaHeirModel", name := "isUmbrella", desc := "(I)Z" } : Jvm.MethodName)) ∈ lw_all := lw_g (lw_at lw_m8 153 rfl) rfl
theorem q1948 : (Jvm.Cond.code ({ cls := "UmbrellaHeirModel", name := "isUmbrella", desc := "(I)Z" } : Jvm.MethodName) prog_26_method_49_code (2 : Nat) (Option.some Jvm.ClassFile.FieldType.boolean)) ∈ lw_all := lw_g (lw_at lw_m8 154 rfl) rfl
theorem q1950 : (Jvm.Cond.instanceMethod ({ cls := "UmbrellaHeirModel", name := "person", desc := "(II)I" } : Jvm.MethodName)) ∈ lw_all := lw_g (lw_at lw_m8 156 rfl) rfl
theorem q1951 : (Jvm.Cond.selects "UmbrellaHeirModel" ({ cls := "UmbrellaHeirModel", name := "person", desc := "(II)I" } : Jvm.MethodName) ({ cls := "UmbrellaHeirModel", name := "person", desc := "(II)I" } : Jvm.MethodName)) ∈ lw_all := lw_g (lw_at lw_m8 157 rfl) rfl
theorem q1952 : (Jvm.Cond.code ({ cls := "UmbrellaHeirModel", name := "person", desc := "(II)I" } : Jvm.MethodName) prog_26_method_60_code (3 : Nat) (Option.some Jvm.ClassFile.FieldType.int)) ∈ lw_all := lw_g (lw_at lw_m8 158 rfl) rfl
theorem q1953 : (Jvm.Cond.methodLink "UmbrellaHeirModel" (362 : Nat) ({ cls := "UmbrellaHeirModel", name := "isPerson", desc := "(I)Z" } : Jvm.MethodName)) ∈ lw_all := lw_g (lw_at lw_m8 159 rfl) rfl
theorem q1954 : (Jvm.Cond.privateMethod ({ cls := "UmbrellaHeirModel", name := "isPerson", desc := "(I)Z" } : Jvm.MethodName)) ∈ lw_tbl := lw_at lw_m8 160 rfl
theorem q1955 : (Jvm.Cond.instanceMethod ({ cls := "UmbrellaHeirModel", name := "isPerson", desc := "(I)Z" } : Jvm.MethodName)) ∈ lw_all := lw_g (lw_at lw_m8 161 rfl) rfl
theorem q1956 : (Jvm.Cond.code ({ cls := "UmbrellaHeirModel", name := "isPerson", desc := "(I)Z" } : Jvm.MethodName) prog_26_method_48_code (2 : Nat) (Option.some Jvm.ClassFile.FieldType.boolean)) ∈ lw_all := lw_g (lw_at lw_m8 162 rfl) rfl
theorem q1957 : (Jvm.Cond.methodLink "UmbrellaHeirModel" (338 : Nat) ({ cls := "UmbrellaHeirModel", name := "hadBy", desc := "([II)I" } : Jvm.MethodName)) ∈ lw_all := lw_g (lw_at lw_m8 163 rfl) rfl
theorem q1958 : (Jvm.Cond.privateMethod ({ cls := "UmbrellaHeirModel", name := "hadBy", desc := "([II)I" } : Jvm.MethodName)) ∈ lw_tbl := lw_at lw_m8 164 rfl
theorem q1959 : (Jvm.Cond.instanceMethod ({ cls := "UmbrellaHeirModel", name := "hadBy", desc := "([II)I" } : Jvm.MethodName)) ∈ lw_all := lw_g (lw_at lw_m8 165 rfl) rfl
theorem q1960 : (Jvm.Cond.code ({ cls := "UmbrellaHeirModel", name := "hadBy", desc := "([II)I" } : Jvm.MethodName) prog_26_method_51_code (5 : Nat) (Option.some Jvm.ClassFile.FieldType.int)) ∈ lw_all := lw_g (lw_at lw_m8 166 rfl) rfl
theorem q1961 : (Jvm.Cond.methodLink "UmbrellaHeirModel" (365 : Nat) ({ cls := "UmbrellaHeirModel", name := "landsIn", desc := "([II)I" } : Jvm.MethodName)) ∈ lw_all := lw_g (lw_at lw_m8 167 rfl) rfl
theorem q1962 : (Jvm.Cond.privateMethod ({ cls := "UmbrellaHeirModel", name := "landsIn", desc := "([II)I" } : Jvm.MethodName)) ∈ lw_tbl := lw_at lw_m8 168 rfl
theorem q1963 : (Jvm.Cond.instanceMethod ({ cls := "UmbrellaHeirModel", name := "landsIn", desc := "([II)I" } : Jvm.MethodName)) ∈ lw_all := lw_g (lw_at lw_m8 169 rfl) rfl
theorem q1964 : (Jvm.Cond.code ({ cls := "UmbrellaHeirModel", name := "landsIn", desc := "([II)I" } : Jvm.MethodName) prog_26_method_52_code (5 : Nat) (Option.some Jvm.ClassFile.FieldType.int)) ∈ lw_all := lw_g (lw_at lw_m8 170 rfl) rfl
theorem q1966 : (Jvm.Cond.instanceMethod ({ cls := "UmbrellaHeirModel", name := "alike", desc := "(I)I" } : Jvm.MethodName)) ∈ lw_all := lw_g (lw_at lw_m8 172 rfl) rfl
theorem q1967 : (Jvm.Cond.selects "UmbrellaHeirModel" ({ cls := "UmbrellaHeirModel", name := "alike", desc := "(I)I" } : Jvm.MethodName) ({ cls := "UmbrellaHeirModel", name := "alike", desc := "(I)I" } : Jvm.MethodName)) ∈ lw_all := lw_g (lw_at lw_m8 173 rfl) rfl
theorem q1968 : (Jvm.Cond.code ({ cls := "UmbrellaHeirModel", name := "alike", desc := "(I)I" } : Jvm.MethodName) prog_26_method_61_code (4 : Nat) (Option.some Jvm.ClassFile.FieldType.int)) ∈ lw_all := lw_g (lw_at lw_m8 174 rfl) rfl
theorem q1969 : (Jvm.Cond.methodLink "UmbrellaHeirModel" (368 : Nat) ({ cls := "UmbrellaHeirModel$County", name := "areAlike", desc := "(II)Z" } : Jvm.MethodName)) ∈ lw_all := lw_g (lw_at lw_m8 175 rfl) rfl
theorem q1974 : (Jvm.Cond.instanceMethod ({ cls := "UmbrellaHeirModel", name := "right", desc := "()I" } : Jvm.MethodName)) ∈ lw_all := lw_g (lw_at lw_m8 180 rfl) rfl
theorem q1975 : (Jvm.Cond.selects "UmbrellaHeirModel" ({ cls := "UmbrellaHeirModel", name := "right", desc := "()I" } : Jvm.MethodName) ({ cls := "UmbrellaHeirModel", name := "right", desc := "()I" } : Jvm.MethodName)) ∈ lw_all := lw_g (lw_at lw_m8 181 rfl) rfl
theorem q1976 : (Jvm.Cond.code ({ cls := "UmbrellaHeirModel", name := "right", desc := "()I" } : Jvm.MethodName) prog_26_method_63_code (1 : Nat) (Option.some Jvm.ClassFile.FieldType.int)) ∈ lw_all := lw_g (lw_at lw_m8 182 rfl) rfl
theorem q1977 : (Jvm.Cond.methodLink "UmbrellaHeirModel" (372 : Nat) ({ cls := "UmbrellaHeirModel", name := "rightIn", desc := "([I)I" } : Jvm.MethodName)) ∈ lw_all := lw_g (lw_at lw_m8 183 rfl) rfl
theorem q1978 : (Jvm.Cond.privateMethod ({ cls := "UmbrellaHeirModel", name := "rightIn", desc := "([I)I" } : Jvm.MethodName)) ∈ lw_tbl := lw_at lw_m8 184 rfl
theorem q1979 : (Jvm.Cond.instanceMethod ({ cls := "UmbrellaHeirModel", name := "rightIn", desc := "([I)I" } : Jvm.MethodName)) ∈ lw_all := lw_g (lw_at lw_m8 185 rfl) rfl
theorem q1980 : (Jvm.Cond.code ({ cls := "UmbrellaHeirModel", name := "rightIn", desc := "([I)I" } : Jvm.MethodName) prog_26_method_62_code (4 : Nat) (Option.some Jvm.ClassFile.FieldType.int)) ∈ lw_all := lw_g (lw_at lw_m8 186 rfl) rfl
theorem q1982 : (Jvm.Cond.instanceMethod ({ cls := "UmbrellaHeirModel", name := "richest", desc := "()I" } : Jvm.MethodName)) ∈ lw_all := lw_g (lw_at lw_m8 188 rfl) rfl
theorem q1983 : (Jvm.Cond.selects "UmbrellaHeirModel" ({ cls := "UmbrellaHeirModel", name := "richest", desc := "()I" } : Jvm.MethodName) ({ cls := "UmbrellaHeirModel", name := "richest", desc := "()I" } : Jvm.MethodName)) ∈ lw_all := lw_g (lw_at lw_m8 189 rfl) rfl
theorem q1984 : (Jvm.Cond.code ({ cls := "UmbrellaHeirModel", name := "richest", desc := "()I" } : Jvm.MethodName) prog_26_method_64_code (4 : Nat) (Option.some Jvm.ClassFile.FieldType.int)) ∈ lw_all := lw_g (lw_at lw_m8 190 rfl) rfl
theorem q1986 : (Jvm.Cond.instanceMethod ({ cls := "UmbrellaHeirModel", name := "hasIt", desc := "(II)I" } : Jvm.MethodName)) ∈ lw_all := lw_g (lw_at lw_m8 192 rfl) rfl
theorem q1987 : (Jvm.Cond.selects "UmbrellaHeirModel" ({ cls := "UmbrellaHeirModel", name := "hasIt", desc := "(II)I" } : Jvm.MethodName) ({ cls := "UmbrellaHeirModel", name := "hasIt", desc := "(II)I" } : Jvm.MethodName)) ∈ lw_all := lw_g (lw_at lw_m8 193 rfl) rfl
theorem q1988 : (Jvm.Cond.code ({ cls := "UmbrellaHeirModel", name := "hasIt", desc := "(II)I" } : Jvm.MethodName) prog_26_method_66_code (4 : Nat) (Option.some Jvm.ClassFile.FieldType.int)) ∈ lw_all := lw_g (lw_at lw_m8 194 rfl) rfl
theorem q1989 : (Jvm.Cond.methodLink "UmbrellaHeirModel" (379 : Nat) ({ cls := "UmbrellaHeirModel", name := "asks", desc := "(ZI)I" } : Jvm.MethodName)) ∈ lw_all := lw_g (lw_at lw_m8 195 rfl) rfl
theorem q1990 : (Jvm.Cond.privateMethod ({ cls := "UmbrellaHeirModel", name := "asks", desc := "(ZI)I" } : Jvm.MethodName)) ∈ lw_tbl := lw_at lw_m8 196 rfl
theorem q1991 : (Jvm.Cond.instanceMethod ({ cls := "UmbrellaHeirModel", name := "asks", desc := "(ZI)I" } : Jvm.MethodName)) ∈ lw_all := lw_g (lw_at lw_m8 197 rfl) rfl
theorem q1992 : (Jvm.Cond.code ({ cls := "UmbrellaHeirModel", name := "asks", desc := "(ZI)I" } : Jvm.MethodName) prog_26_method_65_code (3 : Nat) (Option.some Jvm.ClassFile.FieldType.int)) ∈ lw_all := lw_g (lw_at lw_m8 198 rfl) rfl
theorem q1993 : (Jvm.Cond.methodLink "UmbrellaHeirModel" (376 : Nat) ({ cls := "UmbrellaHeirModel", name := "behind", desc := "(I)V" } : Jvm.MethodName)) ∈ lw_all := lw_g (lw_at lw_m8 199 rfl) rfl
theorem q1994 : (Jvm.Cond.privateMethod ({ cls := "UmbrellaHeirModel", name := "behind", desc := "(I)V" } : Jvm.MethodName)) ∈ lw_tbl := lw_at lw_m8 200 rfl
theorem q1995 : (Jvm.Cond.instanceMethod ({ cls := "UmbrellaHeirModel", name := "behind", desc := "(I)V" } : Jvm.MethodName)) ∈ lw_all := lw_g (lw_at lw_m8 201 rfl) rfl
theorem q1996 : (Jvm.Cond.code ({ cls := "UmbrellaHeirModel", name := "behind", desc := "(I)V" } : Jvm.MethodName) prog_26_method_58_code (3 : Nat) (Option.none : Option Jvm.ClassFile.FieldType)) ∈ lw_all := lw_g (lw_at lw_m8 202 rfl) rfl
theorem q1997 : (Jvm.Cond.methodLink "UmbrellaHeirModel" (356 : Nat) ({ cls := "UmbrellaHeirModel", name := "goesBy", desc := "(I)V" } : Jvm.MethodName)) ∈ lw_all := lw_g (lw_at lw_m8 203 rfl) rfl
theorem q1998 : (Jvm.Cond.privateMethod ({ cls := "UmbrellaHeirModel", name := "goesBy", desc := "(I)V" } : Jvm.MethodName)) ∈ lw_tbl := lw_at lw_m8 204 rfl
theorem q1999 : (Jvm.Cond.instanceMethod ({ cls := "UmbrellaHeirModel", name := "goesBy", desc := "(I)V" } : Jvm.MethodName)) ∈ lw_all := lw_g (lw_at lw_m8 205 rfl) rfl
theorem q2000 : (Jvm.Cond.code ({ cls := "UmbrellaHeirModel", name := "goesBy", desc := "(I)V" } : Jvm.MethodName) prog_26_method_57_code (2 : Nat) (Option.none : Option Jvm.ClassFile.FieldType)) ∈ lw_all := lw_g (lw_at lw_m8 206 rfl) rfl
theorem q2001 : (Jvm.Cond.methodLink "UmbrellaHeirModel" (349 : Nat) ({ cls := "UmbrellaHeirModel", name := "happens", desc := "(I)Z" } : Jvm.MethodName)) ∈ lw_all := lw_g (lw_at lw_m8 207 rfl) rfl
theorem q2002 : (Jvm.Cond.privateMethod ({ cls := "UmbrellaHeirModel", name := "happens", desc := "(I)Z" } : Jvm.MethodName)) ∈ lw_tbl := lw_at lw_m8 208 rfl
theorem q2003 : (Jvm.Cond.instanceMethod ({ cls := "UmbrellaHeirModel", name := "happens", desc := "(I)Z" } : Jvm.MethodName)) ∈ lw_all := lw_g (lw_at lw_m8 209 rfl) rfl
theorem q2004 : (Jvm.Cond.code ({ cls := "UmbrellaHeirModel", name := "happens", desc := "(I)Z" } : Jvm.MethodName) prog_26_method_56_code (5 : Nat) (Option.some Jvm.ClassFile.FieldType.boolean)) ∈ lw_all := lw_g (lw_at lw_m8 210 rfl) rfl
theorem q2005 : (Jvm.Cond.methodLink "UmbrellaHeirModel" (345 : Nat) ({ cls := "UmbrellaHeirModel", name := "changes", desc := "([III)V" } : Jvm.MethodName)) ∈ lw_all := lw_g (lw_at lw_m8 211 rfl) rfl
theorem q2006 : (Jvm.Cond.static ({ cls := "UmbrellaHeirModel", name := "changes", desc := "([III)V" } : Jvm.MethodName)) ∈ lw_all := lw_g (lw_at lw_m8 212 rfl) rfl
theorem q2007 : (Jvm.Cond.code ({ cls := "UmbrellaHeirModel", name := "changes", desc := "([III)V" } : Jvm.MethodName) prog_26_method_50_code (4 : Nat) (Option.none : Option Jvm.ClassFile.FieldType)) ∈ lw_all := lw_g (lw_at lw_m8 213 rfl) rfl
theorem q2008 : (Jvm.Cond.methodLink "UmbrellaHeirModel" (352 : Nat) ({ cls := "UmbrellaHeirModel", name := "ends", desc := "([IZ)V" } : Jvm.MethodName)) ∈ lw_all := lw_g (lw_at lw_m8 214 rfl) rfl
theorem q2009 : (Jvm.Cond.privateMethod ({ cls := "UmbrellaHeirModel", name := "ends", desc := "([IZ)V" } : Jvm.MethodName)) ∈ lw_tbl := lw_at lw_m8 215 rfl
theorem q2010 : (Jvm.Cond.instanceMethod ({ cls := "UmbrellaHeirModel", name := "ends", desc := "([IZ)V" } : Jvm.MethodName)) ∈ lw_all := lw_g (lw_at lw_m8 216 rfl) rfl
theorem q2011 : (Jvm.Cond.code ({ cls := "UmbrellaHeirModel", name := "ends", desc := "([IZ)V" } : Jvm.MethodName) prog_26_method_53_code (6 : Nat) (Option.none : Option Jvm.ClassFile.FieldType)) ∈ lw_all := lw_g (lw_at lw_m8 217 rfl) rfl
theorem q2012 : (Jvm.Cond.methodLink "UmbrellaHeirModel" (331 : Nat) ({ cls := "UmbrellaHeirModel", name := "lapses", desc := "([I)V" } : Jvm.MethodName)) ∈ lw_all := lw_g (lw_at lw_m8 218 rfl) rfl
theorem q2013 : (Jvm.Cond.privateMethod ({ cls := "UmbrellaHeirModel", name := "lapses", desc := "([I)V" } : Jvm.MethodName)) ∈ lw_tbl := lw_at lw_m8 219 rfl
theorem q2014 : (Jvm.Cond.instanceMethod ({ cls := "UmbrellaHeirModel", name := "lapses", desc := "([I)V" } : Jvm.MethodName)) ∈ lw_all := lw_g (lw_at lw_m8 220 rfl) rfl
theorem q2015 : (Jvm.Cond.code ({ cls := "UmbrellaHeirModel", name := "lapses", desc := "([I)V" } : Jvm.MethodName) prog_26_method_54_code (3 : Nat) (Option.none : Option Jvm.ClassFile.FieldType)) ∈ lw_all := lw_g (lw_at lw_m8 221 rfl) rfl
theorem q2016 : (Jvm.Cond.methodLink "UmbrellaHeirModel" (334 : Nat) ({ cls := "UmbrellaHeirModel", name := "forgets", desc := "([II)V" } : Jvm.MethodName)) ∈ lw_all := lw_g (lw_at lw_m8 222 rfl) rfl
theorem q2017 : (Jvm.Cond.privateMethod ({ cls := "UmbrellaHeirModel", name := "forgets", desc := "([II)V" } : Jvm.MethodName)) ∈ lw_tbl := lw_at lw_m8 223 rfl
theorem q2018 : (Jvm.Cond.instanceMethod ({ cls := "UmbrellaHeirModel", name := "forgets", desc := "([II)V" } : Jvm.MethodName)) ∈ lw_all := lw_g (lw_at lw_m8 224 rfl) rfl
theorem q2019 : (Jvm.Cond.code ({ cls := "UmbrellaHeirModel", name := "forgets", desc := "([II)V" } : Jvm.MethodName) prog_26_method_55_code (5 : Nat) (Option.none : Option Jvm.ClassFile.FieldType)) ∈ lw_all := lw_g (lw_at lw_m8 225 rfl) rfl
theorem q2020 : (Jvm.Cond.methodLink "UmbrellaHeirModel" (342 : Nat) ({ cls := "UmbrellaHeirModel", name := "bits", desc := "(I)I" } : Jvm.MethodName)) ∈ lw_all := lw_g (lw_at lw_m8 226 rfl) rfl
theorem q2021 : (Jvm.Cond.static ({ cls := "UmbrellaHeirModel", name := "bits", desc := "(I)I" } : Jvm.MethodName)) ∈ lw_all := lw_g (lw_at lw_m8 227 rfl) rfl
theorem q2022 : (Jvm.Cond.code ({ cls := "UmbrellaHeirModel", name := "bits", desc := "(I)I" } : Jvm.MethodName) prog_26_method_10_code (3 : Nat) (Option.some Jvm.ClassFile.FieldType.int)) ∈ lw_all := lw_g (lw_at lw_m8 228 rfl) rfl
theorem q2024 : (Jvm.Cond.instanceMethod ({ cls := "UmbrellaHeirModel", name := "titleOf", desc := "(II)I" } : Jvm.MethodName)) ∈ lw_all := lw_g (lw_at lw_m8 230 rfl) rfl
theorem q2025 : (Jvm.Cond.selects "UmbrellaHeirModel" ({ cls := "UmbrellaHeirModel", name := "titleOf", desc := "(II)I" } : Jvm.MethodName) ({ cls := "UmbrellaHeirModel", name := "titleOf", desc := "(II)I" } : Jvm.MethodName)) ∈ lw_all := lw_g (lw_at lw_m8 231 rfl) rfl
theorem q2026 : (Jvm.Cond.code ({ cls := "UmbrellaHeirModel", name := "titleOf", desc := "(II)I" } : Jvm.MethodName) prog_26_method_67_code (4 : Nat) (Option.some Jvm.ClassFile.FieldType.int)) ∈ lw_all := lw_g (lw_at lw_m8 232 rfl) rfl
theorem q2028 : (Jvm.Cond.instanceMethod ({ cls := "UmbrellaHeirModel", name := "landsOf", desc := "(II)I" } : Jvm.MethodName)) ∈ lw_all := lw_g (lw_at lw_m8 234 rfl) rfl
theorem q2029 : (Jvm.Cond.selects "UmbrellaHeirModel" ({ cls := "UmbrellaHeirModel", name := "landsOf", desc := "(II)I" } : Jvm.MethodName) ({ cls := "UmbrellaHeirModel", name := "landsOf", desc := "(II)I" } : Jvm.MethodName)) ∈ lw_all := lw_g (lw_at lw_m8 235 rfl) rfl
theorem q2030 : (Jvm.Cond.code ({ cls := "UmbrellaHeirModel", name := "landsOf", desc := "(II)I" } : Jvm.MethodName) prog_26_method_68_code (4 : Nat) (Option.some Jvm.ClassFile.FieldType.int)) ∈ lw_all := lw_g (lw_at lw_m8 236 rfl) rfl
theorem q2032 : (Jvm.Cond.instanceMethod ({ cls := "UmbrellaHeirModel", name := "lapsed", desc := "(I)I" } : Jvm.MethodName)) ∈ lw_all := lw_g (lw_at lw_m8 238 rfl) rfl
theorem q2033 : (Jvm.Cond.selects "UmbrellaHeirModel" ({ cls := "UmbrellaHeirModel", name := "lapsed", desc := "(I)I" } : Jvm.MethodName) ({ cls := "UmbrellaHeirModel", name := "lapsed", desc := "(I)I" } : Jvm.MethodName)) ∈ lw_all := lw_g (lw_at lw_m8 239 rfl) rfl
theorem q2034 : (Jvm.Cond.code ({ cls := "UmbrellaHeirModel", name := "lapsed", desc := "(I)I" } : Jvm.MethodName) prog_26_method_69_code (3 : Nat) (Option.some Jvm.ClassFile.FieldType.int)) ∈ lw_all := lw_g (lw_at lw_m9 0 rfl) rfl
theorem q2036 : (Jvm.Cond.instanceMethod ({ cls := "UmbrellaHeirModel", name := "passed", desc := "(I)I" } : Jvm.MethodName)) ∈ lw_all := lw_g (lw_at lw_m9 2 rfl) rfl
theorem q2037 : (Jvm.Cond.selects "UmbrellaHeirModel" ({ cls := "UmbrellaHeirModel", name := "passed", desc := "(I)I" } : Jvm.MethodName) ({ cls := "UmbrellaHeirModel", name := "passed", desc := "(I)I" } : Jvm.MethodName)) ∈ lw_all := lw_g (lw_at lw_m9 3 rfl) rfl
theorem q2038 : (Jvm.Cond.code ({ cls := "UmbrellaHeirModel", name := "passed", desc := "(I)I" } : Jvm.MethodName) prog_26_method_70_code (5 : Nat) (Option.some Jvm.ClassFile.FieldType.int)) ∈ lw_all := lw_g (lw_at lw_m9 4 rfl) rfl
theorem q2040 : (Jvm.Cond.instanceMethod ({ cls := "UmbrellaHeirModel", name := "longest", desc := "(I)I" } : Jvm.MethodName)) ∈ lw_all := lw_g (lw_at lw_m9 6 rfl) rfl
theorem q2041 : (Jvm.Cond.selects "UmbrellaHeirModel" ({ cls := "UmbrellaHeirModel", name := "longest", desc := "(I)I" } : Jvm.MethodName) ({ cls := "UmbrellaHeirModel", name := "longest", desc := "(I)I" } : Jvm.MethodName)) ∈ lw_all := lw_g (lw_at lw_m9 7 rfl) rfl
theorem q2042 : (Jvm.Cond.code ({ cls := "UmbrellaHeirModel", name := "longest", desc := "(I)I" } : Jvm.MethodName) prog_26_method_71_code (6 : Nat) (Option.some Jvm.ClassFile.FieldType.int)) ∈ lw_all := lw_g (lw_at lw_m9 8 rfl) rfl
theorem q2044 : (Jvm.Cond.instanceMethod ({ cls := "UmbrellaHeirModel", name := "worstDay", desc := "()I" } : Jvm.MethodName)) ∈ lw_all := lw_g (lw_at lw_m9 10 rfl) rfl
theorem q2045 : (Jvm.Cond.selects "UmbrellaHeirModel" ({ cls := "UmbrellaHeirModel", name := "worstDay", desc := "()I" } : Jvm.MethodName) ({ cls := "UmbrellaHeirModel", name := "worstDay", desc := "()I" } : Jvm.MethodName)) ∈ lw_all := lw_g (lw_at lw_m9 11 rfl) rfl
theorem q2046 : (Jvm.Cond.code ({ cls := "UmbrellaHeirModel", name := "worstDay", desc := "()I" } : Jvm.MethodName) prog_26_method_72_code (4 : Nat) (Option.some Jvm.ClassFile.FieldType.int)) ∈ lw_all := lw_g (lw_at lw_m9 12 rfl) rfl
theorem q2048 : (Jvm.Cond.instanceMethod ({ cls := "UmbrellaHeirModel", name := "judge", desc := "()I" } : Jvm.MethodName)) ∈ lw_all := lw_g (lw_at lw_m9 14 rfl) rfl
theorem q2049 : (Jvm.Cond.selects "UmbrellaHeirModel" ({ cls := "UmbrellaHeirModel", name := "judge", desc := "()I" } : Jvm.MethodName) ({ cls := "UmbrellaHeirModel", name := "judge", desc := "()I" } : Jvm.MethodName)) ∈ lw_all := lw_g (lw_at lw_m9 15 rfl) rfl
theorem q2050 : (Jvm.Cond.code ({ cls := "UmbrellaHeirModel", name := "judge", desc := "()I" } : Jvm.MethodName) prog_26_method_74_code (1 : Nat) (Option.some Jvm.ClassFile.FieldType.int)) ∈ lw_all := lw_g (lw_at lw_m9 16 rfl) rfl
theorem q2051 : (Jvm.Cond.methodLink "UmbrellaHeirModel" (383 : Nat) ({ cls := "UmbrellaHeirModel", name := "wrongClaim", desc := "(III)I" } : Jvm.MethodName)) ∈ lw_all := lw_g (lw_at lw_m9 17 rfl) rfl
theorem q2052 : (Jvm.Cond.privateMethod ({ cls := "UmbrellaHeirModel", name := "wrongClaim", desc := "(III)I" } : Jvm.MethodName)) ∈ lw_tbl := lw_at lw_m9 18 rfl
theorem q2053 : (Jvm.Cond.instanceMethod ({ cls := "UmbrellaHeirModel", name := "wrongClaim", desc := "(III)I" } : Jvm.MethodName)) ∈ lw_all := lw_g (lw_at lw_m9 19 rfl) rfl
theorem q2054 : (Jvm.Cond.code ({ cls := "UmbrellaHeirModel", name := "wrongClaim", desc := "(III)I" } : Jvm.MethodName) prog_26_method_73_code (7 : Nat) (Option.some Jvm.ClassFile.FieldType.int)) ∈ lw_all := lw_g (lw_at lw_m9 20 rfl) rfl
theorem q2056 : (Jvm.Cond.instanceMethod ({ cls := "UmbrellaHeirModel", name := "ways", desc := "()I" } : Jvm.MethodName)) ∈ lw_all := lw_g (lw_at lw_m9 22 rfl) rfl
theorem q2057 : (Jvm.Cond.selects "UmbrellaHeirModel" ({ cls := "UmbrellaHeirModel", name := "ways", desc := "()I" } : Jvm.MethodName) ({ cls := "UmbrellaHeirModel", name := "ways", desc := "()I" } : Jvm.MethodName)) ∈ lw_all := lw_g (lw_at lw_m9 23 rfl) rfl
theorem q2058 : (Jvm.Cond.code ({ cls := "UmbrellaHeirModel", name := "ways", desc := "()I" } : Jvm.MethodName) prog_26_method_76_code (1 : Nat) (Option.some Jvm.ClassFile.FieldType.int)) ∈ lw_all := lw_g (lw_at lw_m9 24 rfl) rfl
theorem q2059 : (Jvm.Cond.methodLink "UmbrellaHeirModel" (390 : Nat) ({ cls := "UmbrellaHeirModel", name := "countsWays", desc := "(I)I" } : Jvm.MethodName)) ∈ lw_all := lw_g (lw_at lw_m9 25 rfl) rfl
theorem q2060 : (Jvm.Cond.privateMethod ({ cls := "UmbrellaHeirModel", name := "countsWays", desc := "(I)I" } : Jvm.MethodName)) ∈ lw_tbl := lw_at lw_m9 26 rfl
theorem q2061 : (Jvm.Cond.instanceMethod ({ cls := "UmbrellaHeirModel", name := "countsWays", desc := "(I)I" } : Jvm.MethodName)) ∈ lw_all := lw_g (lw_at lw_m9 27 rfl) rfl
theorem q2062 : (Jvm.Cond.code ({ cls := "UmbrellaHeirModel", name := "countsWays", desc := "(I)I" } : Jvm.MethodName) prog_26_method_75_code (6 : Nat) (Option.some Jvm.ClassFile.FieldType.int)) ∈ lw_all := lw_g (lw_at lw_m9 28 rfl) rfl
theorem q2064 : (Jvm.Cond.instanceMethod ({ cls := "UmbrellaHeirModel", name := "wayAt", desc := "(I)I" } : Jvm.MethodName)) ∈ lw_all := lw_g (lw_at lw_m9 30 rfl) rfl
theorem q2065 : (Jvm.Cond.selects "UmbrellaHeirModel" ({ cls := "UmbrellaHeirModel", name := "wayAt", desc := "(I)I" } : Jvm.MethodName) ({ cls := "UmbrellaHeirModel", name := "wayAt", desc := "(I)I" } : Jvm.MethodName)) ∈ lw_all := lw_g (lw_at lw_m9 31 rfl) rfl
theorem q2066 : (Jvm.Cond.code ({ cls := "UmbrellaHeirModel", name := "wayAt", desc := "(I)I" } : Jvm.MethodName) prog_26_method_77_code (2 : Nat) (Option.some Jvm.ClassFile.FieldType.int)) ∈ lw_all := lw_g (lw_at lw_m9 32 rfl) rfl
theorem q2068 : (Jvm.Cond.instanceMethod ({ cls := "UmbrellaHeirModel", name := "owing", desc := "(II)I" } : Jvm.MethodName)) ∈ lw_all := lw_g (lw_at lw_m9 34 rfl) rfl
theorem q2069 : (Jvm.Cond.selects "UmbrellaHeirModel" ({ cls := "UmbrellaHeirModel", name := "owing", desc := "(II)I" } : Jvm.MethodName) ({ cls := "UmbrellaHeirModel", name := "owing", desc := "(II)I" } : Jvm.MethodName)) ∈ lw_all := lw_g (lw_at lw_m9 35 rfl) rfl
theorem q2070 : (Jvm.Cond.code ({ cls := "UmbrellaHeirModel", name := "owing", desc := "(II)I" } : Jvm.MethodName) prog_26_method_78_code (5 : Nat) (Option.some Jvm.ClassFile.FieldType.int)) ∈ lw_all := lw_g (lw_at lw_m9 36 rfl) rfl
theorem q2072 : (Jvm.Cond.instanceMethod ({ cls := "UmbrellaHeirModel", name := "change", desc := "(IZ)I" } : Jvm.MethodName)) ∈ lw_all := lw_g (lw_at lw_m9 38 rfl) rfl
theorem q2073 : (Jvm.Cond.selects "UmbrellaHeirModel" ({ cls := "UmbrellaHeirModel", name := "change", desc := "(IZ)I" } : Jvm.MethodName) ({ cls := "UmbrellaHeirModel", name := "change", desc := "(IZ)I" } : Jvm.MethodName)) ∈ lw_all := lw_g (lw_at lw_m9 39 rfl) rfl
theorem q2074 : (Jvm.Cond.code ({ cls := "UmbrellaHeirModel", name := "change", desc := "(IZ)I" } : Jvm.MethodName) prog_26_method_79_code (3 : Nat) (Option.some Jvm.ClassFile.FieldType.int)) ∈ lw_all := lw_g (lw_at lw_m9 40 rfl) rfl
theorem q2075 : (Jvm.Cond.methodLink "UmbrellaHeirModel" (393 : Nat) ({ cls := "UmbrellaHeirModel", name := "tries", desc := "()V" } : Jvm.MethodName)) ∈ lw_all := lw_g (lw_at lw_m9 41 rfl) rfl
theorem q2076 : (Jvm.Cond.privateMethod ({ cls := "UmbrellaHeirModel", name := "tries", desc := "()V" } : Jvm.MethodName)) ∈ lw_tbl := lw_at lw_m9 42 rfl
theorem q2077 : (Jvm.Cond.instanceMethod ({ cls := "UmbrellaHeirModel", name := "tries", desc := "()V" } : Jvm.MethodName)) ∈ lw_all := lw_g (lw_at lw_m9 43 rfl) rfl
theorem q2078 : (Jvm.Cond.code ({ cls := "UmbrellaHeirModel", name := "tries", desc := "()V" } : Jvm.MethodName) prog_26_method_47_code (2 : Nat) (Option.none : Option Jvm.ClassFile.FieldType)) ∈ lw_all := lw_g (lw_at lw_m9 44 rfl) rfl
theorem q2080 : (Jvm.Cond.instanceMethod ({ cls := "UmbrellaHeirModel", name := "lapsesIn", desc := "(I)I" } : Jvm.MethodName)) ∈ lw_all := lw_g (lw_at lw_m9 46 rfl) rfl
theorem q2081 : (Jvm.Cond.selects "UmbrellaHeirModel" ({ cls := "UmbrellaHeirModel", name := "lapsesIn", desc := "(I)I" } : Jvm.MethodName) ({ cls := "UmbrellaHeirModel", name := "lapsesIn", desc := "(I)I" } : Jvm.MethodName)) ∈ lw_all := lw_g (lw_at lw_m9 47 rfl) rfl
theorem q2082 : (Jvm.Cond.code ({ cls := "UmbrellaHeirModel", name := "lapsesIn", desc := "(I)I" } : Jvm.MethodName) prog_26_method_80_code (3 : Nat) (Option.some Jvm.ClassFile.FieldType.int)) ∈ lw_all := lw_g (lw_at lw_m9 48 rfl) rfl
theorem q2084 : (Jvm.Cond.instanceMethod ({ cls := "UmbrellaHeirModel", name := "putRight", desc := "()I" } : Jvm.MethodName)) ∈ lw_all := lw_g (lw_at lw_m9 50 rfl) rfl
theorem q2085 : (Jvm.Cond.selects "UmbrellaHeirModel" ({ cls := "UmbrellaHeirModel", name := "putRight", desc := "()I" } : Jvm.MethodName) ({ cls := "UmbrellaHeirModel", name := "putRight", desc := "()I" } : Jvm.MethodName)) ∈ lw_all := lw_g (lw_at lw_m9 51 rfl) rfl
theorem q2086 : (Jvm.Cond.code ({ cls := "UmbrellaHeirModel", name := "putRight", desc := "()I" } : Jvm.MethodName) prog_26_method_86_code (1 : Nat) (Option.some Jvm.ClassFile.FieldType.int)) ∈ lw_all := lw_g (lw_at lw_m9 52 rfl) rfl
theorem q2087 : (Jvm.Cond.methodLink "UmbrellaHeirModel" (415 : Nat) ({ cls := "UmbrellaHeirModel", name := "seeks", desc := "()V" } : Jvm.MethodName)) ∈ lw_all := lw_g (lw_at lw_m9 53 rfl) rfl
theorem q2088 : (Jvm.Cond.privateMethod ({ cls := "UmbrellaHeirModel", name := "seeks", desc := "()V" } : Jvm.MethodName)) ∈ lw_tbl := lw_at lw_m9 54 rfl
theorem q2089 : (Jvm.Cond.instanceMethod ({ cls := "UmbrellaHeirModel", name := "seeks", desc := "()V" } : Jvm.MethodName)) ∈ lw_all := lw_g (lw_at lw_m9 55 rfl) rfl
theorem q2090 : (Jvm.Cond.code ({ cls := "UmbrellaHeirModel", name := "seeks", desc := "()V" } : Jvm.MethodName) prog_26_method_82_code (3 : Nat) (Option.none : Option Jvm.ClassFile.FieldType)) ∈ lw_all := lw_g (lw_at lw_m9 56 rfl) rfl
theorem q2091 : (Jvm.Cond.methodLink "UmbrellaHeirModel" (399 : Nat) ({ cls := "UmbrellaHeirModel", name := "isDone", desc := "(I)Z" } : Jvm.MethodName)) ∈ lw_all := lw_g (lw_at lw_m9 57 rfl) rfl
theorem q2092 : (Jvm.Cond.privateMethod ({ cls := "UmbrellaHeirModel", name := "isDone", desc := "(I)Z" } : Jvm.MethodName)) ∈ lw_tbl := lw_at lw_m9 58 rfl
theorem q2093 : (Jvm.Cond.instanceMethod ({ cls := "UmbrellaHeirModel", name := "isDone", desc := "(I)Z" } : Jvm.MethodName)) ∈ lw_all := lw_g (lw_at lw_m9 59 rfl) rfl
theorem q2094 : (Jvm.Cond.code ({ cls := "UmbrellaHeirModel", name := "isDone", desc := "(I)Z" } : Jvm.MethodName) prog_26_method_84_code (5 : Nat) (Option.some Jvm.ClassFile.FieldType.boolean)) ∈ lw_all := lw_g (lw_at lw_m9 60 rfl) rfl
theorem q2095 : (Jvm.Cond.methodLink "UmbrellaHeirModel" (411 : Nat) ({ cls := "UmbrellaHeirModel", name := "canExchange", desc := "([III)Z" } : Jvm.MethodName)) ∈ lw_all := lw_g (lw_at lw_m9 61 rfl) rfl
theorem q2096 : (Jvm.Cond.privateMethod ({ cls := "UmbrellaHeirModel", name := "canExchange", desc := "([III)Z" } : Jvm.MethodName)) ∈ lw_tbl := lw_at lw_m9 62 rfl
theorem q2097 : (Jvm.Cond.instanceMethod ({ cls := "UmbrellaHeirModel", name := "canExchange", desc := "([III)Z" } : Jvm.MethodName)) ∈ lw_all := lw_g (lw_at lw_m9 63 rfl) rfl
theorem q2098 : (Jvm.Cond.code ({ cls := "UmbrellaHeirModel", name := "canExchange", desc := "([III)Z" } : Jvm.MethodName) prog_26_method_81_code (4 : Nat) (Option.some Jvm.ClassFile.FieldType.boolean)) ∈ lw_all := lw_g (lw_at lw_m9 64 rfl) rfl
theorem q2099 : (Jvm.Cond.methodLink "UmbrellaHeirModel" (402 : Nat) ({ cls := "UmbrellaHeirModel", name := "takes", desc := "(I)V" } : Jvm.MethodName)) ∈ lw_all := lw_g (lw_at lw_m9 65 rfl) rfl
theorem q2100 : (Jvm.Cond.privateMethod ({ cls := "UmbrellaHeirModel", name := "takes", desc := "(I)V" } : Jvm.MethodName)) ∈ lw_tbl := lw_at lw_m9 66 rfl
theorem q2101 : (Jvm.Cond.instanceMethod ({ cls := "UmbrellaHeirModel", name := "takes", desc := "(I)V" } : Jvm.MethodName)) ∈ lw_all := lw_g (lw_at lw_m9 67 rfl) rfl
theorem q2102 : (Jvm.Cond.code ({ cls := "UmbrellaHeirModel", name := "takes", desc := "(I)V" } : Jvm.MethodName) prog_26_method_83_code (4 : Nat) (Option.none : Option Jvm.ClassFile.FieldType)) ∈ lw_all := lw_g (lw_at lw_m9 68 rfl) rfl
theorem q2103 : (Jvm.Cond.methodLink "UmbrellaHeirModel" (405 : Nat) ({ cls := "UmbrellaHeirModel", name := "nextRow", desc := "(I)Z" } : Jvm.MethodName)) ∈ lw_all := lw_g (lw_at lw_m9 69 rfl) rfl
theorem q2104 : (Jvm.Cond.privateMethod ({ cls := "UmbrellaHeirModel", name := "nextRow", desc := "(I)Z" } : Jvm.MethodName)) ∈ lw_tbl := lw_at lw_m9 70 rfl
theorem q2105 : (Jvm.Cond.instanceMethod ({ cls := "UmbrellaHeirModel", name := "nextRow", desc := "(I)Z" } : Jvm.MethodName)) ∈ lw_all := lw_g (lw_at lw_m9 71 rfl) rfl
theorem q2106 : (Jvm.Cond.code ({ cls := "UmbrellaHeirModel", name := "nextRow", desc := "(I)Z" } : Jvm.MethodName) prog_26_method_85_code (3 : Nat) (Option.some Jvm.ClassFile.FieldType.boolean)) ∈ lw_all := lw_g (lw_at lw_m9 72 rfl) rfl
theorem q2108 : (Jvm.Cond.instanceMethod ({ cls := "UmbrellaHeirModel", name := "exchanges", desc := "()I" } : Jvm.MethodName)) ∈ lw_all := lw_g (lw_at lw_m9 74 rfl) rfl
theorem q2109 : (Jvm.Cond.selects "UmbrellaHeirModel" ({ cls := "UmbrellaHeirModel", name := "exchanges", desc := "()I" } : Jvm.MethodName) ({ cls := "UmbrellaHeirModel", name := "exchanges", desc := "()I" } : Jvm.MethodName)) ∈ lw_all := lw_g (lw_at lw_m9 75 rfl) rfl
theorem q2110 : (Jvm.Cond.code ({ cls := "UmbrellaHeirModel", name := "exchanges", desc := "()I" } : Jvm.MethodName) prog_26_method_87_code (1 : Nat) (Option.some Jvm.ClassFile.FieldType.int)) ∈ lw_all := lw_g (lw_at lw_m9 76 rfl) rfl
theorem q2112 : (Jvm.Cond.instanceMethod ({ cls := "UmbrellaHeirModel", name := "exchangeAt", desc := "(I)I" } : Jvm.MethodName)) ∈ lw_all := lw_g (lw_at lw_m9 78 rfl) rfl
theorem q2113 : (Jvm.Cond.selects "UmbrellaHeirModel" ({ cls := "UmbrellaHeirModel", name := "exchangeAt", desc := "(I)I" } : Jvm.MethodName) ({ cls := "UmbrellaHeirModel", name := "exchangeAt", desc := "(I)I" } : Jvm.MethodName)) ∈ lw_all := lw_g (lw_at lw_m9 79 rfl) rfl
theorem q2114 : (Jvm.Cond.code ({ cls := "UmbrellaHeirModel", name := "exchangeAt", desc := "(I)I" } : Jvm.MethodName) prog_26_method_88_code (2 : Nat) (Option.some Jvm.ClassFile.FieldType.int)) ∈ lw_all := lw_g (lw_at lw_m9 80 rfl) rfl
theorem q2116 : (Jvm.Cond.instanceMethod ({ cls := "UmbrellaHeirModel", name := "party", desc := "(I)I" } : Jvm.MethodName)) ∈ lw_all := lw_g (lw_at lw_m9 82 rfl) rfl
theorem q2117 : (Jvm.Cond.selects "UmbrellaHeirModel" ({ cls := "UmbrellaHeirModel", name := "party", desc := "(I)I" } : Jvm.MethodName) ({ cls := "UmbrellaHeirModel", name := "party", desc := "(I)I" } : Jvm.MethodName)) ∈ lw_all := lw_g (lw_at lw_m9 83 rfl) rfl
theorem q2118 : (Jvm.Cond.code ({ cls := "UmbrellaHeirModel", name := "party", desc := "(I)I" } : Jvm.MethodName) prog_26_method_94_code (2 : Nat) (Option.some Jvm.ClassFile.FieldType.int)) ∈ lw_all := lw_g (lw_at lw_m9 84 rfl) rfl
theorem q2119 : (Jvm.Cond.methodLink "UmbrellaHeirModel" (433 : Nat) ({ cls := "UmbrellaHeirModel", name := "isParty", desc := "(I)Z" } : Jvm.MethodName)) ∈ lw_all := lw_g (lw_at lw_m9 85 rfl) rfl
theorem q2120 : (Jvm.Cond.privateMethod ({ cls := "UmbrellaHeirModel", name := "isParty", desc := "(I)Z" } : Jvm.MethodName)) ∈ lw_tbl := lw_at lw_m9 86 rfl
theorem q2121 : (Jvm.Cond.instanceMethod ({ cls := "UmbrellaHeirModel", name := "isParty", desc := "(I)Z" } : Jvm.MethodName)) ∈ lw_all := lw_g (lw_at lw_m9 87 rfl) rfl
theorem q2122 : (Jvm.Cond.code ({ cls := "UmbrellaHeirModel", name := "isParty", desc := "(I)Z" } : Jvm.MethodName) prog_26_method_89_code (2 : Nat) (Option.some Jvm.ClassFile.FieldType.boolean)) ∈ lw_all := lw_g (lw_at lw_m9 88 rfl) rfl
theorem q2123 : (Jvm.Cond.methodLink "UmbrellaHeirModel" (436 : Nat) ({ cls := "UmbrellaHeirModel", name := "parties", desc := "(I)V" } : Jvm.MethodName)) ∈ lw_all := lw_g (lw_at lw_m9 89 rfl) rfl
theorem q2124 : (Jvm.Cond.privateMethod ({ cls := "UmbrellaHeirModel", name := "parties", desc := "(I)V" } : Jvm.MethodName)) ∈ lw_tbl := lw_at lw_m9 90 rfl
theorem q2125 : (Jvm.Cond.instanceMethod ({ cls := "UmbrellaHeirModel", name := "parties", desc := "(I)V" } : Jvm.MethodName)) ∈ lw_all := lw_g (lw_at lw_m9 91 rfl) rfl
theorem q2126 : (Jvm.Cond.code ({ cls := "UmbrellaHeirModel", name := "parties", desc := "(I)V" } : Jvm.MethodName) prog_26_method_91_code (5 : Nat) (Option.none : Option Jvm.ClassFile.FieldType)) ∈ lw_all := lw_g (lw_at lw_m9 92 rfl) rfl
theorem q2127 : (Jvm.Cond.methodLink "UmbrellaHeirModel" (424 : Nat) ({ cls := "UmbrellaHeirModel", name := "dangerOf", desc := "(I)I" } : Jvm.MethodName)) ∈ lw_all := lw_g (lw_at lw_m9 93 rfl) rfl
theorem q2128 : (Jvm.Cond.privateMethod ({ cls := "UmbrellaHeirModel", name := "dangerOf", desc := "(I)I" } : Jvm.MethodName)) ∈ lw_tbl := lw_at lw_m9 94 rfl
theorem q2129 : (Jvm.Cond.instanceMethod ({ cls := "UmbrellaHeirModel", name := "dangerOf", desc := "(I)I" } : Jvm.MethodName)) ∈ lw_all := lw_g (lw_at lw_m9 95 rfl) rfl
theorem q2130 : (Jvm.Cond.code ({ cls := "UmbrellaHeirModel", name := "dangerOf", desc := "(I)I" } : Jvm.MethodName) prog_26_method_92_code (5 : Nat) (Option.some Jvm.ClassFile.FieldType.int)) ∈ lw_all := lw_g (lw_at lw_m9 96 rfl) rfl
theorem q2131 : (Jvm.Cond.methodLink "UmbrellaHeirModel" (430 : Nat) ({ cls := "UmbrellaHeirModel", name := "roomOf", desc := "(II)I" } : Jvm.MethodName)) ∈ lw_all := lw_g (lw_at lw_m9 97 rfl) rfl
theorem q2132 : (Jvm.Cond.privateMethod ({ cls := "UmbrellaHeirModel", name := "roomOf", desc := "(II)I" } : Jvm.MethodName)) ∈ lw_tbl := lw_at lw_m9 98 rfl
theorem q2133 : (Jvm.Cond.instanceMethod ({ cls := "UmbrellaHeirModel", name := "roomOf", desc := "(II)I" } : Jvm.MethodName)) ∈ lw_all := lw_g (lw_at lw_m9 99 rfl) rfl
theorem q2134 : (Jvm.Cond.code ({ cls := "UmbrellaHeirModel", name := "roomOf", desc := "(II)I" } : Jvm.MethodName) prog_26_method_90_code (3 : Nat) (Option.some Jvm.ClassFile.FieldType.int)) ∈ lw_all := lw_g (lw_at lw_m9 100 rfl) rfl
theorem q2135 : (Jvm.Cond.methodLink "UmbrellaHeirModel" (418 : Nat) ({ cls := "UmbrellaHeirModel", name := "bit", desc := "(II)Z" } : Jvm.MethodName)) ∈ lw_all := lw_g (lw_at lw_m9 101 rfl) rfl
theorem q2136 : (Jvm.Cond.static ({ cls := "UmbrellaHeirModel", name := "bit", desc := "(II)Z" } : Jvm.MethodName)) ∈ lw_all := lw_g (lw_at lw_m9 102 rfl) rfl
theorem q2137 : (Jvm.Cond.code ({ cls := "UmbrellaHeirModel", name := "bit", desc := "(II)Z" } : Jvm.MethodName) prog_26_method_9_code (2 : Nat) (Option.some Jvm.ClassFile.FieldType.boolean)) ∈ lw_all := lw_g (lw_at lw_m9 103 rfl) rfl
theorem q2138 : (Jvm.Cond.methodLink "UmbrellaHeirModel" (427 : Nat) ({ cls := "UmbrellaHeirModel", name := "nextUnder", desc := "(I)Z" } : Jvm.MethodName)) ∈ lw_all := lw_g (lw_at lw_m9 104 rfl) rfl
theorem q2139 : (Jvm.Cond.privateMethod ({ cls := "UmbrellaHeirModel", name := "nextUnder", desc := "(I)Z" } : Jvm.MethodName)) ∈ lw_tbl := lw_at lw_m9 105 rfl
theorem q2140 : (Jvm.Cond.instanceMethod ({ cls := "UmbrellaHeirModel", name := "nextUnder", desc := "(I)Z" } : Jvm.MethodName)) ∈ lw_all := lw_g (lw_at lw_m9 106 rfl) rfl
theorem q2141 : (Jvm.Cond.code ({ cls := "UmbrellaHeirModel", name := "nextUnder", desc := "(I)Z" } : Jvm.MethodName) prog_26_method_93_code (3 : Nat) (Option.some Jvm.ClassFile.FieldType.boolean)) ∈ lw_all := lw_g (lw_at lw_m9 107 rfl) rfl
theorem q2143 : (Jvm.Cond.instanceMethod ({ cls := "UmbrellaHeirModel", name := "partyOf", desc := "(II)I" } : Jvm.MethodName)) ∈ lw_all := lw_g (lw_at lw_m9 109 rfl) rfl
theorem q2144 : (Jvm.Cond.selects "UmbrellaHeirModel" ({ cls := "UmbrellaHeirModel", name := "partyOf", desc := "(II)I" } : Jvm.MethodName) ({ cls := "UmbrellaHeirModel", name := "partyOf", desc := "(II)I" } : Jvm.MethodName)) ∈ lw_all := lw_g (lw_at lw_m9 110 rfl) rfl
theorem q2145 : (Jvm.Cond.code ({ cls := "UmbrellaHeirModel", name := "partyOf", desc := "(II)I" } : Jvm.MethodName) prog_26_method_95_code (3 : Nat) (Option.some Jvm.ClassFile.FieldType.int)) ∈ lw_all := lw_g (lw_at lw_m9 111 rfl) rfl
theorem q2147 : (Jvm.Cond.instanceMethod ({ cls := "UmbrellaHeirModel", name := "guest", desc := "(I)I" } : Jvm.MethodName)) ∈ lw_all := lw_g (lw_at lw_m9 113 rfl) rfl
theorem q2148 : (Jvm.Cond.selects "UmbrellaHeirModel" ({ cls := "UmbrellaHeirModel", name := "guest", desc := "(I)I" } : Jvm.MethodName) ({ cls := "UmbrellaHeirModel", name := "guest", desc := "(I)I" } : Jvm.MethodName)) ∈ lw_all := lw_g (lw_at lw_m9 114 rfl) rfl
theorem q2149 : (Jvm.Cond.code ({ cls := "UmbrellaHeirModel", name := "guest", desc := "(I)I" } : Jvm.MethodName) prog_26_method_96_code (5 : Nat) (Option.some Jvm.ClassFile.FieldType.int)) ∈ lw_all := lw_g (lw_at lw_m9 115 rfl) rfl
theorem q2151 : (Jvm.Cond.instanceMethod ({ cls := "UmbrellaHeirModel", name := "room", desc := "(I)I" } : Jvm.MethodName)) ∈ lw_all := lw_g (lw_at lw_m9 117 rfl) rfl
theorem q2152 : (Jvm.Cond.selects "UmbrellaHeirModel" ({ cls := "UmbrellaHeirModel", name := "room", desc := "(I)I" } : Jvm.MethodName) ({ cls := "UmbrellaHeirModel", name := "room", desc := "(I)I" } : Jvm.MethodName)) ∈ lw_all := lw_g (lw_at lw_m9 118 rfl) rfl
theorem q2153 : (Jvm.Cond.code ({ cls := "UmbrellaHeirModel", name := "room", desc := "(I)I" } : Jvm.MethodName) prog_26_method_97_code (4 : Nat) (Option.some Jvm.ClassFile.FieldType.int)) ∈ lw_all := lw_g (lw_at lw_m9 119 rfl) rfl
theorem q2155 : (Jvm.Cond.instanceMethod ({ cls := "UmbrellaHeirModel", name := "whole", desc := "(IIZ)J" } : Jvm.MethodName)) ∈ lw_all := lw_g (lw_at lw_m9 121 rfl) rfl
theorem q2156 : (Jvm.Cond.selects "UmbrellaHeirModel" ({ cls := "UmbrellaHeirModel", name := "whole", desc := "(IIZ)J" } : Jvm.MethodName) ({ cls := "UmbrellaHeirModel", name := "whole", desc := "(IIZ)J" } : Jvm.MethodName)) ∈ lw_all := lw_g (lw_at lw_m9 122 rfl) rfl
theorem q2157 : (Jvm.Cond.code ({ cls := "UmbrellaHeirModel", name := "whole", desc := "(IIZ)J" } : Jvm.MethodName) prog_26_method_100_code (4 : Nat) (Option.some Jvm.ClassFile.FieldType.long)) ∈ lw_all := lw_g (lw_at lw_m9 123 rfl) rfl
theorem q2158 : (Jvm.Cond.methodLink "UmbrellaHeirModel" (441 : Nat) ({ cls := "UmbrellaHeirModel", name := "calm", desc := "(I)J" } : Jvm.MethodName)) ∈ lw_all := lw_g (lw_at lw_m9 124 rfl) rfl
theorem q2159 : (Jvm.Cond.privateMethod ({ cls := "UmbrellaHeirModel", name := "calm", desc := "(I)J" } : Jvm.MethodName)) ∈ lw_tbl := lw_at lw_m9 125 rfl
theorem q2160 : (Jvm.Cond.instanceMethod ({ cls := "UmbrellaHeirModel", name := "calm", desc := "(I)J" } : Jvm.MethodName)) ∈ lw_all := lw_g (lw_at lw_m9 126 rfl) rfl
theorem q2161 : (Jvm.Cond.code ({ cls := "UmbrellaHeirModel", name := "calm", desc := "(I)J" } : Jvm.MethodName) prog_26_method_99_code (2 : Nat) (Option.some Jvm.ClassFile.FieldType.long)) ∈ lw_all := lw_g (lw_at lw_m9 127 rfl) rfl
theorem q2162 : (Jvm.Cond.constantLong "UmbrellaHeirModel" (439 : Nat) (100 : Int64)) ∈ lw_all := lw_g (lw_at lw_m9 128 rfl) rfl
theorem q2163 : (Jvm.Cond.methodLink "UmbrellaHeirModel" (445 : Nat) ({ cls := "UmbrellaHeirModel", name := "power", desc := "(JI)J" } : Jvm.MethodName)) ∈ lw_all := lw_g (lw_at lw_m9 129 rfl) rfl
theorem q2164 : (Jvm.Cond.static ({ cls := "UmbrellaHeirModel", name := "power", desc := "(JI)J" } : Jvm.MethodName)) ∈ lw_all := lw_g (lw_at lw_m9 130 rfl) rfl
theorem q2165 : (Jvm.Cond.code ({ cls := "UmbrellaHeirModel", name := "power", desc := "(JI)J" } : Jvm.MethodName) prog_26_method_98_code (6 : Nat) (Option.some Jvm.ClassFile.FieldType.long)) ∈ lw_all := lw_g (lw_at lw_m9 131 rfl) rfl
theorem q2166 : (Jvm.Cond.methodLink "UmbrellaHeirModel" (449 : Nat) ({ cls := "UmbrellaHeirModel", name := "fraction", desc := "(JJZ)J" } : Jvm.MethodName)) ∈ lw_all := lw_g (lw_at lw_m9 132 rfl) rfl
theorem q2167 : (Jvm.Cond.privateMethod ({ cls := "UmbrellaHeirModel", name := "fraction", desc := "(JJZ)J" } : Jvm.MethodName)) ∈ lw_tbl := lw_at lw_m9 133 rfl
theorem q2168 : (Jvm.Cond.instanceMethod ({ cls := "UmbrellaHeirModel", name := "fraction", desc := "(JJZ)J" } : Jvm.MethodName)) ∈ lw_all := lw_g (lw_at lw_m9 134 rfl) rfl
theorem q2169 : (Jvm.Cond.code ({ cls := "UmbrellaHeirModel", name := "fraction", desc := "(JJZ)J" } : Jvm.MethodName) prog_26_method_12_code (6 : Nat) (Option.some Jvm.ClassFile.FieldType.long)) ∈ lw_all := lw_g (lw_at lw_m9 135 rfl) rfl
theorem q2170 : (Jvm.Cond.methodLink "UmbrellaHeirModel" (58 : Nat) ({ cls := "UmbrellaHeirModel", name := "common", desc := "(JJ)J" } : Jvm.MethodName)) ∈ lw_all := lw_g (lw_at lw_m9 136 rfl) rfl
theorem q2171 : (Jvm.Cond.static ({ cls := "UmbrellaHeirModel", name := "common", desc := "(JJ)J" } : Jvm.MethodName)) ∈ lw_all := lw_g (lw_at lw_m9 137 rfl) rfl
theorem q2172 : (Jvm.Cond.code ({ cls := "UmbrellaHeirModel", name := "common", desc := "(JJ)J" } : Jvm.MethodName) prog_26_method_11_code (10 : Nat) (Option.some Jvm.ClassFile.FieldType.long)) ∈ lw_all := lw_g (lw_at lw_m9 138 rfl) rfl
theorem q2174 : (Jvm.Cond.instanceMethod ({ cls := "UmbrellaHeirModel", name := "allWhole", desc := "(IIZ)J" } : Jvm.MethodName)) ∈ lw_all := lw_g (lw_at lw_m9 140 rfl) rfl
theorem q2175 : (Jvm.Cond.selects "UmbrellaHeirModel" ({ cls := "UmbrellaHeirModel", name := "allWhole", desc := "(IIZ)J" } : Jvm.MethodName) ({ cls := "UmbrellaHeirModel", name := "allWhole", desc := "(IIZ)J" } : Jvm.MethodName)) ∈ lw_all := lw_g (lw_at lw_m9 141 rfl) rfl
theorem q2176 : (Jvm.Cond.code ({ cls := "UmbrellaHeirModel", name := "allWhole", desc := "(IIZ)J" } : Jvm.MethodName) prog_26_method_101_code (9 : Nat) (Option.some Jvm.ClassFile.FieldType.long)) ∈ lw_all := lw_g (lw_at lw_m9 142 rfl) rfl
theorem q2178 : (Jvm.Cond.instanceMethod ({ cls := "UmbrellaHeirModel", name := "divided", desc := "(III)I" } : Jvm.MethodName)) ∈ lw_all := lw_g (lw_at lw_m9 144 rfl) rfl
theorem q2179 : (Jvm.Cond.selects "UmbrellaHeirModel" ({ cls := "UmbrellaHeirModel", name := "divided", desc := "(III)I" } : Jvm.MethodName) ({ cls := "UmbrellaHeirModel", name := "divided", desc := "(III)I" } : Jvm.MethodName)) ∈ lw_all := lw_g (lw_at lw_m9 145 rfl) rfl
theorem q2180 : (Jvm.Cond.code ({ cls := "UmbrellaHeirModel", name := "divided", desc := "(III)I" } : Jvm.MethodName) prog_26_method_102_code (4 : Nat) (Option.some Jvm.ClassFile.FieldType.int)) ∈ lw_all := lw_g (lw_at lw_m9 146 rfl) rfl
theorem q2182 : (Jvm.Cond.instanceMethod ({ cls := "UmbrellaHeirModel", name := "heirs", desc := "(IIIZ)I" } : Jvm.MethodName)) ∈ lw_all := lw_g (lw_at lw_m9 148 rfl) rfl
theorem q2183 : (Jvm.Cond.selects "UmbrellaHeirModel" ({ cls := "UmbrellaHeirModel", name := "heirs", desc := "(IIIZ)I" } : Jvm.MethodName) ({ cls := "UmbrellaHeirModel", name := "heirs", desc := "(IIIZ)I" } : Jvm.MethodName)) ∈ lw_all := lw_g (lw_at lw_m9 149 rfl) rfl
theorem q2184 : (Jvm.Cond.code ({ cls := "UmbrellaHeirModel", name := "heirs", desc := "(IIIZ)I" } : Jvm.MethodName) prog_26_method_104_code (5 : Nat) (Option.some Jvm.ClassFile.FieldType.int)) ∈ lw_all := lw_g (lw_at lw_m9 150 rfl) rfl
theorem q2185 : (Jvm.Cond.methodLink "UmbrellaHeirModel" (453 : Nat) ({ cls := "UmbrellaHeirModel", name := "lost", desc := "(I)I" } : Jvm.MethodName)) ∈ lw_all := lw_g (lw_at lw_m9 151 rfl) rfl
theorem q2186 : (Jvm.Cond.privateMethod ({ cls := "UmbrellaHeirModel", name := "lost", desc := "(I)I" } : Jvm.MethodName)) ∈ lw_tbl := lw_at lw_m9 152 rfl
theorem q2187 : (Jvm.Cond.instanceMethod ({ cls := "UmbrellaHeirModel", name := "lost", desc := "(I)I" } : Jvm.MethodName)) ∈ lw_all := lw_g (lw_at lw_m9 153 rfl) rfl
theorem q2188 : (Jvm.Cond.code ({ cls := "UmbrellaHeirModel", name := "lost", desc := "(I)I" } : Jvm.MethodName) prog_26_method_4_code (2 : Nat) (Option.some Jvm.ClassFile.FieldType.int)) ∈ lw_all := lw_g (lw_at lw_m9 154 rfl) rfl
theorem q2189 : (Jvm.Cond.methodLink "UmbrellaHeirModel" (456 : Nat) ({ cls := "UmbrellaHeirModel", name := "gets", desc := "(III)I" } : Jvm.MethodName)) ∈ lw_all := lw_g (lw_at lw_m9 155 rfl) rfl
theorem q2190 : (Jvm.Cond.static ({ cls := "UmbrellaHeirModel", name := "gets", desc := "(III)I" } : Jvm.MethodName)) ∈ lw_all := lw_g (lw_at lw_m9 156 rfl) rfl
theorem q2191 : (Jvm.Cond.code ({ cls := "UmbrellaHeirModel", name := "gets", desc := "(III)I" } : Jvm.MethodName) prog_26_method_103_code (3 : Nat) (Option.some Jvm.ClassFile.FieldType.int)) ∈ lw_all := lw_g (lw_at lw_m9 157 rfl) rfl
theorem q2193 : (Jvm.Cond.instanceMethod ({ cls := "UmbrellaHeirModel", name := "rests", desc := "(I)I" } : Jvm.MethodName)) ∈ lw_all := lw_g (lw_at lw_m9 159 rfl) rfl
theorem q2194 : (Jvm.Cond.selects "UmbrellaHeirModel" ({ cls := "UmbrellaHeirModel", name := "rests", desc := "(I)I" } : Jvm.MethodName) ({ cls := "UmbrellaHeirModel", name := "rests", desc := "(I)I" } : Jvm.MethodName)) ∈ lw_all := lw_g (lw_at lw_m9 160 rfl) rfl
theorem q2195 : (Jvm.Cond.code ({ cls := "UmbrellaHeirModel", name := "rests", desc := "(I)I" } : Jvm.MethodName) prog_26_method_107_code (5 : Nat) (Option.some Jvm.ClassFile.FieldType.int)) ∈ lw_all := lw_g (lw_at lw_m9 161 rfl) rfl
theorem q2196 : (Jvm.Cond.methodLink "UmbrellaHeirModel" (459 : Nat) ({ cls := "UmbrellaHeirModel", name := "refusesRests", desc := "(I)I" } : Jvm.MethodName)) ∈ lw_all := lw_g (lw_at lw_m9 162 rfl) rfl
theorem q2197 : (Jvm.Cond.privateMethod ({ cls := "UmbrellaHeirModel", name := "refusesRests", desc := "(I)I" } : Jvm.MethodName)) ∈ lw_tbl := lw_at lw_m9 163 rfl
theorem q2198 : (Jvm.Cond.instanceMethod ({ cls := "UmbrellaHeirModel", name := "refusesRests", desc := "(I)I" } : Jvm.MethodName)) ∈ lw_all := lw_g (lw_at lw_m9 164 rfl) rfl
theorem q2199 : (Jvm.Cond.code ({ cls := "UmbrellaHeirModel", name := "refusesRests", desc := "(I)I" } : Jvm.MethodName) prog_26_method_106_code (2 : Nat) (Option.some Jvm.ClassFile.FieldType.int)) ∈ lw_all := lw_g (lw_at lw_m9 165 rfl) rfl
theorem q2200 : (Jvm.Cond.methodLink "UmbrellaHeirModel" (462 : Nat) ({ cls := "UmbrellaHeirModel", name := "isRest", desc := "(III)Z" } : Jvm.MethodName)) ∈ lw_all := lw_g (lw_at lw_m9 166 rfl) rfl
theorem q2201 : (Jvm.Cond.static ({ cls := "UmbrellaHeirModel", name := "isRest", desc := "(III)Z" } : Jvm.MethodName)) ∈ lw_all := lw_g (lw_at lw_m9 167 rfl) rfl
theorem q2202 : (Jvm.Cond.code ({ cls := "UmbrellaHeirModel", name := "isRest", desc := "(III)Z" } : Jvm.MethodName) prog_26_method_105_code (4 : Nat) (Option.some Jvm.ClassFile.FieldType.boolean)) ∈ lw_all := lw_g (lw_at lw_m9 168 rfl) rfl
theorem q2204 : (Jvm.Cond.instanceMethod ({ cls := "UmbrellaHeirModel", name := "rest", desc := "(I)I" } : Jvm.MethodName)) ∈ lw_all := lw_g (lw_at lw_m9 170 rfl) rfl
theorem q2205 : (Jvm.Cond.selects "UmbrellaHeirModel" ({ cls := "UmbrellaHeirModel", name := "rest", desc := "(I)I" } : Jvm.MethodName) ({ cls := "UmbrellaHeirModel", name := "rest", desc := "(I)I" } : Jvm.MethodName)) ∈ lw_all := lw_g (lw_at lw_m9 171 rfl) rfl
theorem q2206 : (Jvm.Cond.code ({ cls := "UmbrellaHeirModel", name := "rest", desc := "(I)I" } : Jvm.MethodName) prog_26_method_108_code (4 : Nat) (Option.some Jvm.ClassFile.FieldType.int)) ∈ lw_all := lw_g (lw_at lw_m9 172 rfl) rfl
theorem q2208 : (Jvm.Cond.instanceMethod ({ cls := "UmbrellaHeirModel", name := "most", desc := "(I)I" } : Jvm.MethodName)) ∈ lw_all := lw_g (lw_at lw_m9 174 rfl) rfl
theorem q2209 : (Jvm.Cond.selects "UmbrellaHeirModel" ({ cls := "UmbrellaHeirModel", name := "most", desc := "(I)I" } : Jvm.MethodName) ({ cls := "UmbrellaHeirModel", name := "most", desc := "(I)I" } : Jvm.MethodName)) ∈ lw_all := lw_g (lw_at lw_m9 175 rfl) rfl
theorem q2210 : (Jvm.Cond.code ({ cls := "UmbrellaHeirModel", name := "most", desc := "(I)I" } : Jvm.MethodName) prog_26_method_110_code (2 : Nat) (Option.some Jvm.ClassFile.FieldType.int)) ∈ lw_all := lw_g (lw_at lw_m9 176 rfl) rfl
theorem q2211 : (Jvm.Cond.methodLink "UmbrellaHeirModel" (468 : Nat) ({ cls := "UmbrellaHeirModel", name := "mosts", desc := "(I)I" } : Jvm.MethodName)) ∈ lw_all := lw_g (lw_at lw_m9 177 rfl) rfl
theorem q2212 : (Jvm.Cond.privateMethod ({ cls := "UmbrellaHeirModel", name := "mosts", desc := "(I)I" } : Jvm.MethodName)) ∈ lw_tbl := lw_at lw_m9 178 rfl
theorem q2213 : (Jvm.Cond.instanceMethod ({ cls := "UmbrellaHeirModel", name := "mosts", desc := "(I)I" } : Jvm.MethodName)) ∈ lw_all := lw_g (lw_at lw_m9 179 rfl) rfl
theorem q2214 : (Jvm.Cond.code ({ cls := "UmbrellaHeirModel", name := "mosts", desc := "(I)I" } : Jvm.MethodName) prog_26_method_109_code (4 : Nat) (Option.some Jvm.ClassFile.FieldType.int)) ∈ lw_all := lw_g (lw_at lw_m9 180 rfl) rfl
theorem q2216 : (Jvm.Cond.instanceMethod ({ cls := "UmbrellaHeirModel", name := "mostLands", desc := "(I)I" } : Jvm.MethodName)) ∈ lw_all := lw_g (lw_at lw_m9 182 rfl) rfl
theorem q2217 : (Jvm.Cond.selects "UmbrellaHeirModel" ({ cls := "UmbrellaHeirModel", name := "mostLands", desc := "(I)I" } : Jvm.MethodName) ({ cls := "UmbrellaHeirModel", name := "mostLands", desc := "(I)I" } : Jvm.MethodName)) ∈ lw_all := lw_g (lw_at lw_m9 183 rfl) rfl
theorem q2218 : (Jvm.Cond.code ({ cls := "UmbrellaHeirModel", name := "mostLands", desc := "(I)I" } : Jvm.MethodName) prog_26_method_111_code (2 : Nat) (Option.some Jvm.ClassFile.FieldType.int)) ∈ lw_all := lw_g (lw_at lw_m9 184 rfl) rfl
theorem q2220 : (Jvm.Cond.instanceMethod ({ cls := "UmbrellaHeirModel", name := "century", desc := "(III)I" } : Jvm.MethodName)) ∈ lw_all := lw_g (lw_at lw_m9 186 rfl) rfl
theorem q2221 : (Jvm.Cond.selects "UmbrellaHeirModel" ({ cls := "UmbrellaHeirModel", name := "century", desc := "(III)I" } : Jvm.MethodName) ({ cls := "UmbrellaHeirModel", name := "century", desc := "(III)I" } : Jvm.MethodName)) ∈ lw_all := lw_g (lw_at lw_m9 187 rfl) rfl
theorem q2222 : (Jvm.Cond.code ({ cls := "UmbrellaHeirModel", name := "century", desc := "(III)I" } : Jvm.MethodName) prog_26_method_114_code (5 : Nat) (Option.some Jvm.ClassFile.FieldType.int)) ∈ lw_all := lw_g (lw_at lw_m9 188 rfl) rfl
theorem q2223 : (Jvm.Cond.methodLink "UmbrellaHeirModel" (484 : Nat) ({ cls := "UmbrellaHeirModel", name := "centuries", desc := "(ZII)I" } : Jvm.MethodName)) ∈ lw_all := lw_g (lw_at lw_m9 189 rfl) rfl
theorem q2224 : (Jvm.Cond.privateMethod ({ cls := "UmbrellaHeirModel", name := "centuries", desc := "(ZII)I" } : Jvm.MethodName)) ∈ lw_tbl := lw_at lw_m9 190 rfl
theorem q2225 : (Jvm.Cond.instanceMethod ({ cls := "UmbrellaHeirModel", name := "centuries", desc := "(ZII)I" } : Jvm.MethodName)) ∈ lw_all := lw_g (lw_at lw_m9 191 rfl) rfl
theorem q2226 : (Jvm.Cond.code ({ cls := "UmbrellaHeirModel", name := "centuries", desc := "(ZII)I" } : Jvm.MethodName) prog_26_method_113_code (6 : Nat) (Option.some Jvm.ClassFile.FieldType.int)) ∈ lw_all := lw_g (lw_at lw_m9 192 rfl) rfl
theorem q2227 : (Jvm.Cond.constant "UmbrellaHeirModel" (480 : Nat) (65536 : Int32)) ∈ lw_all := lw_g (lw_at lw_m9 193 rfl) rfl
theorem q2228 : (Jvm.Cond.methodLink "UmbrellaHeirModel" (481 : Nat) ({ cls := "UmbrellaHeirModel", name := "draw", desc := "(I)I" } : Jvm.MethodName)) ∈ lw_all := lw_g (lw_at lw_m9 194 rfl) rfl
theorem q2229 : (Jvm.Cond.privateMethod ({ cls := "UmbrellaHeirModel", name := "draw", desc := "(I)I" } : Jvm.MethodName)) ∈ lw_tbl := lw_at lw_m9 195 rfl
theorem q2230 : (Jvm.Cond.instanceMethod ({ cls := "UmbrellaHeirModel", name := "draw", desc := "(I)I" } : Jvm.MethodName)) ∈ lw_all := lw_g (lw_at lw_m9 196 rfl) rfl
theorem q2231 : (Jvm.Cond.code ({ cls := "UmbrellaHeirModel", name := "draw", desc := "(I)I" } : Jvm.MethodName) prog_26_method_112_code (2 : Nat) (Option.some Jvm.ClassFile.FieldType.int)) ∈ lw_all := lw_g (lw_at lw_m9 197 rfl) rfl
theorem q2232 : (Jvm.Cond.constantLong "UmbrellaHeirModel" (471 : Nat) (75 : Int64)) ∈ lw_all := lw_g (lw_at lw_m9 198 rfl) rfl
theorem q2233 : (Jvm.Cond.constantLong "UmbrellaHeirModel" (476 : Nat) (74 : Int64)) ∈ lw_all := lw_g (lw_at lw_m9 199 rfl) rfl
theorem q2234 : (Jvm.Cond.constantLong "UmbrellaHeirModel" (478 : Nat) (65537 : Int64)) ∈ lw_all := lw_g (lw_at lw_m9 200 rfl) rfl
theorem q2236 : (Jvm.Cond.instanceMethod ({ cls := "UmbrellaHeirModel", name := "untitled", desc := "(II)I" } : Jvm.MethodName)) ∈ lw_all := lw_g (lw_at lw_m9 202 rfl) rfl
theorem q2237 : (Jvm.Cond.selects "UmbrellaHeirModel" ({ cls := "UmbrellaHeirModel", name := "untitled", desc := "(II)I" } : Jvm.MethodName) ({ cls := "UmbrellaHeirModel", name := "untitled", desc := "(II)I" } : Jvm.MethodName)) ∈ lw_all := lw_g (lw_at lw_m9 203 rfl) rfl
theorem q2238 : (Jvm.Cond.code ({ cls := "UmbrellaHeirModel", name := "untitled", desc := "(II)I" } : Jvm.MethodName) prog_26_method_115_code (6 : Nat) (Option.some Jvm.ClassFile.FieldType.int)) ∈ lw_all := lw_g (lw_at lw_m9 204 rfl) rfl
theorem q2240 : (Jvm.Cond.instanceMethod ({ cls := "UmbrellaHeirModel", name := "lend", desc := "(II)Z" } : Jvm.MethodName)) ∈ lw_all := lw_g (lw_at lw_m9 206 rfl) rfl
theorem q2241 : (Jvm.Cond.selects "UmbrellaHeirModel" ({ cls := "UmbrellaHeirModel", name := "lend", desc := "(II)Z" } : Jvm.MethodName) ({ cls := "UmbrellaHeirModel", name := "lend", desc := "(II)Z" } : Jvm.MethodName)) ∈ lw_all := lw_g (lw_at lw_m9 207 rfl) rfl
theorem q2242 : (Jvm.Cond.code ({ cls := "UmbrellaHeirModel", name := "lend", desc := "(II)Z" } : Jvm.MethodName) prog_26_method_117_code (3 : Nat) (Option.some Jvm.ClassFile.FieldType.boolean)) ∈ lw_all := lw_g (lw_at lw_m9 208 rfl) rfl
theorem q2243 : (Jvm.Cond.methodLink "UmbrellaHeirModel" (488 : Nat) ({ cls := "UmbrellaHeirModel", name := "denied", desc := "(I)Z" } : Jvm.MethodName)) ∈ lw_all := lw_g (lw_at lw_m9 209 rfl) rfl
theorem q2244 : (Jvm.Cond.privateMethod ({ cls := "UmbrellaHeirModel", name := "denied", desc := "(I)Z" } : Jvm.MethodName)) ∈ lw_tbl := lw_at lw_m9 210 rfl
theorem q2245 : (Jvm.Cond.instanceMethod ({ cls := "UmbrellaHeirModel", name := "denied", desc := "(I)Z" } : Jvm.MethodName)) ∈ lw_all := lw_g (lw_at lw_m9 211 rfl) rfl
theorem q2246 : (Jvm.Cond.code ({ cls := "UmbrellaHeirModel", name := "denied", desc := "(I)Z" } : Jvm.MethodName) prog_26_method_5_code (2 : Nat) (Option.some Jvm.ClassFile.FieldType.boolean)) ∈ lw_all := lw_g (lw_at lw_m9 212 rfl) rfl
theorem q2247 : (Jvm.Cond.methodLink "UmbrellaHeirModel" (491 : Nat) ({ cls := "UmbrellaHeirModel", name := "remembers", desc := "()V" } : Jvm.MethodName)) ∈ lw_all := lw_g (lw_at lw_m9 213 rfl) rfl
theorem q2248 : (Jvm.Cond.privateMethod ({ cls := "UmbrellaHeirModel", name := "remembers", desc := "()V" } : Jvm.MethodName)) ∈ lw_tbl := lw_at lw_m9 214 rfl
theorem q2249 : (Jvm.Cond.instanceMethod ({ cls := "UmbrellaHeirModel", name := "remembers", desc := "()V" } : Jvm.MethodName)) ∈ lw_all := lw_g (lw_at lw_m9 215 rfl) rfl
theorem q2250 : (Jvm.Cond.code ({ cls := "UmbrellaHeirModel", name := "remembers", desc := "()V" } : Jvm.MethodName) prog_26_method_116_code (2 : Nat) (Option.none : Option Jvm.ClassFile.FieldType)) ∈ lw_all := lw_g (lw_at lw_m9 216 rfl) rfl
theorem q2251 : (Jvm.Cond.methodLink "UmbrellaHeirModel" (494 : Nat) ({ cls := "UmbrellaHeirModel", name := "granted", desc := "()Z" } : Jvm.MethodName)) ∈ lw_all := lw_g (lw_at lw_m9 217 rfl) rfl
theorem q2252 : (Jvm.Cond.privateMethod ({ cls := "UmbrellaHeirModel", name := "granted", desc := "()Z" } : Jvm.MethodName)) ∈ lw_tbl := lw_at lw_m9 218 rfl
theorem q2253 : (Jvm.Cond.instanceMethod ({ cls := "UmbrellaHeirModel", name := "granted", desc := "()Z" } : Jvm.MethodName)) ∈ lw_all := lw_g (lw_at lw_m9 219 rfl) rfl
theorem q2254 : (Jvm.Cond.code ({ cls := "UmbrellaHeirModel", name := "granted", desc := "()Z" } : Jvm.MethodName) prog_26_method_7_code (1 : Nat) (Option.some Jvm.ClassFile.FieldType.boolean)) ∈ lw_all := lw_g (lw_at lw_m9 220 rfl) rfl
theorem q2256 : (Jvm.Cond.instanceMethod ({ cls := "UmbrellaHeirModel", name := "leave", desc := "(I)Z" } : Jvm.MethodName)) ∈ lw_all := lw_g (lw_at lw_m9 222 rfl) rfl
theorem q2257 : (Jvm.Cond.selects "UmbrellaHeirModel" ({ cls := "UmbrellaHeirModel", name := "leave", desc := "(I)Z" } : Jvm.MethodName) ({ cls := "UmbrellaHeirModel", name := "leave", desc := "(I)Z" } : Jvm.MethodName)) ∈ lw_all := lw_g (lw_at lw_m9 223 rfl) rfl
theorem q2258 : (Jvm.Cond.code ({ cls := "UmbrellaHeirModel", name := "leave", desc := "(I)Z" } : Jvm.MethodName) prog_26_method_118_code (2 : Nat) (Option.some Jvm.ClassFile.FieldType.boolean)) ∈ lw_all := lw_g (lw_at lw_m9 224 rfl) rfl
theorem q2260 : (Jvm.Cond.instanceMethod ({ cls := "UmbrellaHeirModel", name := "exchange", desc := "(II)Z" } : Jvm.MethodName)) ∈ lw_all := lw_g (lw_at lw_m9 226 rfl) rfl
theorem q2261 : (Jvm.Cond.selects "UmbrellaHeirModel" ({ cls := "UmbrellaHeirModel", name := "exchange", desc := "(II)Z" } : Jvm.MethodName) ({ cls := "UmbrellaHeirModel", name := "exchange", desc := "(II)Z" } : Jvm.MethodName)) ∈ lw_all := lw_g (lw_at lw_m9 227 rfl) rfl
theorem q2262 : (Jvm.Cond.code ({ cls := "UmbrellaHeirModel", name := "exchange", desc := "(II)Z" } : Jvm.MethodName) prog_26_method_119_code (3 : Nat) (Option.some Jvm.ClassFile.FieldType.boolean)) ∈ lw_all := lw_g (lw_at lw_m9 228 rfl) rfl
theorem q2264 : (Jvm.Cond.instanceMethod ({ cls := "UmbrellaHeirModel", name := "day", desc := "(Z)I" } : Jvm.MethodName)) ∈ lw_all := lw_g (lw_at lw_m9 230 rfl) rfl
theorem q2265 : (Jvm.Cond.selects "UmbrellaHeirModel" ({ cls := "UmbrellaHeirModel", name := "day", desc := "(Z)I" } : Jvm.MethodName) ({ cls := "UmbrellaHeirModel", name := "day", desc := "(Z)I" } : Jvm.MethodName)) ∈ lw_all := lw_g (lw_at lw_m9 231 rfl) rfl
theorem q2266 : (Jvm.Cond.code ({ cls := "UmbrellaHeirModel", name := "day", desc := "(Z)I" } : Jvm.MethodName) prog_26_method_120_code (4 : Nat) (Option.some Jvm.ClassFile.FieldType.int)) ∈ lw_all := lw_g (lw_at lw_m9 232 rfl) rfl
theorem q2268 : (Jvm.Cond.instanceMethod ({ cls := "UmbrellaHeirModel", name := "undo", desc := "()Z" } : Jvm.MethodName)) ∈ lw_all := lw_g (lw_at lw_m9 234 rfl) rfl
theorem q2269 : (Jvm.Cond.selects "UmbrellaHeirModel" ({ cls := "UmbrellaHeirModel", name := "undo", desc := "()Z" } : Jvm.MethodName) ({ cls := "UmbrellaHeirModel", name := "undo", desc := "()Z" } : Jvm.MethodName)) ∈ lw_all := lw_g (lw_at lw_m9 235 rfl) rfl
theorem q2270 : (Jvm.Cond.code ({ cls := "UmbrellaHeirModel", name := "undo", desc := "()Z" } : Jvm.MethodName) prog_26_method_121_code (2 : Nat) (Option.some Jvm.ClassFile.FieldType.boolean)) ∈ lw_all := lw_g (lw_at lw_m9 236 rfl) rfl
theorem q2272 : (Jvm.Cond.instanceMethod ({ cls := "UmbrellaHeirModel", name := "mark", desc := "()I" } : Jvm.MethodName)) ∈ lw_all := lw_g (lw_at lw_m9 238 rfl) rfl
theorem q2273 : (Jvm.Cond.selects "UmbrellaHeirModel" ({ cls := "UmbrellaHeirModel", name := "mark", desc := "()I" } : Jvm.MethodName) ({ cls := "UmbrellaHeirModel", name := "mark", desc := "()I" } : Jvm.MethodName)) ∈ lw_all := lw_g (lw_at lw_m9 239 rfl) rfl
theorem q2274 : (Jvm.Cond.code ({ cls := "UmbrellaHeirModel", name := "mark", desc := "()I" } : Jvm.MethodName) prog_26_method_122_code (2 : Nat) (Option.some Jvm.ClassFile.FieldType.int)) ∈ lw_all := lw_g (lw_at lw_m10 0 rfl) rfl
theorem q2276 : (Jvm.Cond.instanceMethod ({ cls := "UmbrellaHeirModel", name := "back", desc := "(I)Z" } : Jvm.MethodName)) ∈ lw_all := lw_g (lw_at lw_m10 2 rfl) rfl
theorem q2277 : (Jvm.Cond.selects "UmbrellaHeirModel" ({ cls := "UmbrellaHeirModel", name := "back", desc := "(I)Z" } : Jvm.MethodName) ({ cls := "UmbrellaHeirModel", name := "back", desc := "(I)Z" } : Jvm.MethodName)) ∈ lw_all := lw_g (lw_at lw_m10 3 rfl) rfl
theorem q2278 : (Jvm.Cond.code ({ cls := "UmbrellaHeirModel", name := "back", desc := "(I)Z" } : Jvm.MethodName) prog_26_method_123_code (3 : Nat) (Option.some Jvm.ClassFile.FieldType.boolean)) ∈ lw_all := lw_g (lw_at lw_m10 4 rfl) rfl
theorem q2280 : (Jvm.Cond.instanceMethod ({ cls := "UmbrellaHeirModel", name := "led", desc := "(I)I" } : Jvm.MethodName)) ∈ lw_all := lw_g (lw_at lw_m10 6 rfl) rfl
theorem q2281 : (Jvm.Cond.selects "UmbrellaHeirModel" ({ cls := "UmbrellaHeirModel", name := "led", desc := "(I)I" } : Jvm.MethodName) ({ cls := "UmbrellaHeirModel", name := "led", desc := "(I)I" } : Jvm.MethodName)) ∈ lw_all := lw_g (lw_at lw_m10 7 rfl) rfl
theorem q2282 : (Jvm.Cond.code ({ cls := "UmbrellaHeirModel", name := "led", desc := "(I)I" } : Jvm.MethodName) prog_26_method_124_code (4 : Nat) (Option.some Jvm.ClassFile.FieldType.int)) ∈ lw_all := lw_g (lw_at lw_m10 8 rfl) rfl
theorem q2284 : (Jvm.Cond.instanceMethod ({ cls := "UmbrellaHeirModel", name := "size", desc := "(I)I" } : Jvm.MethodName)) ∈ lw_all := lw_g (lw_at lw_m10 10 rfl) rfl
theorem q2285 : (Jvm.Cond.selects "UmbrellaHeirModel" ({ cls := "UmbrellaHeirModel", name := "size", desc := "(I)I" } : Jvm.MethodName) ({ cls := "UmbrellaHeirModel", name := "size", desc := "(I)I" } : Jvm.MethodName)) ∈ lw_all := lw_g (lw_at lw_m10 11 rfl) rfl
theorem q2286 : (Jvm.Cond.code ({ cls := "UmbrellaHeirModel", name := "size", desc := "(I)I" } : Jvm.MethodName) prog_26_method_125_code (2 : Nat) (Option.some Jvm.ClassFile.FieldType.int)) ∈ lw_all := lw_g (lw_at lw_m10 12 rfl) rfl
theorem q2288 : (Jvm.Cond.instanceMethod ({ cls := "UmbrellaHeirModel", name := "trouble", desc := "()I" } : Jvm.MethodName)) ∈ lw_all := lw_g (lw_at lw_m10 14 rfl) rfl
theorem q2289 : (Jvm.Cond.selects "UmbrellaHeirModel" ({ cls := "UmbrellaHeirModel", name := "trouble", desc := "()I" } : Jvm.MethodName) ({ cls := "UmbrellaHeirModel", name := "trouble", desc := "()I" } : Jvm.MethodName)) ∈ lw_all := lw_g (lw_at lw_m10 15 rfl) rfl
theorem q2290 : (Jvm.Cond.code ({ cls := "UmbrellaHeirModel", name := "trouble", desc := "()I" } : Jvm.MethodName) prog_26_method_126_code (1 : Nat) (Option.some Jvm.ClassFile.FieldType.int)) ∈ lw_all := lw_g (lw_at lw_m10 16 rfl) rfl
theorem q2306 : (Jvm.Cond.castable "UmbrellaHeirModel" "java/lang/Object") ∈ lw_tbl := lw_at lw_m10 32 rfl
theorem in_X8 : ∀ w ∈ wsX80, w ∈ lw_all := lw_in wsX80 [1580, 1582, 1584, 1586, 1588, 1590, 1592, 1594, 1596, 1598, 1600, 1602, 1604, 1606, 1608, 1610, 1612, 1614, 1616, 1618, 1620, 1622, 1624, 1626, 1628, 1630, 1632, 1634, 1636, 1638, 1640, 1642] (by decide +kernel) (by decide +kernel)
