/-! AdjectiveCouponsModel -/
set_option maxRecDepth 100000
def RX2 : String := "AdjectiveCouponsModel"
def TX2 : u_T := fun k => match k with
  | 0 => ("AdjectiveCouponsModel", "row", "[I", true)
  | 1 => ("AdjectiveCouponsModel", "pastMany", "I", false)
  | 2 => ("AdjectiveCouponsModel", "isKept", "[Z", true)
  | 3 => ("AdjectiveCouponsModel", "text", "[I", true)
  | 4 => ("AdjectiveCouponsModel", "length", "I", false)
  | 5 => ("AdjectiveCouponsModel", "read", "[I", true)
  | 6 => ("AdjectiveCouponsModel", "readMany", "I", false)
  | 7 => ("AdjectiveCouponsModel", "kinds", "[I", true)
  | 8 => ("AdjectiveCouponsModel", "worths", "[I", true)
  | 9 => ("AdjectiveCouponsModel", "words", "I", false)
  | 10 => ("AdjectiveCouponsModel", "changes", "[I", true)
  | 11 => ("AdjectiveCouponsModel", "changeMany", "I", false)
  | 12 => ("AdjectiveCouponsModel", "folk", "[I", true)
  | 13 => ("AdjectiveCouponsModel", "wants", "[I", true)
  | 14 => ("AdjectiveCouponsModel", "people", "I", false)
  | 15 => ("AdjectiveCouponsModel", "ration", "I", false)
  | 16 => ("AdjectiveCouponsModel", "law", "I", false)
  | 17 => ("AdjectiveCouponsModel", "line", "[I", true)
  | 18 => ("AdjectiveCouponsModel", "lineMany", "I", false)
  | 19 => ("AdjectiveCouponsModel", "drafts", "[I", true)
  | 20 => ("AdjectiveCouponsModel", "draftLengths", "[I", true)
  | 21 => ("AdjectiveCouponsModel", "draftMany", "I", false)
  | 22 => ("AdjectiveCouponsModel", "at", "I", false)
  | 23 => ("AdjectiveCouponsModel", "place", "I", false)
  | 24 => ("AdjectiveCouponsModel", "end", "I", false)
  | 25 => ("AdjectiveCouponsModel", "readWords", "I", false)
  | 26 => ("AdjectiveCouponsModel", "readChanges", "I", false)
  | 27 => ("AdjectiveCouponsModel", "readPeople", "I", false)
  | 28 => ("AdjectiveCouponsModel", "tried", "[I", true)
  | 29 => ("AdjectiveCouponsModel", "triedMany", "I", false)
  | 30 => ("AdjectiveCouponsModel", "triedKinds", "[I", true)
  | 31 => ("AdjectiveCouponsModel", "best", "[I", true)
  | 32 => ("AdjectiveCouponsModel", "least", "I", false)
  | 33 => ("AdjectiveCouponsModel", "most", "I", false)
  | _ => ("AdjectiveCouponsModel", "groups", "[I", true)
def tyX2 : Nat → FieldType := fun k => match k with
  | 0 => .array .int
  | 1 => .int
  | 2 => .array .boolean
  | 3 => .array .int
  | 4 => .int
  | 5 => .array .int
  | 6 => .int
  | 7 => .array .int
  | 8 => .array .int
  | 9 => .int
  | 10 => .array .int
  | 11 => .int
  | 12 => .array .int
  | 13 => .array .int
  | 14 => .int
  | 15 => .int
  | 16 => .int
  | 17 => .array .int
  | 18 => .int
  | 19 => .array .int
  | 20 => .array .int
  | 21 => .int
  | 22 => .int
  | 23 => .int
  | 24 => .int
  | 25 => .int
  | 26 => .int
  | 27 => .int
  | 28 => .array .int
  | 29 => .int
  | 30 => .array .int
  | 31 => .array .int
  | 32 => .int
  | 33 => .int
  | _ => .array .int
abbrev wsX20 : List Cond := u_ws RX2 TX2 35
set_option maxRecDepth 100000 in
theorem nmX2 : ∀ a, a < 35 → ∀ b, b < 35 → a ≠ b → (TX2 a).2.1 ≠ (TX2 b).2.1 := by decide +kernel
set_option maxRecDepth 100000 in
theorem tyX2_ok : ∀ k, k < 35 → parseFieldDescriptor (TX2 k).2.2.1 = some (tyX2 k) := by decide +kernel
abbrev cX2_init : ByteArray := prog_19_method_1_code
def yX2_init : MethodName := ⟨RX2, "<init>", "()V"⟩
def dkwX2_init_5 : List UInt8 := [181, 0, 54, 42, 16, 8, 188, 10, 181, 0, 57, 42, 16, 16, 188, 10, 181, 0, 60, 177]
abbrev dktX2_init_5 : List UInt8 := dkwX2_init_5 ++ []
def dkwX2_init_4 : List UInt8 := [181, 0, 45, 42, 16, 6, 188, 10, 181, 0, 48, 42, 16, 8, 188, 10, 181, 0, 51, 42, 16, 8, 188, 10]
abbrev dktX2_init_4 : List UInt8 := dkwX2_init_4 ++ dktX2_init_5
def dkwX2_init_3 : List UInt8 := [181, 0, 35, 42, 16, 9, 181, 0, 38, 42, 16, 8, 188, 10, 181, 0, 42, 42, 16, 48, 188, 10]
abbrev dktX2_init_3 : List UInt8 := dkwX2_init_3 ++ dktX2_init_4
def dkwX2_init_2 : List UInt8 := [188, 10, 181, 0, 26, 42, 16, 18, 188, 10, 181, 0, 29, 42, 7, 188, 10, 181, 0, 32, 42, 7, 188, 10]
abbrev dktX2_init_2 : List UInt8 := dkwX2_init_2 ++ dktX2_init_3
def dkwX2_init_1 : List UInt8 := [188, 10, 181, 0, 17, 42, 16, 56, 188, 10, 181, 0, 20, 42, 16, 10, 188, 10, 181, 0, 23, 42, 16, 10]
abbrev dktX2_init_1 : List UInt8 := dkwX2_init_1 ++ dktX2_init_2
def dkwX2_init_0 : List UInt8 := [42, 183, 0, 1, 42, 17, 3, 35, 188, 10, 181, 0, 7, 42, 5, 188, 4, 181, 0, 13, 42, 17, 0, 160]
abbrev dktX2_init_0 : List UInt8 := dkwX2_init_0 ++ dktX2_init_1
theorem dksX2_init_0 : cX2_init.data.toList.drop 0 = dktX2_init_0 := by decide +kernel
theorem dksX2_init_1 : cX2_init.data.toList.drop 24 = dktX2_init_1 := dk_seg dksX2_init_0 24 rfl rfl
theorem dksX2_init_2 : cX2_init.data.toList.drop 48 = dktX2_init_2 := dk_seg dksX2_init_1 24 rfl rfl
theorem dksX2_init_3 : cX2_init.data.toList.drop 72 = dktX2_init_3 := dk_seg dksX2_init_2 24 rfl rfl
theorem dksX2_init_4 : cX2_init.data.toList.drop 94 = dktX2_init_4 := dk_seg dksX2_init_3 22 rfl rfl
theorem dksX2_init_5 : cX2_init.data.toList.drop 118 = dktX2_init_5 := dk_seg dksX2_init_4 24 rfl rfl
theorem dX2_init_0 : decode cX2_init 0 = .ok (.aload_n 0, 1) := dk_42 (dk_at dksX2_init_0 0 rfl rfl)
theorem dX2_init_1 : decode cX2_init 1 = .ok (.invokespecial 1, 3) := dk_183 0 1 (dk_at dksX2_init_0 1 rfl rfl)
theorem dX2_init_4 : decode cX2_init 4 = .ok (.aload_n 0, 1) := dk_42 (dk_at dksX2_init_0 4 rfl rfl)
theorem dX2_init_5 : decode cX2_init 5 = .ok (.sipush 803, 3) := dk_17 3 35 (dk_at dksX2_init_0 5 rfl rfl)
theorem dX2_init_8 : decode cX2_init 8 = .ok (.newarray .int, 2) := dk_188_10 (dk_at dksX2_init_0 8 rfl rfl)
theorem dX2_init_10 : decode cX2_init 10 = .ok (.putfield 7, 3) := dk_181 0 7 (dk_at dksX2_init_0 10 rfl rfl)
theorem dX2_init_13 : decode cX2_init 13 = .ok (.aload_n 0, 1) := dk_42 (dk_at dksX2_init_0 13 rfl rfl)
theorem dX2_init_14 : decode cX2_init 14 = .ok (.iconst 2, 1) := dk_5 (dk_at dksX2_init_0 14 rfl rfl)
theorem dX2_init_15 : decode cX2_init 15 = .ok (.newarray .boolean, 2) := dk_188_4 (dk_at dksX2_init_0 15 rfl rfl)
theorem dX2_init_17 : decode cX2_init 17 = .ok (.putfield 13, 3) := dk_181 0 13 (dk_at dksX2_init_0 17 rfl rfl)
theorem dX2_init_20 : decode cX2_init 20 = .ok (.aload_n 0, 1) := dk_42 (dk_at dksX2_init_0 20 rfl rfl)
theorem dX2_init_21 : decode cX2_init 21 = .ok (.sipush 160, 3) := dk_17 0 160 (dk_at dksX2_init_0 21 rfl rfl)
theorem dX2_init_24 : decode cX2_init 24 = .ok (.newarray .int, 2) := dk_188_10 (dk_at dksX2_init_1 0 rfl rfl)
theorem dX2_init_26 : decode cX2_init 26 = .ok (.putfield 17, 3) := dk_181 0 17 (dk_at dksX2_init_1 2 rfl rfl)
theorem dX2_init_29 : decode cX2_init 29 = .ok (.aload_n 0, 1) := dk_42 (dk_at dksX2_init_1 5 rfl rfl)
theorem dX2_init_30 : decode cX2_init 30 = .ok (.bipush 56, 2) := dk_16 56 (dk_at dksX2_init_1 6 rfl rfl)
theorem dX2_init_32 : decode cX2_init 32 = .ok (.newarray .int, 2) := dk_188_10 (dk_at dksX2_init_1 8 rfl rfl)
theorem dX2_init_34 : decode cX2_init 34 = .ok (.putfield 20, 3) := dk_181 0 20 (dk_at dksX2_init_1 10 rfl rfl)
theorem dX2_init_37 : decode cX2_init 37 = .ok (.aload_n 0, 1) := dk_42 (dk_at dksX2_init_1 13 rfl rfl)
theorem dX2_init_38 : decode cX2_init 38 = .ok (.bipush 10, 2) := dk_16 10 (dk_at dksX2_init_1 14 rfl rfl)
theorem dX2_init_40 : decode cX2_init 40 = .ok (.newarray .int, 2) := dk_188_10 (dk_at dksX2_init_1 16 rfl rfl)
theorem dX2_init_42 : decode cX2_init 42 = .ok (.putfield 23, 3) := dk_181 0 23 (dk_at dksX2_init_1 18 rfl rfl)
theorem dX2_init_45 : decode cX2_init 45 = .ok (.aload_n 0, 1) := dk_42 (dk_at dksX2_init_1 21 rfl rfl)
theorem dX2_init_46 : decode cX2_init 46 = .ok (.bipush 10, 2) := dk_16 10 (dk_at dksX2_init_1 22 rfl rfl)
theorem dX2_init_48 : decode cX2_init 48 = .ok (.newarray .int, 2) := dk_188_10 (dk_at dksX2_init_2 0 rfl rfl)
theorem dX2_init_50 : decode cX2_init 50 = .ok (.putfield 26, 3) := dk_181 0 26 (dk_at dksX2_init_2 2 rfl rfl)
theorem dX2_init_53 : decode cX2_init 53 = .ok (.aload_n 0, 1) := dk_42 (dk_at dksX2_init_2 5 rfl rfl)
theorem dX2_init_54 : decode cX2_init 54 = .ok (.bipush 18, 2) := dk_16 18 (dk_at dksX2_init_2 6 rfl rfl)
theorem dX2_init_56 : decode cX2_init 56 = .ok (.newarray .int, 2) := dk_188_10 (dk_at dksX2_init_2 8 rfl rfl)
theorem dX2_init_58 : decode cX2_init 58 = .ok (.putfield 29, 3) := dk_181 0 29 (dk_at dksX2_init_2 10 rfl rfl)
theorem dX2_init_61 : decode cX2_init 61 = .ok (.aload_n 0, 1) := dk_42 (dk_at dksX2_init_2 13 rfl rfl)
theorem dX2_init_62 : decode cX2_init 62 = .ok (.iconst 4, 1) := dk_7 (dk_at dksX2_init_2 14 rfl rfl)
theorem dX2_init_63 : decode cX2_init 63 = .ok (.newarray .int, 2) := dk_188_10 (dk_at dksX2_init_2 15 rfl rfl)
theorem dX2_init_65 : decode cX2_init 65 = .ok (.putfield 32, 3) := dk_181 0 32 (dk_at dksX2_init_2 17 rfl rfl)
theorem dX2_init_68 : decode cX2_init 68 = .ok (.aload_n 0, 1) := dk_42 (dk_at dksX2_init_2 20 rfl rfl)
theorem dX2_init_69 : decode cX2_init 69 = .ok (.iconst 4, 1) := dk_7 (dk_at dksX2_init_2 21 rfl rfl)
theorem dX2_init_70 : decode cX2_init 70 = .ok (.newarray .int, 2) := dk_188_10 (dk_at dksX2_init_2 22 rfl rfl)
theorem dX2_init_72 : decode cX2_init 72 = .ok (.putfield 35, 3) := dk_181 0 35 (dk_at dksX2_init_3 0 rfl rfl)
theorem dX2_init_75 : decode cX2_init 75 = .ok (.aload_n 0, 1) := dk_42 (dk_at dksX2_init_3 3 rfl rfl)
theorem dX2_init_76 : decode cX2_init 76 = .ok (.bipush 9, 2) := dk_16 9 (dk_at dksX2_init_3 4 rfl rfl)
theorem dX2_init_78 : decode cX2_init 78 = .ok (.putfield 38, 3) := dk_181 0 38 (dk_at dksX2_init_3 6 rfl rfl)
theorem dX2_init_81 : decode cX2_init 81 = .ok (.aload_n 0, 1) := dk_42 (dk_at dksX2_init_3 9 rfl rfl)
theorem dX2_init_82 : decode cX2_init 82 = .ok (.bipush 8, 2) := dk_16 8 (dk_at dksX2_init_3 10 rfl rfl)
theorem dX2_init_84 : decode cX2_init 84 = .ok (.newarray .int, 2) := dk_188_10 (dk_at dksX2_init_3 12 rfl rfl)
theorem dX2_init_86 : decode cX2_init 86 = .ok (.putfield 42, 3) := dk_181 0 42 (dk_at dksX2_init_3 14 rfl rfl)
theorem dX2_init_89 : decode cX2_init 89 = .ok (.aload_n 0, 1) := dk_42 (dk_at dksX2_init_3 17 rfl rfl)
theorem dX2_init_90 : decode cX2_init 90 = .ok (.bipush 48, 2) := dk_16 48 (dk_at dksX2_init_3 18 rfl rfl)
theorem dX2_init_92 : decode cX2_init 92 = .ok (.newarray .int, 2) := dk_188_10 (dk_at dksX2_init_3 20 rfl rfl)
theorem dX2_init_94 : decode cX2_init 94 = .ok (.putfield 45, 3) := dk_181 0 45 (dk_at dksX2_init_4 0 rfl rfl)
theorem dX2_init_97 : decode cX2_init 97 = .ok (.aload_n 0, 1) := dk_42 (dk_at dksX2_init_4 3 rfl rfl)
theorem dX2_init_98 : decode cX2_init 98 = .ok (.bipush 6, 2) := dk_16 6 (dk_at dksX2_init_4 4 rfl rfl)
theorem dX2_init_100 : decode cX2_init 100 = .ok (.newarray .int, 2) := dk_188_10 (dk_at dksX2_init_4 6 rfl rfl)
theorem dX2_init_102 : decode cX2_init 102 = .ok (.putfield 48, 3) := dk_181 0 48 (dk_at dksX2_init_4 8 rfl rfl)
theorem dX2_init_105 : decode cX2_init 105 = .ok (.aload_n 0, 1) := dk_42 (dk_at dksX2_init_4 11 rfl rfl)
theorem dX2_init_106 : decode cX2_init 106 = .ok (.bipush 8, 2) := dk_16 8 (dk_at dksX2_init_4 12 rfl rfl)
theorem dX2_init_108 : decode cX2_init 108 = .ok (.newarray .int, 2) := dk_188_10 (dk_at dksX2_init_4 14 rfl rfl)
theorem dX2_init_110 : decode cX2_init 110 = .ok (.putfield 51, 3) := dk_181 0 51 (dk_at dksX2_init_4 16 rfl rfl)
theorem dX2_init_113 : decode cX2_init 113 = .ok (.aload_n 0, 1) := dk_42 (dk_at dksX2_init_4 19 rfl rfl)
theorem dX2_init_114 : decode cX2_init 114 = .ok (.bipush 8, 2) := dk_16 8 (dk_at dksX2_init_4 20 rfl rfl)
theorem dX2_init_116 : decode cX2_init 116 = .ok (.newarray .int, 2) := dk_188_10 (dk_at dksX2_init_4 22 rfl rfl)
theorem dX2_init_118 : decode cX2_init 118 = .ok (.putfield 54, 3) := dk_181 0 54 (dk_at dksX2_init_5 0 rfl rfl)
theorem dX2_init_121 : decode cX2_init 121 = .ok (.aload_n 0, 1) := dk_42 (dk_at dksX2_init_5 3 rfl rfl)
theorem dX2_init_122 : decode cX2_init 122 = .ok (.bipush 8, 2) := dk_16 8 (dk_at dksX2_init_5 4 rfl rfl)
theorem dX2_init_124 : decode cX2_init 124 = .ok (.newarray .int, 2) := dk_188_10 (dk_at dksX2_init_5 6 rfl rfl)
theorem dX2_init_126 : decode cX2_init 126 = .ok (.putfield 57, 3) := dk_181 0 57 (dk_at dksX2_init_5 8 rfl rfl)
theorem dX2_init_129 : decode cX2_init 129 = .ok (.aload_n 0, 1) := dk_42 (dk_at dksX2_init_5 11 rfl rfl)
theorem dX2_init_130 : decode cX2_init 130 = .ok (.bipush 16, 2) := dk_16 16 (dk_at dksX2_init_5 12 rfl rfl)
theorem dX2_init_132 : decode cX2_init 132 = .ok (.newarray .int, 2) := dk_188_10 (dk_at dksX2_init_5 14 rfl rfl)
theorem dX2_init_134 : decode cX2_init 134 = .ok (.putfield 60, 3) := dk_181 0 60 (dk_at dksX2_init_5 16 rfl rfl)
theorem dX2_init_137 : decode cX2_init 137 = .ok (.return_, 1) := dk_177 (dk_at dksX2_init_5 19 rfl rfl)
abbrev cX2_write : ByteArray := prog_19_method_5_code
def yX2_write : MethodName := ⟨RX2, "write", "(I)I"⟩
def dkwX2_write_2 : List UInt8 := [181, 0, 69, 42, 180, 0, 69, 172]
abbrev dktX2_write_2 : List UInt8 := dkwX2_write_2 ++ []
def dkwX2_write_1 : List UInt8 := [160, 0, 6, 16, 251, 172, 42, 180, 0, 17, 42, 180, 0, 69, 27, 79, 42, 89, 180, 0, 69, 4, 96]
abbrev dktX2_write_1 : List UInt8 := dkwX2_write_1 ++ dktX2_write_2
def dkwX2_write_0 : List UInt8 := [27, 133, 9, 20, 0, 63, 184, 0, 65, 154, 0, 6, 16, 253, 172, 42, 180, 0, 69, 17, 0, 160]
abbrev dktX2_write_0 : List UInt8 := dkwX2_write_0 ++ dktX2_write_1
theorem dksX2_write_0 : cX2_write.data.toList.drop 0 = dktX2_write_0 := by decide +kernel
theorem dksX2_write_1 : cX2_write.data.toList.drop 22 = dktX2_write_1 := dk_seg dksX2_write_0 22 rfl rfl
theorem dksX2_write_2 : cX2_write.data.toList.drop 45 = dktX2_write_2 := dk_seg dksX2_write_1 23 rfl rfl
theorem dX2_write_0 : decode cX2_write 0 = .ok (.iload_n 1, 1) := dk_27 (dk_at dksX2_write_0 0 rfl rfl)
theorem dX2_write_1 : decode cX2_write 1 = .ok (.i2l, 1) := dk_133 (dk_at dksX2_write_0 1 rfl rfl)
theorem dX2_write_2 : decode cX2_write 2 = .ok (.lconst 0, 1) := dk_9 (dk_at dksX2_write_0 2 rfl rfl)
theorem dX2_write_3 : decode cX2_write 3 = .ok (.ldc2_w 63, 3) := dk_20 0 63 (dk_at dksX2_write_0 3 rfl rfl)
theorem dX2_write_6 : decode cX2_write 6 = .ok (.invokestatic 65, 3) := dk_184 0 65 (dk_at dksX2_write_0 6 rfl rfl)
theorem dX2_write_9 : decode cX2_write 9 = .ok (.ifCond .ne 6, 3) := dk_154 0 6 (dk_at dksX2_write_0 9 rfl rfl)
theorem dX2_write_12 : decode cX2_write 12 = .ok (.bipush (-3), 2) := dk_16 253 (dk_at dksX2_write_0 12 rfl rfl)
theorem dX2_write_14 : decode cX2_write 14 = .ok (.ireturn, 1) := dk_172 (dk_at dksX2_write_0 14 rfl rfl)
theorem dX2_write_15 : decode cX2_write 15 = .ok (.aload_n 0, 1) := dk_42 (dk_at dksX2_write_0 15 rfl rfl)
theorem dX2_write_16 : decode cX2_write 16 = .ok (.getfield 69, 3) := dk_180 0 69 (dk_at dksX2_write_0 16 rfl rfl)
theorem dX2_write_19 : decode cX2_write 19 = .ok (.sipush 160, 3) := dk_17 0 160 (dk_at dksX2_write_0 19 rfl rfl)
theorem dX2_write_22 : decode cX2_write 22 = .ok (.if_icmp .ne 6, 3) := dk_160 0 6 (dk_at dksX2_write_1 0 rfl rfl)
theorem dX2_write_25 : decode cX2_write 25 = .ok (.bipush (-5), 2) := dk_16 251 (dk_at dksX2_write_1 3 rfl rfl)
theorem dX2_write_27 : decode cX2_write 27 = .ok (.ireturn, 1) := dk_172 (dk_at dksX2_write_1 5 rfl rfl)
theorem dX2_write_28 : decode cX2_write 28 = .ok (.aload_n 0, 1) := dk_42 (dk_at dksX2_write_1 6 rfl rfl)
theorem dX2_write_29 : decode cX2_write 29 = .ok (.getfield 17, 3) := dk_180 0 17 (dk_at dksX2_write_1 7 rfl rfl)
theorem dX2_write_32 : decode cX2_write 32 = .ok (.aload_n 0, 1) := dk_42 (dk_at dksX2_write_1 10 rfl rfl)
theorem dX2_write_33 : decode cX2_write 33 = .ok (.getfield 69, 3) := dk_180 0 69 (dk_at dksX2_write_1 11 rfl rfl)
theorem dX2_write_36 : decode cX2_write 36 = .ok (.iload_n 1, 1) := dk_27 (dk_at dksX2_write_1 14 rfl rfl)
theorem dX2_write_37 : decode cX2_write 37 = .ok (.iastore, 1) := dk_79 (dk_at dksX2_write_1 15 rfl rfl)
theorem dX2_write_38 : decode cX2_write 38 = .ok (.aload_n 0, 1) := dk_42 (dk_at dksX2_write_1 16 rfl rfl)
theorem dX2_write_39 : decode cX2_write 39 = .ok (.dup, 1) := dk_89 (dk_at dksX2_write_1 17 rfl rfl)
theorem dX2_write_40 : decode cX2_write 40 = .ok (.getfield 69, 3) := dk_180 0 69 (dk_at dksX2_write_1 18 rfl rfl)
theorem dX2_write_43 : decode cX2_write 43 = .ok (.iconst 1, 1) := dk_4 (dk_at dksX2_write_1 21 rfl rfl)
theorem dX2_write_44 : decode cX2_write 44 = .ok (.iadd, 1) := dk_96 (dk_at dksX2_write_1 22 rfl rfl)
theorem dX2_write_45 : decode cX2_write 45 = .ok (.putfield 69, 3) := dk_181 0 69 (dk_at dksX2_write_2 0 rfl rfl)
theorem dX2_write_48 : decode cX2_write 48 = .ok (.aload_n 0, 1) := dk_42 (dk_at dksX2_write_2 3 rfl rfl)
theorem dX2_write_49 : decode cX2_write 49 = .ok (.getfield 69, 3) := dk_180 0 69 (dk_at dksX2_write_2 4 rfl rfl)
theorem dX2_write_52 : decode cX2_write 52 = .ok (.ireturn, 1) := dk_172 (dk_at dksX2_write_2 7 rfl rfl)
abbrev cX2_in : ByteArray := prog_19_method_2_code
def yX2_in : MethodName := ⟨RX2, "in", "(JJJ)Z"⟩
def dkwX2_in_0 : List UInt8 := [30, 32, 148, 155, 0, 14, 30, 22, 4, 148, 157, 0, 7, 4, 167, 0, 4, 3, 172]
abbrev dktX2_in_0 : List UInt8 := dkwX2_in_0 ++ []
theorem dksX2_in_0 : cX2_in.data.toList.drop 0 = dktX2_in_0 := by decide +kernel
theorem dX2_in_0 : decode cX2_in 0 = .ok (.lload_n 0, 1) := dk_30 (dk_at dksX2_in_0 0 rfl rfl)
theorem dX2_in_1 : decode cX2_in 1 = .ok (.lload_n 2, 1) := dk_32 (dk_at dksX2_in_0 1 rfl rfl)
theorem dX2_in_2 : decode cX2_in 2 = .ok (.lcmp, 1) := dk_148 (dk_at dksX2_in_0 2 rfl rfl)
theorem dX2_in_3 : decode cX2_in 3 = .ok (.ifCond .lt 14, 3) := dk_155 0 14 (dk_at dksX2_in_0 3 rfl rfl)
theorem dX2_in_6 : decode cX2_in 6 = .ok (.lload_n 0, 1) := dk_30 (dk_at dksX2_in_0 6 rfl rfl)
theorem dX2_in_7 : decode cX2_in 7 = .ok (.lload 4, 2) := dk_22 4 (dk_at dksX2_in_0 7 rfl rfl)
theorem dX2_in_9 : decode cX2_in 9 = .ok (.lcmp, 1) := dk_148 (dk_at dksX2_in_0 9 rfl rfl)
theorem dX2_in_10 : decode cX2_in 10 = .ok (.ifCond .gt 7, 3) := dk_157 0 7 (dk_at dksX2_in_0 10 rfl rfl)
theorem dX2_in_13 : decode cX2_in 13 = .ok (.iconst 1, 1) := dk_4 (dk_at dksX2_in_0 13 rfl rfl)
theorem dX2_in_14 : decode cX2_in 14 = .ok (.goto 4, 3) := dk_167 0 4 (dk_at dksX2_in_0 14 rfl rfl)
theorem dX2_in_17 : decode cX2_in 17 = .ok (.iconst 0, 1) := dk_3 (dk_at dksX2_in_0 17 rfl rfl)
theorem dX2_in_18 : decode cX2_in 18 = .ok (.ireturn, 1) := dk_172 (dk_at dksX2_in_0 18 rfl rfl)
abbrev cX2_erase : ByteArray := prog_19_method_6_code
def yX2_erase : MethodName := ⟨RX2, "erase", "()I"⟩
def dkwX2_erase_0 : List UInt8 := [42, 180, 0, 69, 60, 42, 3, 181, 0, 69, 27, 172]
abbrev dktX2_erase_0 : List UInt8 := dkwX2_erase_0 ++ []
theorem dksX2_erase_0 : cX2_erase.data.toList.drop 0 = dktX2_erase_0 := by decide +kernel
theorem dX2_erase_0 : decode cX2_erase 0 = .ok (.aload_n 0, 1) := dk_42 (dk_at dksX2_erase_0 0 rfl rfl)
theorem dX2_erase_1 : decode cX2_erase 1 = .ok (.getfield 69, 3) := dk_180 0 69 (dk_at dksX2_erase_0 1 rfl rfl)
theorem dX2_erase_4 : decode cX2_erase 4 = .ok (.istore_n 1, 1) := dk_60 (dk_at dksX2_erase_0 4 rfl rfl)
theorem dX2_erase_5 : decode cX2_erase 5 = .ok (.aload_n 0, 1) := dk_42 (dk_at dksX2_erase_0 5 rfl rfl)
theorem dX2_erase_6 : decode cX2_erase 6 = .ok (.iconst 0, 1) := dk_3 (dk_at dksX2_erase_0 6 rfl rfl)
theorem dX2_erase_7 : decode cX2_erase 7 = .ok (.putfield 69, 3) := dk_181 0 69 (dk_at dksX2_erase_0 7 rfl rfl)
theorem dX2_erase_10 : decode cX2_erase 10 = .ok (.iload_n 1, 1) := dk_27 (dk_at dksX2_erase_0 10 rfl rfl)
theorem dX2_erase_11 : decode cX2_erase 11 = .ok (.ireturn, 1) := dk_172 (dk_at dksX2_erase_0 11 rfl rfl)
abbrev cX2_fault : ByteArray := prog_19_method_18_code
def yX2_fault : MethodName := ⟨RX2, "fault", "()I"⟩
def dkwX2_fault_5 : List UInt8 := [154, 0, 8, 42, 180, 0, 75, 172, 167, 255, 181, 2, 172]
abbrev dktX2_fault_5 : List UInt8 := dkwX2_fault_5 ++ []
def dkwX2_fault_4 : List UInt8 := [162, 0, 7, 4, 167, 0, 4, 3, 60, 27, 153, 0, 12, 42, 182, 0, 115, 42, 182, 0, 158, 60, 27]
abbrev dktX2_fault_4 : List UInt8 := dkwX2_fault_4 ++ dktX2_fault_5
def dkwX2_fault_3 : List UInt8 := [4, 160, 0, 30, 42, 180, 0, 17, 42, 180, 0, 75, 46, 16, 59, 160, 0, 16, 42, 180, 0, 112, 16, 14]
abbrev dktX2_fault_3 : List UInt8 := dkwX2_fault_3 ++ dktX2_fault_4
def dkwX2_fault_2 : List UInt8 := [180, 0, 75, 172, 42, 180, 0, 75, 42, 180, 0, 69, 162, 0, 70, 42, 180, 0, 82, 42, 180, 0, 75, 100]
abbrev dktX2_fault_2 : List UInt8 := dkwX2_fault_2 ++ dktX2_fault_3
def dkwX2_fault_1 : List UInt8 := [181, 0, 143, 42, 42, 180, 0, 155, 181, 0, 140, 42, 182, 0, 115, 42, 182, 0, 158, 154, 0, 8, 42]
abbrev dktX2_fault_1 : List UInt8 := dkwX2_fault_1 ++ dktX2_fault_2
def dkwX2_fault_0 : List UInt8 := [42, 3, 181, 0, 72, 42, 3, 181, 0, 112, 42, 42, 180, 0, 149, 181, 0, 134, 42, 42, 180, 0, 152]
abbrev dktX2_fault_0 : List UInt8 := dkwX2_fault_0 ++ dktX2_fault_1
theorem dksX2_fault_0 : cX2_fault.data.toList.drop 0 = dktX2_fault_0 := by decide +kernel
theorem dksX2_fault_1 : cX2_fault.data.toList.drop 23 = dktX2_fault_1 := dk_seg dksX2_fault_0 23 rfl rfl
theorem dksX2_fault_2 : cX2_fault.data.toList.drop 46 = dktX2_fault_2 := dk_seg dksX2_fault_1 23 rfl rfl
theorem dksX2_fault_3 : cX2_fault.data.toList.drop 70 = dktX2_fault_3 := dk_seg dksX2_fault_2 24 rfl rfl
theorem dksX2_fault_4 : cX2_fault.data.toList.drop 94 = dktX2_fault_4 := dk_seg dksX2_fault_3 24 rfl rfl
theorem dksX2_fault_5 : cX2_fault.data.toList.drop 117 = dktX2_fault_5 := dk_seg dksX2_fault_4 23 rfl rfl
theorem dX2_fault_0 : decode cX2_fault 0 = .ok (.aload_n 0, 1) := dk_42 (dk_at dksX2_fault_0 0 rfl rfl)
theorem dX2_fault_1 : decode cX2_fault 1 = .ok (.iconst 0, 1) := dk_3 (dk_at dksX2_fault_0 1 rfl rfl)
theorem dX2_fault_2 : decode cX2_fault 2 = .ok (.putfield 72, 3) := dk_181 0 72 (dk_at dksX2_fault_0 2 rfl rfl)
theorem dX2_fault_5 : decode cX2_fault 5 = .ok (.aload_n 0, 1) := dk_42 (dk_at dksX2_fault_0 5 rfl rfl)
theorem dX2_fault_6 : decode cX2_fault 6 = .ok (.iconst 0, 1) := dk_3 (dk_at dksX2_fault_0 6 rfl rfl)
theorem dX2_fault_7 : decode cX2_fault 7 = .ok (.putfield 112, 3) := dk_181 0 112 (dk_at dksX2_fault_0 7 rfl rfl)
theorem dX2_fault_10 : decode cX2_fault 10 = .ok (.aload_n 0, 1) := dk_42 (dk_at dksX2_fault_0 10 rfl rfl)
theorem dX2_fault_11 : decode cX2_fault 11 = .ok (.aload_n 0, 1) := dk_42 (dk_at dksX2_fault_0 11 rfl rfl)
theorem dX2_fault_12 : decode cX2_fault 12 = .ok (.getfield 149, 3) := dk_180 0 149 (dk_at dksX2_fault_0 12 rfl rfl)
theorem dX2_fault_15 : decode cX2_fault 15 = .ok (.putfield 134, 3) := dk_181 0 134 (dk_at dksX2_fault_0 15 rfl rfl)
theorem dX2_fault_18 : decode cX2_fault 18 = .ok (.aload_n 0, 1) := dk_42 (dk_at dksX2_fault_0 18 rfl rfl)
theorem dX2_fault_19 : decode cX2_fault 19 = .ok (.aload_n 0, 1) := dk_42 (dk_at dksX2_fault_0 19 rfl rfl)
theorem dX2_fault_20 : decode cX2_fault 20 = .ok (.getfield 152, 3) := dk_180 0 152 (dk_at dksX2_fault_0 20 rfl rfl)
theorem dX2_fault_23 : decode cX2_fault 23 = .ok (.putfield 143, 3) := dk_181 0 143 (dk_at dksX2_fault_1 0 rfl rfl)
theorem dX2_fault_26 : decode cX2_fault 26 = .ok (.aload_n 0, 1) := dk_42 (dk_at dksX2_fault_1 3 rfl rfl)
theorem dX2_fault_27 : decode cX2_fault 27 = .ok (.aload_n 0, 1) := dk_42 (dk_at dksX2_fault_1 4 rfl rfl)
theorem dX2_fault_28 : decode cX2_fault 28 = .ok (.getfield 155, 3) := dk_180 0 155 (dk_at dksX2_fault_1 5 rfl rfl)
theorem dX2_fault_31 : decode cX2_fault 31 = .ok (.putfield 140, 3) := dk_181 0 140 (dk_at dksX2_fault_1 8 rfl rfl)
theorem dX2_fault_34 : decode cX2_fault 34 = .ok (.aload_n 0, 1) := dk_42 (dk_at dksX2_fault_1 11 rfl rfl)
theorem dX2_fault_35 : decode cX2_fault 35 = .ok (.invokevirtual 115, 3) := dk_182 0 115 (dk_at dksX2_fault_1 12 rfl rfl)
theorem dX2_fault_38 : decode cX2_fault 38 = .ok (.aload_n 0, 1) := dk_42 (dk_at dksX2_fault_1 15 rfl rfl)
theorem dX2_fault_39 : decode cX2_fault 39 = .ok (.invokevirtual 158, 3) := dk_182 0 158 (dk_at dksX2_fault_1 16 rfl rfl)
theorem dX2_fault_42 : decode cX2_fault 42 = .ok (.ifCond .ne 8, 3) := dk_154 0 8 (dk_at dksX2_fault_1 19 rfl rfl)
theorem dX2_fault_45 : decode cX2_fault 45 = .ok (.aload_n 0, 1) := dk_42 (dk_at dksX2_fault_1 22 rfl rfl)
theorem dX2_fault_46 : decode cX2_fault 46 = .ok (.getfield 75, 3) := dk_180 0 75 (dk_at dksX2_fault_2 0 rfl rfl)
theorem dX2_fault_49 : decode cX2_fault 49 = .ok (.ireturn, 1) := dk_172 (dk_at dksX2_fault_2 3 rfl rfl)
theorem dX2_fault_50 : decode cX2_fault 50 = .ok (.aload_n 0, 1) := dk_42 (dk_at dksX2_fault_2 4 rfl rfl)
theorem dX2_fault_51 : decode cX2_fault 51 = .ok (.getfield 75, 3) := dk_180 0 75 (dk_at dksX2_fault_2 5 rfl rfl)
theorem dX2_fault_54 : decode cX2_fault 54 = .ok (.aload_n 0, 1) := dk_42 (dk_at dksX2_fault_2 8 rfl rfl)
theorem dX2_fault_55 : decode cX2_fault 55 = .ok (.getfield 69, 3) := dk_180 0 69 (dk_at dksX2_fault_2 9 rfl rfl)
theorem dX2_fault_58 : decode cX2_fault 58 = .ok (.if_icmp .ge 70, 3) := dk_162 0 70 (dk_at dksX2_fault_2 12 rfl rfl)
theorem dX2_fault_61 : decode cX2_fault 61 = .ok (.aload_n 0, 1) := dk_42 (dk_at dksX2_fault_2 15 rfl rfl)
theorem dX2_fault_62 : decode cX2_fault 62 = .ok (.getfield 82, 3) := dk_180 0 82 (dk_at dksX2_fault_2 16 rfl rfl)
theorem dX2_fault_65 : decode cX2_fault 65 = .ok (.aload_n 0, 1) := dk_42 (dk_at dksX2_fault_2 19 rfl rfl)
theorem dX2_fault_66 : decode cX2_fault 66 = .ok (.getfield 75, 3) := dk_180 0 75 (dk_at dksX2_fault_2 20 rfl rfl)
theorem dX2_fault_69 : decode cX2_fault 69 = .ok (.isub, 1) := dk_100 (dk_at dksX2_fault_2 23 rfl rfl)
theorem dX2_fault_70 : decode cX2_fault 70 = .ok (.iconst 1, 1) := dk_4 (dk_at dksX2_fault_3 0 rfl rfl)
theorem dX2_fault_71 : decode cX2_fault 71 = .ok (.if_icmp .ne 30, 3) := dk_160 0 30 (dk_at dksX2_fault_3 1 rfl rfl)
theorem dX2_fault_74 : decode cX2_fault 74 = .ok (.aload_n 0, 1) := dk_42 (dk_at dksX2_fault_3 4 rfl rfl)
theorem dX2_fault_75 : decode cX2_fault 75 = .ok (.getfield 17, 3) := dk_180 0 17 (dk_at dksX2_fault_3 5 rfl rfl)
theorem dX2_fault_78 : decode cX2_fault 78 = .ok (.aload_n 0, 1) := dk_42 (dk_at dksX2_fault_3 8 rfl rfl)
theorem dX2_fault_79 : decode cX2_fault 79 = .ok (.getfield 75, 3) := dk_180 0 75 (dk_at dksX2_fault_3 9 rfl rfl)
theorem dX2_fault_82 : decode cX2_fault 82 = .ok (.iaload, 1) := dk_46 (dk_at dksX2_fault_3 12 rfl rfl)
theorem dX2_fault_83 : decode cX2_fault 83 = .ok (.bipush 59, 2) := dk_16 59 (dk_at dksX2_fault_3 13 rfl rfl)
theorem dX2_fault_85 : decode cX2_fault 85 = .ok (.if_icmp .ne 16, 3) := dk_160 0 16 (dk_at dksX2_fault_3 15 rfl rfl)
theorem dX2_fault_88 : decode cX2_fault 88 = .ok (.aload_n 0, 1) := dk_42 (dk_at dksX2_fault_3 18 rfl rfl)
theorem dX2_fault_89 : decode cX2_fault 89 = .ok (.getfield 112, 3) := dk_180 0 112 (dk_at dksX2_fault_3 19 rfl rfl)
theorem dX2_fault_92 : decode cX2_fault 92 = .ok (.bipush 14, 2) := dk_16 14 (dk_at dksX2_fault_3 22 rfl rfl)
theorem dX2_fault_94 : decode cX2_fault 94 = .ok (.if_icmp .ge 7, 3) := dk_162 0 7 (dk_at dksX2_fault_4 0 rfl rfl)
theorem dX2_fault_97 : decode cX2_fault 97 = .ok (.iconst 1, 1) := dk_4 (dk_at dksX2_fault_4 3 rfl rfl)
theorem dX2_fault_98 : decode cX2_fault 98 = .ok (.goto 4, 3) := dk_167 0 4 (dk_at dksX2_fault_4 4 rfl rfl)
theorem dX2_fault_101 : decode cX2_fault 101 = .ok (.iconst 0, 1) := dk_3 (dk_at dksX2_fault_4 7 rfl rfl)
theorem dX2_fault_102 : decode cX2_fault 102 = .ok (.istore_n 1, 1) := dk_60 (dk_at dksX2_fault_4 8 rfl rfl)
theorem dX2_fault_103 : decode cX2_fault 103 = .ok (.iload_n 1, 1) := dk_27 (dk_at dksX2_fault_4 9 rfl rfl)
theorem dX2_fault_104 : decode cX2_fault 104 = .ok (.ifCond .eq 12, 3) := dk_153 0 12 (dk_at dksX2_fault_4 10 rfl rfl)
theorem dX2_fault_107 : decode cX2_fault 107 = .ok (.aload_n 0, 1) := dk_42 (dk_at dksX2_fault_4 13 rfl rfl)
theorem dX2_fault_108 : decode cX2_fault 108 = .ok (.invokevirtual 115, 3) := dk_182 0 115 (dk_at dksX2_fault_4 14 rfl rfl)
theorem dX2_fault_111 : decode cX2_fault 111 = .ok (.aload_n 0, 1) := dk_42 (dk_at dksX2_fault_4 17 rfl rfl)
theorem dX2_fault_112 : decode cX2_fault 112 = .ok (.invokevirtual 158, 3) := dk_182 0 158 (dk_at dksX2_fault_4 18 rfl rfl)
theorem dX2_fault_115 : decode cX2_fault 115 = .ok (.istore_n 1, 1) := dk_60 (dk_at dksX2_fault_4 21 rfl rfl)
theorem dX2_fault_116 : decode cX2_fault 116 = .ok (.iload_n 1, 1) := dk_27 (dk_at dksX2_fault_4 22 rfl rfl)
theorem dX2_fault_117 : decode cX2_fault 117 = .ok (.ifCond .ne 8, 3) := dk_154 0 8 (dk_at dksX2_fault_5 0 rfl rfl)
theorem dX2_fault_120 : decode cX2_fault 120 = .ok (.aload_n 0, 1) := dk_42 (dk_at dksX2_fault_5 3 rfl rfl)
theorem dX2_fault_121 : decode cX2_fault 121 = .ok (.getfield 75, 3) := dk_180 0 75 (dk_at dksX2_fault_5 4 rfl rfl)
theorem dX2_fault_124 : decode cX2_fault 124 = .ok (.ireturn, 1) := dk_172 (dk_at dksX2_fault_5 7 rfl rfl)
theorem dX2_fault_125 : decode cX2_fault 125 = .ok (.goto (-75), 3) := dk_167 255 181 (dk_at dksX2_fault_5 8 rfl rfl)
theorem dX2_fault_128 : decode cX2_fault 128 = .ok (.iconst (-1), 1) := dk_2 (dk_at dksX2_fault_5 11 rfl rfl)
theorem dX2_fault_129 : decode cX2_fault 129 = .ok (.ireturn, 1) := dk_172 (dk_at dksX2_fault_5 12 rfl rfl)
abbrev cX2_token : ByteArray := prog_19_method_8_code
def yX2_token : MethodName := ⟨RX2, "token", "()V"⟩
def dkwX2_token_6 : List UInt8 := [42, 180, 0, 72, 181, 0, 82, 177]
abbrev dktX2_token_6 : List UInt8 := dkwX2_token_6 ++ []
def dkwX2_token_5 : List UInt8 := [180, 0, 75, 46, 184, 0, 78, 160, 0, 16, 42, 89, 180, 0, 72, 4, 96, 181, 0, 72, 167, 255, 193, 42]
abbrev dktX2_token_5 : List UInt8 := dkwX2_token_5 ++ dktX2_token_6
def dkwX2_token_4 : List UInt8 := [184, 0, 78, 158, 0, 43, 42, 180, 0, 17, 42, 180, 0, 72, 46, 184, 0, 78, 42, 180, 0, 17, 42]
abbrev dktX2_token_4 : List UInt8 := dkwX2_token_4 ++ dktX2_token_5
def dkwX2_token_3 : List UInt8 := [181, 0, 72, 42, 180, 0, 72, 42, 180, 0, 69, 162, 0, 58, 42, 180, 0, 17, 42, 180, 0, 75, 46]
abbrev dktX2_token_3 : List UInt8 := dkwX2_token_3 ++ dktX2_token_4
def dkwX2_token_2 : List UInt8 := [42, 89, 180, 0, 72, 42, 180, 0, 72, 42, 180, 0, 69, 162, 0, 7, 4, 167, 0, 4, 3, 96]
abbrev dktX2_token_2 : List UInt8 := dkwX2_token_2 ++ dktX2_token_3
def dkwX2_token_1 : List UInt8 := [160, 0, 16, 42, 89, 180, 0, 72, 4, 96, 181, 0, 72, 167, 255, 221, 42, 42, 180, 0, 72, 181, 0, 75]
abbrev dktX2_token_1 : List UInt8 := dkwX2_token_1 ++ dktX2_token_2
def dkwX2_token_0 : List UInt8 := [42, 180, 0, 72, 42, 180, 0, 69, 162, 0, 30, 42, 180, 0, 17, 42, 180, 0, 72, 46, 16, 32]
abbrev dktX2_token_0 : List UInt8 := dkwX2_token_0 ++ dktX2_token_1
theorem dksX2_token_0 : cX2_token.data.toList.drop 0 = dktX2_token_0 := by decide +kernel
theorem dksX2_token_1 : cX2_token.data.toList.drop 22 = dktX2_token_1 := dk_seg dksX2_token_0 22 rfl rfl
theorem dksX2_token_2 : cX2_token.data.toList.drop 46 = dktX2_token_2 := dk_seg dksX2_token_1 24 rfl rfl
theorem dksX2_token_3 : cX2_token.data.toList.drop 68 = dktX2_token_3 := dk_seg dksX2_token_2 22 rfl rfl
theorem dksX2_token_4 : cX2_token.data.toList.drop 91 = dktX2_token_4 := dk_seg dksX2_token_3 23 rfl rfl
theorem dksX2_token_5 : cX2_token.data.toList.drop 114 = dktX2_token_5 := dk_seg dksX2_token_4 23 rfl rfl
theorem dksX2_token_6 : cX2_token.data.toList.drop 138 = dktX2_token_6 := dk_seg dksX2_token_5 24 rfl rfl
theorem dX2_token_0 : decode cX2_token 0 = .ok (.aload_n 0, 1) := dk_42 (dk_at dksX2_token_0 0 rfl rfl)
theorem dX2_token_1 : decode cX2_token 1 = .ok (.getfield 72, 3) := dk_180 0 72 (dk_at dksX2_token_0 1 rfl rfl)
theorem dX2_token_4 : decode cX2_token 4 = .ok (.aload_n 0, 1) := dk_42 (dk_at dksX2_token_0 4 rfl rfl)
theorem dX2_token_5 : decode cX2_token 5 = .ok (.getfield 69, 3) := dk_180 0 69 (dk_at dksX2_token_0 5 rfl rfl)
theorem dX2_token_8 : decode cX2_token 8 = .ok (.if_icmp .ge 30, 3) := dk_162 0 30 (dk_at dksX2_token_0 8 rfl rfl)
theorem dX2_token_11 : decode cX2_token 11 = .ok (.aload_n 0, 1) := dk_42 (dk_at dksX2_token_0 11 rfl rfl)
theorem dX2_token_12 : decode cX2_token 12 = .ok (.getfield 17, 3) := dk_180 0 17 (dk_at dksX2_token_0 12 rfl rfl)
theorem dX2_token_15 : decode cX2_token 15 = .ok (.aload_n 0, 1) := dk_42 (dk_at dksX2_token_0 15 rfl rfl)
theorem dX2_token_16 : decode cX2_token 16 = .ok (.getfield 72, 3) := dk_180 0 72 (dk_at dksX2_token_0 16 rfl rfl)
theorem dX2_token_19 : decode cX2_token 19 = .ok (.iaload, 1) := dk_46 (dk_at dksX2_token_0 19 rfl rfl)
theorem dX2_token_20 : decode cX2_token 20 = .ok (.bipush 32, 2) := dk_16 32 (dk_at dksX2_token_0 20 rfl rfl)
theorem dX2_token_22 : decode cX2_token 22 = .ok (.if_icmp .ne 16, 3) := dk_160 0 16 (dk_at dksX2_token_1 0 rfl rfl)
theorem dX2_token_25 : decode cX2_token 25 = .ok (.aload_n 0, 1) := dk_42 (dk_at dksX2_token_1 3 rfl rfl)
theorem dX2_token_26 : decode cX2_token 26 = .ok (.dup, 1) := dk_89 (dk_at dksX2_token_1 4 rfl rfl)
theorem dX2_token_27 : decode cX2_token 27 = .ok (.getfield 72, 3) := dk_180 0 72 (dk_at dksX2_token_1 5 rfl rfl)
theorem dX2_token_30 : decode cX2_token 30 = .ok (.iconst 1, 1) := dk_4 (dk_at dksX2_token_1 8 rfl rfl)
theorem dX2_token_31 : decode cX2_token 31 = .ok (.iadd, 1) := dk_96 (dk_at dksX2_token_1 9 rfl rfl)
theorem dX2_token_32 : decode cX2_token 32 = .ok (.putfield 72, 3) := dk_181 0 72 (dk_at dksX2_token_1 10 rfl rfl)
theorem dX2_token_35 : decode cX2_token 35 = .ok (.goto (-35), 3) := dk_167 255 221 (dk_at dksX2_token_1 13 rfl rfl)
theorem dX2_token_38 : decode cX2_token 38 = .ok (.aload_n 0, 1) := dk_42 (dk_at dksX2_token_1 16 rfl rfl)
theorem dX2_token_39 : decode cX2_token 39 = .ok (.aload_n 0, 1) := dk_42 (dk_at dksX2_token_1 17 rfl rfl)
theorem dX2_token_40 : decode cX2_token 40 = .ok (.getfield 72, 3) := dk_180 0 72 (dk_at dksX2_token_1 18 rfl rfl)
theorem dX2_token_43 : decode cX2_token 43 = .ok (.putfield 75, 3) := dk_181 0 75 (dk_at dksX2_token_1 21 rfl rfl)
theorem dX2_token_46 : decode cX2_token 46 = .ok (.aload_n 0, 1) := dk_42 (dk_at dksX2_token_2 0 rfl rfl)
theorem dX2_token_47 : decode cX2_token 47 = .ok (.dup, 1) := dk_89 (dk_at dksX2_token_2 1 rfl rfl)
theorem dX2_token_48 : decode cX2_token 48 = .ok (.getfield 72, 3) := dk_180 0 72 (dk_at dksX2_token_2 2 rfl rfl)
theorem dX2_token_51 : decode cX2_token 51 = .ok (.aload_n 0, 1) := dk_42 (dk_at dksX2_token_2 5 rfl rfl)
theorem dX2_token_52 : decode cX2_token 52 = .ok (.getfield 72, 3) := dk_180 0 72 (dk_at dksX2_token_2 6 rfl rfl)
theorem dX2_token_55 : decode cX2_token 55 = .ok (.aload_n 0, 1) := dk_42 (dk_at dksX2_token_2 9 rfl rfl)
theorem dX2_token_56 : decode cX2_token 56 = .ok (.getfield 69, 3) := dk_180 0 69 (dk_at dksX2_token_2 10 rfl rfl)
theorem dX2_token_59 : decode cX2_token 59 = .ok (.if_icmp .ge 7, 3) := dk_162 0 7 (dk_at dksX2_token_2 13 rfl rfl)
theorem dX2_token_62 : decode cX2_token 62 = .ok (.iconst 1, 1) := dk_4 (dk_at dksX2_token_2 16 rfl rfl)
theorem dX2_token_63 : decode cX2_token 63 = .ok (.goto 4, 3) := dk_167 0 4 (dk_at dksX2_token_2 17 rfl rfl)
theorem dX2_token_66 : decode cX2_token 66 = .ok (.iconst 0, 1) := dk_3 (dk_at dksX2_token_2 20 rfl rfl)
theorem dX2_token_67 : decode cX2_token 67 = .ok (.iadd, 1) := dk_96 (dk_at dksX2_token_2 21 rfl rfl)
theorem dX2_token_68 : decode cX2_token 68 = .ok (.putfield 72, 3) := dk_181 0 72 (dk_at dksX2_token_3 0 rfl rfl)
theorem dX2_token_71 : decode cX2_token 71 = .ok (.aload_n 0, 1) := dk_42 (dk_at dksX2_token_3 3 rfl rfl)
theorem dX2_token_72 : decode cX2_token 72 = .ok (.getfield 72, 3) := dk_180 0 72 (dk_at dksX2_token_3 4 rfl rfl)
theorem dX2_token_75 : decode cX2_token 75 = .ok (.aload_n 0, 1) := dk_42 (dk_at dksX2_token_3 7 rfl rfl)
theorem dX2_token_76 : decode cX2_token 76 = .ok (.getfield 69, 3) := dk_180 0 69 (dk_at dksX2_token_3 8 rfl rfl)
theorem dX2_token_79 : decode cX2_token 79 = .ok (.if_icmp .ge 58, 3) := dk_162 0 58 (dk_at dksX2_token_3 11 rfl rfl)
theorem dX2_token_82 : decode cX2_token 82 = .ok (.aload_n 0, 1) := dk_42 (dk_at dksX2_token_3 14 rfl rfl)
theorem dX2_token_83 : decode cX2_token 83 = .ok (.getfield 17, 3) := dk_180 0 17 (dk_at dksX2_token_3 15 rfl rfl)
theorem dX2_token_86 : decode cX2_token 86 = .ok (.aload_n 0, 1) := dk_42 (dk_at dksX2_token_3 18 rfl rfl)
theorem dX2_token_87 : decode cX2_token 87 = .ok (.getfield 75, 3) := dk_180 0 75 (dk_at dksX2_token_3 19 rfl rfl)
theorem dX2_token_90 : decode cX2_token 90 = .ok (.iaload, 1) := dk_46 (dk_at dksX2_token_3 22 rfl rfl)
theorem dX2_token_91 : decode cX2_token 91 = .ok (.invokestatic 78, 3) := dk_184 0 78 (dk_at dksX2_token_4 0 rfl rfl)
theorem dX2_token_94 : decode cX2_token 94 = .ok (.ifCond .le 43, 3) := dk_158 0 43 (dk_at dksX2_token_4 3 rfl rfl)
theorem dX2_token_97 : decode cX2_token 97 = .ok (.aload_n 0, 1) := dk_42 (dk_at dksX2_token_4 6 rfl rfl)
theorem dX2_token_98 : decode cX2_token 98 = .ok (.getfield 17, 3) := dk_180 0 17 (dk_at dksX2_token_4 7 rfl rfl)
theorem dX2_token_101 : decode cX2_token 101 = .ok (.aload_n 0, 1) := dk_42 (dk_at dksX2_token_4 10 rfl rfl)
theorem dX2_token_102 : decode cX2_token 102 = .ok (.getfield 72, 3) := dk_180 0 72 (dk_at dksX2_token_4 11 rfl rfl)
theorem dX2_token_105 : decode cX2_token 105 = .ok (.iaload, 1) := dk_46 (dk_at dksX2_token_4 14 rfl rfl)
theorem dX2_token_106 : decode cX2_token 106 = .ok (.invokestatic 78, 3) := dk_184 0 78 (dk_at dksX2_token_4 15 rfl rfl)
theorem dX2_token_109 : decode cX2_token 109 = .ok (.aload_n 0, 1) := dk_42 (dk_at dksX2_token_4 18 rfl rfl)
theorem dX2_token_110 : decode cX2_token 110 = .ok (.getfield 17, 3) := dk_180 0 17 (dk_at dksX2_token_4 19 rfl rfl)
theorem dX2_token_113 : decode cX2_token 113 = .ok (.aload_n 0, 1) := dk_42 (dk_at dksX2_token_4 22 rfl rfl)
theorem dX2_token_114 : decode cX2_token 114 = .ok (.getfield 75, 3) := dk_180 0 75 (dk_at dksX2_token_5 0 rfl rfl)
theorem dX2_token_117 : decode cX2_token 117 = .ok (.iaload, 1) := dk_46 (dk_at dksX2_token_5 3 rfl rfl)
theorem dX2_token_118 : decode cX2_token 118 = .ok (.invokestatic 78, 3) := dk_184 0 78 (dk_at dksX2_token_5 4 rfl rfl)
theorem dX2_token_121 : decode cX2_token 121 = .ok (.if_icmp .ne 16, 3) := dk_160 0 16 (dk_at dksX2_token_5 7 rfl rfl)
theorem dX2_token_124 : decode cX2_token 124 = .ok (.aload_n 0, 1) := dk_42 (dk_at dksX2_token_5 10 rfl rfl)
theorem dX2_token_125 : decode cX2_token 125 = .ok (.dup, 1) := dk_89 (dk_at dksX2_token_5 11 rfl rfl)
theorem dX2_token_126 : decode cX2_token 126 = .ok (.getfield 72, 3) := dk_180 0 72 (dk_at dksX2_token_5 12 rfl rfl)
theorem dX2_token_129 : decode cX2_token 129 = .ok (.iconst 1, 1) := dk_4 (dk_at dksX2_token_5 15 rfl rfl)
theorem dX2_token_130 : decode cX2_token 130 = .ok (.iadd, 1) := dk_96 (dk_at dksX2_token_5 16 rfl rfl)
theorem dX2_token_131 : decode cX2_token 131 = .ok (.putfield 72, 3) := dk_181 0 72 (dk_at dksX2_token_5 17 rfl rfl)
theorem dX2_token_134 : decode cX2_token 134 = .ok (.goto (-63), 3) := dk_167 255 193 (dk_at dksX2_token_5 20 rfl rfl)
theorem dX2_token_137 : decode cX2_token 137 = .ok (.aload_n 0, 1) := dk_42 (dk_at dksX2_token_5 23 rfl rfl)
theorem dX2_token_138 : decode cX2_token 138 = .ok (.aload_n 0, 1) := dk_42 (dk_at dksX2_token_6 0 rfl rfl)
theorem dX2_token_139 : decode cX2_token 139 = .ok (.getfield 72, 3) := dk_180 0 72 (dk_at dksX2_token_6 1 rfl rfl)
theorem dX2_token_142 : decode cX2_token 142 = .ok (.putfield 82, 3) := dk_181 0 82 (dk_at dksX2_token_6 4 rfl rfl)
theorem dX2_token_145 : decode cX2_token 145 = .ok (.return_, 1) := dk_177 (dk_at dksX2_token_6 7 rfl rfl)
abbrev cX2_sort : ByteArray := prog_19_method_7_code
def yX2_sort : MethodName := ⟨RX2, "sort", "(I)I"⟩
def dkwX2_sort_1 : List UInt8 := [16, 57, 163, 0, 7, 5, 167, 0, 4, 3, 172]
abbrev dktX2_sort_1 : List UInt8 := dkwX2_sort_1 ++ []
def dkwX2_sort_0 : List UInt8 := [26, 16, 97, 161, 0, 13, 26, 16, 122, 163, 0, 7, 4, 167, 0, 20, 26, 16, 48, 161, 0, 13, 26]
abbrev dktX2_sort_0 : List UInt8 := dkwX2_sort_0 ++ dktX2_sort_1
theorem dksX2_sort_0 : cX2_sort.data.toList.drop 0 = dktX2_sort_0 := by decide +kernel
theorem dksX2_sort_1 : cX2_sort.data.toList.drop 23 = dktX2_sort_1 := dk_seg dksX2_sort_0 23 rfl rfl
theorem dX2_sort_0 : decode cX2_sort 0 = .ok (.iload_n 0, 1) := dk_26 (dk_at dksX2_sort_0 0 rfl rfl)
theorem dX2_sort_1 : decode cX2_sort 1 = .ok (.bipush 97, 2) := dk_16 97 (dk_at dksX2_sort_0 1 rfl rfl)
theorem dX2_sort_3 : decode cX2_sort 3 = .ok (.if_icmp .lt 13, 3) := dk_161 0 13 (dk_at dksX2_sort_0 3 rfl rfl)
theorem dX2_sort_6 : decode cX2_sort 6 = .ok (.iload_n 0, 1) := dk_26 (dk_at dksX2_sort_0 6 rfl rfl)
theorem dX2_sort_7 : decode cX2_sort 7 = .ok (.bipush 122, 2) := dk_16 122 (dk_at dksX2_sort_0 7 rfl rfl)
theorem dX2_sort_9 : decode cX2_sort 9 = .ok (.if_icmp .gt 7, 3) := dk_163 0 7 (dk_at dksX2_sort_0 9 rfl rfl)
theorem dX2_sort_12 : decode cX2_sort 12 = .ok (.iconst 1, 1) := dk_4 (dk_at dksX2_sort_0 12 rfl rfl)
theorem dX2_sort_13 : decode cX2_sort 13 = .ok (.goto 20, 3) := dk_167 0 20 (dk_at dksX2_sort_0 13 rfl rfl)
theorem dX2_sort_16 : decode cX2_sort 16 = .ok (.iload_n 0, 1) := dk_26 (dk_at dksX2_sort_0 16 rfl rfl)
theorem dX2_sort_17 : decode cX2_sort 17 = .ok (.bipush 48, 2) := dk_16 48 (dk_at dksX2_sort_0 17 rfl rfl)
theorem dX2_sort_19 : decode cX2_sort 19 = .ok (.if_icmp .lt 13, 3) := dk_161 0 13 (dk_at dksX2_sort_0 19 rfl rfl)
theorem dX2_sort_22 : decode cX2_sort 22 = .ok (.iload_n 0, 1) := dk_26 (dk_at dksX2_sort_0 22 rfl rfl)
theorem dX2_sort_23 : decode cX2_sort 23 = .ok (.bipush 57, 2) := dk_16 57 (dk_at dksX2_sort_1 0 rfl rfl)
theorem dX2_sort_25 : decode cX2_sort 25 = .ok (.if_icmp .gt 7, 3) := dk_163 0 7 (dk_at dksX2_sort_1 2 rfl rfl)
theorem dX2_sort_28 : decode cX2_sort 28 = .ok (.iconst 2, 1) := dk_5 (dk_at dksX2_sort_1 5 rfl rfl)
theorem dX2_sort_29 : decode cX2_sort 29 = .ok (.goto 4, 3) := dk_167 0 4 (dk_at dksX2_sort_1 6 rfl rfl)
theorem dX2_sort_32 : decode cX2_sort 32 = .ok (.iconst 0, 1) := dk_3 (dk_at dksX2_sort_1 9 rfl rfl)
theorem dX2_sort_33 : decode cX2_sort 33 = .ok (.ireturn, 1) := dk_172 (dk_at dksX2_sort_1 10 rfl rfl)
abbrev cX2_readsClause : ByteArray := prog_19_method_17_code
def yX2_readsClause : MethodName := ⟨RX2, "readsClause", "()Z"⟩
def dkwX2_readsClause_8 : List UInt8 := [181, 0, 112, 4, 172]
abbrev dktX2_readsClause_8 : List UInt8 := dkwX2_readsClause_8 ++ []
def dkwX2_readsClause_7 : List UInt8 := [180, 0, 143, 4, 96, 167, 0, 7, 42, 180, 0, 143, 181, 0, 143, 42, 89, 180, 0, 112, 4, 96]
abbrev dktX2_readsClause_7 : List UInt8 := dkwX2_readsClause_7 ++ dktX2_readsClause_8
def dkwX2_readsClause_6 : List UInt8 := [180, 0, 140, 181, 0, 140, 42, 27, 154, 0, 7, 3, 167, 0, 22, 27, 16, 6, 160, 0, 12, 42]
abbrev dktX2_readsClause_6 : List UInt8 := dkwX2_readsClause_6 ++ dktX2_readsClause_7
def dkwX2_readsClause_5 : List UInt8 := [154, 0, 7, 3, 167, 0, 23, 27, 184, 0, 131, 153, 0, 12, 42, 180, 0, 140, 4, 96, 167, 0, 7, 42]
abbrev dktX2_readsClause_5 : List UInt8 := dkwX2_readsClause_5 ++ dktX2_readsClause_6
def dkwX2_readsClause_4 : List UInt8 := [184, 0, 124, 153, 0, 12, 42, 180, 0, 134, 4, 96, 167, 0, 7, 42, 180, 0, 134, 181, 0, 134, 42, 27]
abbrev dktX2_readsClause_4 : List UInt8 := dkwX2_readsClause_4 ++ dktX2_readsClause_5
def dkwX2_readsClause_3 : List UInt8 := [104, 27, 79, 42, 27, 182, 0, 146, 154, 0, 5, 3, 172, 42, 27, 154, 0, 7, 3, 167, 0, 23, 27]
abbrev dktX2_readsClause_3 : List UInt8 := dkwX2_readsClause_3 ++ dktX2_readsClause_4
def dkwX2_readsClause_2 : List UInt8 := [42, 180, 0, 143, 16, 6, 160, 0, 5, 3, 172, 42, 182, 0, 115, 42, 180, 0, 20, 7, 42, 180, 0, 112]
abbrev dktX2_readsClause_2 : List UInt8 := dkwX2_readsClause_2 ++ dktX2_readsClause_3
def dkwX2_readsClause_1 : List UInt8 := [159, 0, 33, 27, 184, 0, 131, 153, 0, 11, 42, 180, 0, 140, 7, 159, 0, 18, 27, 16, 6, 160, 0, 14]
abbrev dktX2_readsClause_1 : List UInt8 := dkwX2_readsClause_1 ++ dktX2_readsClause_2
def dkwX2_readsClause_0 : List UInt8 := [42, 182, 0, 137, 60, 27, 2, 159, 0, 49, 27, 184, 0, 124, 153, 0, 12, 42, 180, 0, 134, 16, 10]
abbrev dktX2_readsClause_0 : List UInt8 := dkwX2_readsClause_0 ++ dktX2_readsClause_1
theorem dksX2_readsClause_0 : cX2_readsClause.data.toList.drop 0 = dktX2_readsClause_0 := by decide +kernel
theorem dksX2_readsClause_1 : cX2_readsClause.data.toList.drop 23 = dktX2_readsClause_1 := dk_seg dksX2_readsClause_0 23 rfl rfl
theorem dksX2_readsClause_2 : cX2_readsClause.data.toList.drop 47 = dktX2_readsClause_2 := dk_seg dksX2_readsClause_1 24 rfl rfl
theorem dksX2_readsClause_3 : cX2_readsClause.data.toList.drop 71 = dktX2_readsClause_3 := dk_seg dksX2_readsClause_2 24 rfl rfl
theorem dksX2_readsClause_4 : cX2_readsClause.data.toList.drop 94 = dktX2_readsClause_4 := dk_seg dksX2_readsClause_3 23 rfl rfl
theorem dksX2_readsClause_5 : cX2_readsClause.data.toList.drop 118 = dktX2_readsClause_5 := dk_seg dksX2_readsClause_4 24 rfl rfl
theorem dksX2_readsClause_6 : cX2_readsClause.data.toList.drop 142 = dktX2_readsClause_6 := dk_seg dksX2_readsClause_5 24 rfl rfl
theorem dksX2_readsClause_7 : cX2_readsClause.data.toList.drop 164 = dktX2_readsClause_7 := dk_seg dksX2_readsClause_6 22 rfl rfl
theorem dksX2_readsClause_8 : cX2_readsClause.data.toList.drop 186 = dktX2_readsClause_8 := dk_seg dksX2_readsClause_7 22 rfl rfl
theorem dX2_readsClause_0 : decode cX2_readsClause 0 = .ok (.aload_n 0, 1) := dk_42 (dk_at dksX2_readsClause_0 0 rfl rfl)
theorem dX2_readsClause_1 : decode cX2_readsClause 1 = .ok (.invokevirtual 137, 3) := dk_182 0 137 (dk_at dksX2_readsClause_0 1 rfl rfl)
theorem dX2_readsClause_4 : decode cX2_readsClause 4 = .ok (.istore_n 1, 1) := dk_60 (dk_at dksX2_readsClause_0 4 rfl rfl)
theorem dX2_readsClause_5 : decode cX2_readsClause 5 = .ok (.iload_n 1, 1) := dk_27 (dk_at dksX2_readsClause_0 5 rfl rfl)
theorem dX2_readsClause_6 : decode cX2_readsClause 6 = .ok (.iconst (-1), 1) := dk_2 (dk_at dksX2_readsClause_0 6 rfl rfl)
theorem dX2_readsClause_7 : decode cX2_readsClause 7 = .ok (.if_icmp .eq 49, 3) := dk_159 0 49 (dk_at dksX2_readsClause_0 7 rfl rfl)
theorem dX2_readsClause_10 : decode cX2_readsClause 10 = .ok (.iload_n 1, 1) := dk_27 (dk_at dksX2_readsClause_0 10 rfl rfl)
theorem dX2_readsClause_11 : decode cX2_readsClause 11 = .ok (.invokestatic 124, 3) := dk_184 0 124 (dk_at dksX2_readsClause_0 11 rfl rfl)
theorem dX2_readsClause_14 : decode cX2_readsClause 14 = .ok (.ifCond .eq 12, 3) := dk_153 0 12 (dk_at dksX2_readsClause_0 14 rfl rfl)
theorem dX2_readsClause_17 : decode cX2_readsClause 17 = .ok (.aload_n 0, 1) := dk_42 (dk_at dksX2_readsClause_0 17 rfl rfl)
theorem dX2_readsClause_18 : decode cX2_readsClause 18 = .ok (.getfield 134, 3) := dk_180 0 134 (dk_at dksX2_readsClause_0 18 rfl rfl)
theorem dX2_readsClause_21 : decode cX2_readsClause 21 = .ok (.bipush 10, 2) := dk_16 10 (dk_at dksX2_readsClause_0 21 rfl rfl)
theorem dX2_readsClause_23 : decode cX2_readsClause 23 = .ok (.if_icmp .eq 33, 3) := dk_159 0 33 (dk_at dksX2_readsClause_1 0 rfl rfl)
theorem dX2_readsClause_26 : decode cX2_readsClause 26 = .ok (.iload_n 1, 1) := dk_27 (dk_at dksX2_readsClause_1 3 rfl rfl)
theorem dX2_readsClause_27 : decode cX2_readsClause 27 = .ok (.invokestatic 131, 3) := dk_184 0 131 (dk_at dksX2_readsClause_1 4 rfl rfl)
theorem dX2_readsClause_30 : decode cX2_readsClause 30 = .ok (.ifCond .eq 11, 3) := dk_153 0 11 (dk_at dksX2_readsClause_1 7 rfl rfl)
theorem dX2_readsClause_33 : decode cX2_readsClause 33 = .ok (.aload_n 0, 1) := dk_42 (dk_at dksX2_readsClause_1 10 rfl rfl)
theorem dX2_readsClause_34 : decode cX2_readsClause 34 = .ok (.getfield 140, 3) := dk_180 0 140 (dk_at dksX2_readsClause_1 11 rfl rfl)
theorem dX2_readsClause_37 : decode cX2_readsClause 37 = .ok (.iconst 4, 1) := dk_7 (dk_at dksX2_readsClause_1 14 rfl rfl)
theorem dX2_readsClause_38 : decode cX2_readsClause 38 = .ok (.if_icmp .eq 18, 3) := dk_159 0 18 (dk_at dksX2_readsClause_1 15 rfl rfl)
theorem dX2_readsClause_41 : decode cX2_readsClause 41 = .ok (.iload_n 1, 1) := dk_27 (dk_at dksX2_readsClause_1 18 rfl rfl)
theorem dX2_readsClause_42 : decode cX2_readsClause 42 = .ok (.bipush 6, 2) := dk_16 6 (dk_at dksX2_readsClause_1 19 rfl rfl)
theorem dX2_readsClause_44 : decode cX2_readsClause 44 = .ok (.if_icmp .ne 14, 3) := dk_160 0 14 (dk_at dksX2_readsClause_1 21 rfl rfl)
theorem dX2_readsClause_47 : decode cX2_readsClause 47 = .ok (.aload_n 0, 1) := dk_42 (dk_at dksX2_readsClause_2 0 rfl rfl)
theorem dX2_readsClause_48 : decode cX2_readsClause 48 = .ok (.getfield 143, 3) := dk_180 0 143 (dk_at dksX2_readsClause_2 1 rfl rfl)
theorem dX2_readsClause_51 : decode cX2_readsClause 51 = .ok (.bipush 6, 2) := dk_16 6 (dk_at dksX2_readsClause_2 4 rfl rfl)
theorem dX2_readsClause_53 : decode cX2_readsClause 53 = .ok (.if_icmp .ne 5, 3) := dk_160 0 5 (dk_at dksX2_readsClause_2 6 rfl rfl)
theorem dX2_readsClause_56 : decode cX2_readsClause 56 = .ok (.iconst 0, 1) := dk_3 (dk_at dksX2_readsClause_2 9 rfl rfl)
theorem dX2_readsClause_57 : decode cX2_readsClause 57 = .ok (.ireturn, 1) := dk_172 (dk_at dksX2_readsClause_2 10 rfl rfl)
theorem dX2_readsClause_58 : decode cX2_readsClause 58 = .ok (.aload_n 0, 1) := dk_42 (dk_at dksX2_readsClause_2 11 rfl rfl)
theorem dX2_readsClause_59 : decode cX2_readsClause 59 = .ok (.invokevirtual 115, 3) := dk_182 0 115 (dk_at dksX2_readsClause_2 12 rfl rfl)
theorem dX2_readsClause_62 : decode cX2_readsClause 62 = .ok (.aload_n 0, 1) := dk_42 (dk_at dksX2_readsClause_2 15 rfl rfl)
theorem dX2_readsClause_63 : decode cX2_readsClause 63 = .ok (.getfield 20, 3) := dk_180 0 20 (dk_at dksX2_readsClause_2 16 rfl rfl)
theorem dX2_readsClause_66 : decode cX2_readsClause 66 = .ok (.iconst 4, 1) := dk_7 (dk_at dksX2_readsClause_2 19 rfl rfl)
theorem dX2_readsClause_67 : decode cX2_readsClause 67 = .ok (.aload_n 0, 1) := dk_42 (dk_at dksX2_readsClause_2 20 rfl rfl)
theorem dX2_readsClause_68 : decode cX2_readsClause 68 = .ok (.getfield 112, 3) := dk_180 0 112 (dk_at dksX2_readsClause_2 21 rfl rfl)
theorem dX2_readsClause_71 : decode cX2_readsClause 71 = .ok (.imul, 1) := dk_104 (dk_at dksX2_readsClause_3 0 rfl rfl)
theorem dX2_readsClause_72 : decode cX2_readsClause 72 = .ok (.iload_n 1, 1) := dk_27 (dk_at dksX2_readsClause_3 1 rfl rfl)
theorem dX2_readsClause_73 : decode cX2_readsClause 73 = .ok (.iastore, 1) := dk_79 (dk_at dksX2_readsClause_3 2 rfl rfl)
theorem dX2_readsClause_74 : decode cX2_readsClause 74 = .ok (.aload_n 0, 1) := dk_42 (dk_at dksX2_readsClause_3 3 rfl rfl)
theorem dX2_readsClause_75 : decode cX2_readsClause 75 = .ok (.iload_n 1, 1) := dk_27 (dk_at dksX2_readsClause_3 4 rfl rfl)
theorem dX2_readsClause_76 : decode cX2_readsClause 76 = .ok (.invokevirtual 146, 3) := dk_182 0 146 (dk_at dksX2_readsClause_3 5 rfl rfl)
theorem dX2_readsClause_79 : decode cX2_readsClause 79 = .ok (.ifCond .ne 5, 3) := dk_154 0 5 (dk_at dksX2_readsClause_3 8 rfl rfl)
theorem dX2_readsClause_82 : decode cX2_readsClause 82 = .ok (.iconst 0, 1) := dk_3 (dk_at dksX2_readsClause_3 11 rfl rfl)
theorem dX2_readsClause_83 : decode cX2_readsClause 83 = .ok (.ireturn, 1) := dk_172 (dk_at dksX2_readsClause_3 12 rfl rfl)
theorem dX2_readsClause_84 : decode cX2_readsClause 84 = .ok (.aload_n 0, 1) := dk_42 (dk_at dksX2_readsClause_3 13 rfl rfl)
theorem dX2_readsClause_85 : decode cX2_readsClause 85 = .ok (.iload_n 1, 1) := dk_27 (dk_at dksX2_readsClause_3 14 rfl rfl)
theorem dX2_readsClause_86 : decode cX2_readsClause 86 = .ok (.ifCond .ne 7, 3) := dk_154 0 7 (dk_at dksX2_readsClause_3 15 rfl rfl)
theorem dX2_readsClause_89 : decode cX2_readsClause 89 = .ok (.iconst 0, 1) := dk_3 (dk_at dksX2_readsClause_3 18 rfl rfl)
theorem dX2_readsClause_90 : decode cX2_readsClause 90 = .ok (.goto 23, 3) := dk_167 0 23 (dk_at dksX2_readsClause_3 19 rfl rfl)
theorem dX2_readsClause_93 : decode cX2_readsClause 93 = .ok (.iload_n 1, 1) := dk_27 (dk_at dksX2_readsClause_3 22 rfl rfl)
theorem dX2_readsClause_94 : decode cX2_readsClause 94 = .ok (.invokestatic 124, 3) := dk_184 0 124 (dk_at dksX2_readsClause_4 0 rfl rfl)
theorem dX2_readsClause_97 : decode cX2_readsClause 97 = .ok (.ifCond .eq 12, 3) := dk_153 0 12 (dk_at dksX2_readsClause_4 3 rfl rfl)
theorem dX2_readsClause_100 : decode cX2_readsClause 100 = .ok (.aload_n 0, 1) := dk_42 (dk_at dksX2_readsClause_4 6 rfl rfl)
theorem dX2_readsClause_101 : decode cX2_readsClause 101 = .ok (.getfield 134, 3) := dk_180 0 134 (dk_at dksX2_readsClause_4 7 rfl rfl)
theorem dX2_readsClause_104 : decode cX2_readsClause 104 = .ok (.iconst 1, 1) := dk_4 (dk_at dksX2_readsClause_4 10 rfl rfl)
theorem dX2_readsClause_105 : decode cX2_readsClause 105 = .ok (.iadd, 1) := dk_96 (dk_at dksX2_readsClause_4 11 rfl rfl)
theorem dX2_readsClause_106 : decode cX2_readsClause 106 = .ok (.goto 7, 3) := dk_167 0 7 (dk_at dksX2_readsClause_4 12 rfl rfl)
theorem dX2_readsClause_109 : decode cX2_readsClause 109 = .ok (.aload_n 0, 1) := dk_42 (dk_at dksX2_readsClause_4 15 rfl rfl)
theorem dX2_readsClause_110 : decode cX2_readsClause 110 = .ok (.getfield 134, 3) := dk_180 0 134 (dk_at dksX2_readsClause_4 16 rfl rfl)
theorem dX2_readsClause_113 : decode cX2_readsClause 113 = .ok (.putfield 134, 3) := dk_181 0 134 (dk_at dksX2_readsClause_4 19 rfl rfl)
theorem dX2_readsClause_116 : decode cX2_readsClause 116 = .ok (.aload_n 0, 1) := dk_42 (dk_at dksX2_readsClause_4 22 rfl rfl)
theorem dX2_readsClause_117 : decode cX2_readsClause 117 = .ok (.iload_n 1, 1) := dk_27 (dk_at dksX2_readsClause_4 23 rfl rfl)
theorem dX2_readsClause_118 : decode cX2_readsClause 118 = .ok (.ifCond .ne 7, 3) := dk_154 0 7 (dk_at dksX2_readsClause_5 0 rfl rfl)
theorem dX2_readsClause_121 : decode cX2_readsClause 121 = .ok (.iconst 0, 1) := dk_3 (dk_at dksX2_readsClause_5 3 rfl rfl)
theorem dX2_readsClause_122 : decode cX2_readsClause 122 = .ok (.goto 23, 3) := dk_167 0 23 (dk_at dksX2_readsClause_5 4 rfl rfl)
theorem dX2_readsClause_125 : decode cX2_readsClause 125 = .ok (.iload_n 1, 1) := dk_27 (dk_at dksX2_readsClause_5 7 rfl rfl)
theorem dX2_readsClause_126 : decode cX2_readsClause 126 = .ok (.invokestatic 131, 3) := dk_184 0 131 (dk_at dksX2_readsClause_5 8 rfl rfl)
theorem dX2_readsClause_129 : decode cX2_readsClause 129 = .ok (.ifCond .eq 12, 3) := dk_153 0 12 (dk_at dksX2_readsClause_5 11 rfl rfl)
theorem dX2_readsClause_132 : decode cX2_readsClause 132 = .ok (.aload_n 0, 1) := dk_42 (dk_at dksX2_readsClause_5 14 rfl rfl)
theorem dX2_readsClause_133 : decode cX2_readsClause 133 = .ok (.getfield 140, 3) := dk_180 0 140 (dk_at dksX2_readsClause_5 15 rfl rfl)
theorem dX2_readsClause_136 : decode cX2_readsClause 136 = .ok (.iconst 1, 1) := dk_4 (dk_at dksX2_readsClause_5 18 rfl rfl)
theorem dX2_readsClause_137 : decode cX2_readsClause 137 = .ok (.iadd, 1) := dk_96 (dk_at dksX2_readsClause_5 19 rfl rfl)
theorem dX2_readsClause_138 : decode cX2_readsClause 138 = .ok (.goto 7, 3) := dk_167 0 7 (dk_at dksX2_readsClause_5 20 rfl rfl)
theorem dX2_readsClause_141 : decode cX2_readsClause 141 = .ok (.aload_n 0, 1) := dk_42 (dk_at dksX2_readsClause_5 23 rfl rfl)
theorem dX2_readsClause_142 : decode cX2_readsClause 142 = .ok (.getfield 140, 3) := dk_180 0 140 (dk_at dksX2_readsClause_6 0 rfl rfl)
theorem dX2_readsClause_145 : decode cX2_readsClause 145 = .ok (.putfield 140, 3) := dk_181 0 140 (dk_at dksX2_readsClause_6 3 rfl rfl)
theorem dX2_readsClause_148 : decode cX2_readsClause 148 = .ok (.aload_n 0, 1) := dk_42 (dk_at dksX2_readsClause_6 6 rfl rfl)
theorem dX2_readsClause_149 : decode cX2_readsClause 149 = .ok (.iload_n 1, 1) := dk_27 (dk_at dksX2_readsClause_6 7 rfl rfl)
theorem dX2_readsClause_150 : decode cX2_readsClause 150 = .ok (.ifCond .ne 7, 3) := dk_154 0 7 (dk_at dksX2_readsClause_6 8 rfl rfl)
theorem dX2_readsClause_153 : decode cX2_readsClause 153 = .ok (.iconst 0, 1) := dk_3 (dk_at dksX2_readsClause_6 11 rfl rfl)
theorem dX2_readsClause_154 : decode cX2_readsClause 154 = .ok (.goto 22, 3) := dk_167 0 22 (dk_at dksX2_readsClause_6 12 rfl rfl)
theorem dX2_readsClause_157 : decode cX2_readsClause 157 = .ok (.iload_n 1, 1) := dk_27 (dk_at dksX2_readsClause_6 15 rfl rfl)
theorem dX2_readsClause_158 : decode cX2_readsClause 158 = .ok (.bipush 6, 2) := dk_16 6 (dk_at dksX2_readsClause_6 16 rfl rfl)
theorem dX2_readsClause_160 : decode cX2_readsClause 160 = .ok (.if_icmp .ne 12, 3) := dk_160 0 12 (dk_at dksX2_readsClause_6 18 rfl rfl)
theorem dX2_readsClause_163 : decode cX2_readsClause 163 = .ok (.aload_n 0, 1) := dk_42 (dk_at dksX2_readsClause_6 21 rfl rfl)
theorem dX2_readsClause_164 : decode cX2_readsClause 164 = .ok (.getfield 143, 3) := dk_180 0 143 (dk_at dksX2_readsClause_7 0 rfl rfl)
theorem dX2_readsClause_167 : decode cX2_readsClause 167 = .ok (.iconst 1, 1) := dk_4 (dk_at dksX2_readsClause_7 3 rfl rfl)
theorem dX2_readsClause_168 : decode cX2_readsClause 168 = .ok (.iadd, 1) := dk_96 (dk_at dksX2_readsClause_7 4 rfl rfl)
theorem dX2_readsClause_169 : decode cX2_readsClause 169 = .ok (.goto 7, 3) := dk_167 0 7 (dk_at dksX2_readsClause_7 5 rfl rfl)
theorem dX2_readsClause_172 : decode cX2_readsClause 172 = .ok (.aload_n 0, 1) := dk_42 (dk_at dksX2_readsClause_7 8 rfl rfl)
theorem dX2_readsClause_173 : decode cX2_readsClause 173 = .ok (.getfield 143, 3) := dk_180 0 143 (dk_at dksX2_readsClause_7 9 rfl rfl)
theorem dX2_readsClause_176 : decode cX2_readsClause 176 = .ok (.putfield 143, 3) := dk_181 0 143 (dk_at dksX2_readsClause_7 12 rfl rfl)
theorem dX2_readsClause_179 : decode cX2_readsClause 179 = .ok (.aload_n 0, 1) := dk_42 (dk_at dksX2_readsClause_7 15 rfl rfl)
theorem dX2_readsClause_180 : decode cX2_readsClause 180 = .ok (.dup, 1) := dk_89 (dk_at dksX2_readsClause_7 16 rfl rfl)
theorem dX2_readsClause_181 : decode cX2_readsClause 181 = .ok (.getfield 112, 3) := dk_180 0 112 (dk_at dksX2_readsClause_7 17 rfl rfl)
theorem dX2_readsClause_184 : decode cX2_readsClause 184 = .ok (.iconst 1, 1) := dk_4 (dk_at dksX2_readsClause_7 20 rfl rfl)
theorem dX2_readsClause_185 : decode cX2_readsClause 185 = .ok (.iadd, 1) := dk_96 (dk_at dksX2_readsClause_7 21 rfl rfl)
theorem dX2_readsClause_186 : decode cX2_readsClause 186 = .ok (.putfield 112, 3) := dk_181 0 112 (dk_at dksX2_readsClause_8 0 rfl rfl)
theorem dX2_readsClause_189 : decode cX2_readsClause 189 = .ok (.iconst 1, 1) := dk_4 (dk_at dksX2_readsClause_8 3 rfl rfl)
theorem dX2_readsClause_190 : decode cX2_readsClause 190 = .ok (.ireturn, 1) := dk_172 (dk_at dksX2_readsClause_8 4 rfl rfl)
abbrev cX2_wordOf : ByteArray := prog_19_method_12_code
def yX2_wordOf : MethodName := ⟨RX2, "wordOf", "()I"⟩
def dkwX2_wordOf_6 : List UInt8 := [167, 0, 4, 2, 172]
abbrev dktX2_wordOf_6 : List UInt8 := dkwX2_wordOf_6 ++ []
def dkwX2_wordOf_5 : List UInt8 := [182, 0, 86, 153, 0, 8, 16, 14, 167, 0, 20, 42, 18, 111, 7, 3, 182, 0, 86, 153, 0, 8, 16, 15]
abbrev dktX2_wordOf_5 : List UInt8 := dkwX2_wordOf_5 ++ dktX2_wordOf_6
def dkwX2_wordOf_4 : List UInt8 := [167, 0, 52, 42, 18, 109, 8, 3, 182, 0, 86, 153, 0, 8, 16, 13, 167, 0, 36, 42, 18, 110, 8, 3]
abbrev dktX2_wordOf_4 : List UInt8 := dkwX2_wordOf_4 ++ dktX2_wordOf_5
def dkwX2_wordOf_3 : List UInt8 := [182, 0, 86, 153, 0, 8, 16, 11, 167, 0, 68, 42, 18, 108, 8, 3, 182, 0, 86, 153, 0, 8, 16, 12]
abbrev dktX2_wordOf_3 : List UInt8 := dkwX2_wordOf_3 ++ dktX2_wordOf_4
def dkwX2_wordOf_2 : List UInt8 := [18, 106, 16, 6, 3, 182, 0, 86, 153, 0, 8, 16, 6, 167, 0, 85, 42, 18, 107, 16, 6, 3]
abbrev dktX2_wordOf_2 : List UInt8 := dkwX2_wordOf_2 ++ dktX2_wordOf_3
def dkwX2_wordOf_1 : List UInt8 := [159, 0, 7, 27, 167, 0, 117, 42, 18, 105, 8, 3, 182, 0, 86, 153, 0, 7, 3, 167, 0, 102, 42]
abbrev dktX2_wordOf_1 : List UInt8 := dkwX2_wordOf_1 ++ dktX2_wordOf_2
def dkwX2_wordOf_0 : List UInt8 := [42, 182, 0, 98, 2, 159, 0, 10, 42, 182, 0, 98, 167, 0, 7, 42, 182, 0, 102, 60, 27, 2]
abbrev dktX2_wordOf_0 : List UInt8 := dkwX2_wordOf_0 ++ dktX2_wordOf_1
theorem dksX2_wordOf_0 : cX2_wordOf.data.toList.drop 0 = dktX2_wordOf_0 := by decide +kernel
theorem dksX2_wordOf_1 : cX2_wordOf.data.toList.drop 22 = dktX2_wordOf_1 := dk_seg dksX2_wordOf_0 22 rfl rfl
theorem dksX2_wordOf_2 : cX2_wordOf.data.toList.drop 45 = dktX2_wordOf_2 := dk_seg dksX2_wordOf_1 23 rfl rfl
theorem dksX2_wordOf_3 : cX2_wordOf.data.toList.drop 67 = dktX2_wordOf_3 := dk_seg dksX2_wordOf_2 22 rfl rfl
theorem dksX2_wordOf_4 : cX2_wordOf.data.toList.drop 91 = dktX2_wordOf_4 := dk_seg dksX2_wordOf_3 24 rfl rfl
theorem dksX2_wordOf_5 : cX2_wordOf.data.toList.drop 115 = dktX2_wordOf_5 := dk_seg dksX2_wordOf_4 24 rfl rfl
theorem dksX2_wordOf_6 : cX2_wordOf.data.toList.drop 139 = dktX2_wordOf_6 := dk_seg dksX2_wordOf_5 24 rfl rfl
theorem dX2_wordOf_0 : decode cX2_wordOf 0 = .ok (.aload_n 0, 1) := dk_42 (dk_at dksX2_wordOf_0 0 rfl rfl)
theorem dX2_wordOf_1 : decode cX2_wordOf 1 = .ok (.invokevirtual 98, 3) := dk_182 0 98 (dk_at dksX2_wordOf_0 1 rfl rfl)
theorem dX2_wordOf_4 : decode cX2_wordOf 4 = .ok (.iconst (-1), 1) := dk_2 (dk_at dksX2_wordOf_0 4 rfl rfl)
theorem dX2_wordOf_5 : decode cX2_wordOf 5 = .ok (.if_icmp .eq 10, 3) := dk_159 0 10 (dk_at dksX2_wordOf_0 5 rfl rfl)
theorem dX2_wordOf_8 : decode cX2_wordOf 8 = .ok (.aload_n 0, 1) := dk_42 (dk_at dksX2_wordOf_0 8 rfl rfl)
theorem dX2_wordOf_9 : decode cX2_wordOf 9 = .ok (.invokevirtual 98, 3) := dk_182 0 98 (dk_at dksX2_wordOf_0 9 rfl rfl)
theorem dX2_wordOf_12 : decode cX2_wordOf 12 = .ok (.goto 7, 3) := dk_167 0 7 (dk_at dksX2_wordOf_0 12 rfl rfl)
theorem dX2_wordOf_15 : decode cX2_wordOf 15 = .ok (.aload_n 0, 1) := dk_42 (dk_at dksX2_wordOf_0 15 rfl rfl)
theorem dX2_wordOf_16 : decode cX2_wordOf 16 = .ok (.invokevirtual 102, 3) := dk_182 0 102 (dk_at dksX2_wordOf_0 16 rfl rfl)
theorem dX2_wordOf_19 : decode cX2_wordOf 19 = .ok (.istore_n 1, 1) := dk_60 (dk_at dksX2_wordOf_0 19 rfl rfl)
theorem dX2_wordOf_20 : decode cX2_wordOf 20 = .ok (.iload_n 1, 1) := dk_27 (dk_at dksX2_wordOf_0 20 rfl rfl)
theorem dX2_wordOf_21 : decode cX2_wordOf 21 = .ok (.iconst (-1), 1) := dk_2 (dk_at dksX2_wordOf_0 21 rfl rfl)
theorem dX2_wordOf_22 : decode cX2_wordOf 22 = .ok (.if_icmp .eq 7, 3) := dk_159 0 7 (dk_at dksX2_wordOf_1 0 rfl rfl)
theorem dX2_wordOf_25 : decode cX2_wordOf 25 = .ok (.iload_n 1, 1) := dk_27 (dk_at dksX2_wordOf_1 3 rfl rfl)
theorem dX2_wordOf_26 : decode cX2_wordOf 26 = .ok (.goto 117, 3) := dk_167 0 117 (dk_at dksX2_wordOf_1 4 rfl rfl)
theorem dX2_wordOf_29 : decode cX2_wordOf 29 = .ok (.aload_n 0, 1) := dk_42 (dk_at dksX2_wordOf_1 7 rfl rfl)
theorem dX2_wordOf_30 : decode cX2_wordOf 30 = .ok (.ldc 105, 2) := dk_18 105 (dk_at dksX2_wordOf_1 8 rfl rfl)
theorem dX2_wordOf_32 : decode cX2_wordOf 32 = .ok (.iconst 5, 1) := dk_8 (dk_at dksX2_wordOf_1 10 rfl rfl)
theorem dX2_wordOf_33 : decode cX2_wordOf 33 = .ok (.iconst 0, 1) := dk_3 (dk_at dksX2_wordOf_1 11 rfl rfl)
theorem dX2_wordOf_34 : decode cX2_wordOf 34 = .ok (.invokevirtual 86, 3) := dk_182 0 86 (dk_at dksX2_wordOf_1 12 rfl rfl)
theorem dX2_wordOf_37 : decode cX2_wordOf 37 = .ok (.ifCond .eq 7, 3) := dk_153 0 7 (dk_at dksX2_wordOf_1 15 rfl rfl)
theorem dX2_wordOf_40 : decode cX2_wordOf 40 = .ok (.iconst 0, 1) := dk_3 (dk_at dksX2_wordOf_1 18 rfl rfl)
theorem dX2_wordOf_41 : decode cX2_wordOf 41 = .ok (.goto 102, 3) := dk_167 0 102 (dk_at dksX2_wordOf_1 19 rfl rfl)
theorem dX2_wordOf_44 : decode cX2_wordOf 44 = .ok (.aload_n 0, 1) := dk_42 (dk_at dksX2_wordOf_1 22 rfl rfl)
theorem dX2_wordOf_45 : decode cX2_wordOf 45 = .ok (.ldc 106, 2) := dk_18 106 (dk_at dksX2_wordOf_2 0 rfl rfl)
theorem dX2_wordOf_47 : decode cX2_wordOf 47 = .ok (.bipush 6, 2) := dk_16 6 (dk_at dksX2_wordOf_2 2 rfl rfl)
theorem dX2_wordOf_49 : decode cX2_wordOf 49 = .ok (.iconst 0, 1) := dk_3 (dk_at dksX2_wordOf_2 4 rfl rfl)
theorem dX2_wordOf_50 : decode cX2_wordOf 50 = .ok (.invokevirtual 86, 3) := dk_182 0 86 (dk_at dksX2_wordOf_2 5 rfl rfl)
theorem dX2_wordOf_53 : decode cX2_wordOf 53 = .ok (.ifCond .eq 8, 3) := dk_153 0 8 (dk_at dksX2_wordOf_2 8 rfl rfl)
theorem dX2_wordOf_56 : decode cX2_wordOf 56 = .ok (.bipush 6, 2) := dk_16 6 (dk_at dksX2_wordOf_2 11 rfl rfl)
theorem dX2_wordOf_58 : decode cX2_wordOf 58 = .ok (.goto 85, 3) := dk_167 0 85 (dk_at dksX2_wordOf_2 13 rfl rfl)
theorem dX2_wordOf_61 : decode cX2_wordOf 61 = .ok (.aload_n 0, 1) := dk_42 (dk_at dksX2_wordOf_2 16 rfl rfl)
theorem dX2_wordOf_62 : decode cX2_wordOf 62 = .ok (.ldc 107, 2) := dk_18 107 (dk_at dksX2_wordOf_2 17 rfl rfl)
theorem dX2_wordOf_64 : decode cX2_wordOf 64 = .ok (.bipush 6, 2) := dk_16 6 (dk_at dksX2_wordOf_2 19 rfl rfl)
theorem dX2_wordOf_66 : decode cX2_wordOf 66 = .ok (.iconst 0, 1) := dk_3 (dk_at dksX2_wordOf_2 21 rfl rfl)
theorem dX2_wordOf_67 : decode cX2_wordOf 67 = .ok (.invokevirtual 86, 3) := dk_182 0 86 (dk_at dksX2_wordOf_3 0 rfl rfl)
theorem dX2_wordOf_70 : decode cX2_wordOf 70 = .ok (.ifCond .eq 8, 3) := dk_153 0 8 (dk_at dksX2_wordOf_3 3 rfl rfl)
theorem dX2_wordOf_73 : decode cX2_wordOf 73 = .ok (.bipush 11, 2) := dk_16 11 (dk_at dksX2_wordOf_3 6 rfl rfl)
theorem dX2_wordOf_75 : decode cX2_wordOf 75 = .ok (.goto 68, 3) := dk_167 0 68 (dk_at dksX2_wordOf_3 8 rfl rfl)
theorem dX2_wordOf_78 : decode cX2_wordOf 78 = .ok (.aload_n 0, 1) := dk_42 (dk_at dksX2_wordOf_3 11 rfl rfl)
theorem dX2_wordOf_79 : decode cX2_wordOf 79 = .ok (.ldc 108, 2) := dk_18 108 (dk_at dksX2_wordOf_3 12 rfl rfl)
theorem dX2_wordOf_81 : decode cX2_wordOf 81 = .ok (.iconst 5, 1) := dk_8 (dk_at dksX2_wordOf_3 14 rfl rfl)
theorem dX2_wordOf_82 : decode cX2_wordOf 82 = .ok (.iconst 0, 1) := dk_3 (dk_at dksX2_wordOf_3 15 rfl rfl)
theorem dX2_wordOf_83 : decode cX2_wordOf 83 = .ok (.invokevirtual 86, 3) := dk_182 0 86 (dk_at dksX2_wordOf_3 16 rfl rfl)
theorem dX2_wordOf_86 : decode cX2_wordOf 86 = .ok (.ifCond .eq 8, 3) := dk_153 0 8 (dk_at dksX2_wordOf_3 19 rfl rfl)
theorem dX2_wordOf_89 : decode cX2_wordOf 89 = .ok (.bipush 12, 2) := dk_16 12 (dk_at dksX2_wordOf_3 22 rfl rfl)
theorem dX2_wordOf_91 : decode cX2_wordOf 91 = .ok (.goto 52, 3) := dk_167 0 52 (dk_at dksX2_wordOf_4 0 rfl rfl)
theorem dX2_wordOf_94 : decode cX2_wordOf 94 = .ok (.aload_n 0, 1) := dk_42 (dk_at dksX2_wordOf_4 3 rfl rfl)
theorem dX2_wordOf_95 : decode cX2_wordOf 95 = .ok (.ldc 109, 2) := dk_18 109 (dk_at dksX2_wordOf_4 4 rfl rfl)
theorem dX2_wordOf_97 : decode cX2_wordOf 97 = .ok (.iconst 5, 1) := dk_8 (dk_at dksX2_wordOf_4 6 rfl rfl)
theorem dX2_wordOf_98 : decode cX2_wordOf 98 = .ok (.iconst 0, 1) := dk_3 (dk_at dksX2_wordOf_4 7 rfl rfl)
theorem dX2_wordOf_99 : decode cX2_wordOf 99 = .ok (.invokevirtual 86, 3) := dk_182 0 86 (dk_at dksX2_wordOf_4 8 rfl rfl)
theorem dX2_wordOf_102 : decode cX2_wordOf 102 = .ok (.ifCond .eq 8, 3) := dk_153 0 8 (dk_at dksX2_wordOf_4 11 rfl rfl)
theorem dX2_wordOf_105 : decode cX2_wordOf 105 = .ok (.bipush 13, 2) := dk_16 13 (dk_at dksX2_wordOf_4 14 rfl rfl)
theorem dX2_wordOf_107 : decode cX2_wordOf 107 = .ok (.goto 36, 3) := dk_167 0 36 (dk_at dksX2_wordOf_4 16 rfl rfl)
theorem dX2_wordOf_110 : decode cX2_wordOf 110 = .ok (.aload_n 0, 1) := dk_42 (dk_at dksX2_wordOf_4 19 rfl rfl)
theorem dX2_wordOf_111 : decode cX2_wordOf 111 = .ok (.ldc 110, 2) := dk_18 110 (dk_at dksX2_wordOf_4 20 rfl rfl)
theorem dX2_wordOf_113 : decode cX2_wordOf 113 = .ok (.iconst 5, 1) := dk_8 (dk_at dksX2_wordOf_4 22 rfl rfl)
theorem dX2_wordOf_114 : decode cX2_wordOf 114 = .ok (.iconst 0, 1) := dk_3 (dk_at dksX2_wordOf_4 23 rfl rfl)
theorem dX2_wordOf_115 : decode cX2_wordOf 115 = .ok (.invokevirtual 86, 3) := dk_182 0 86 (dk_at dksX2_wordOf_5 0 rfl rfl)
theorem dX2_wordOf_118 : decode cX2_wordOf 118 = .ok (.ifCond .eq 8, 3) := dk_153 0 8 (dk_at dksX2_wordOf_5 3 rfl rfl)
theorem dX2_wordOf_121 : decode cX2_wordOf 121 = .ok (.bipush 14, 2) := dk_16 14 (dk_at dksX2_wordOf_5 6 rfl rfl)
theorem dX2_wordOf_123 : decode cX2_wordOf 123 = .ok (.goto 20, 3) := dk_167 0 20 (dk_at dksX2_wordOf_5 8 rfl rfl)
theorem dX2_wordOf_126 : decode cX2_wordOf 126 = .ok (.aload_n 0, 1) := dk_42 (dk_at dksX2_wordOf_5 11 rfl rfl)
theorem dX2_wordOf_127 : decode cX2_wordOf 127 = .ok (.ldc 111, 2) := dk_18 111 (dk_at dksX2_wordOf_5 12 rfl rfl)
theorem dX2_wordOf_129 : decode cX2_wordOf 129 = .ok (.iconst 4, 1) := dk_7 (dk_at dksX2_wordOf_5 14 rfl rfl)
theorem dX2_wordOf_130 : decode cX2_wordOf 130 = .ok (.iconst 0, 1) := dk_3 (dk_at dksX2_wordOf_5 15 rfl rfl)
theorem dX2_wordOf_131 : decode cX2_wordOf 131 = .ok (.invokevirtual 86, 3) := dk_182 0 86 (dk_at dksX2_wordOf_5 16 rfl rfl)
theorem dX2_wordOf_134 : decode cX2_wordOf 134 = .ok (.ifCond .eq 8, 3) := dk_153 0 8 (dk_at dksX2_wordOf_5 19 rfl rfl)
theorem dX2_wordOf_137 : decode cX2_wordOf 137 = .ok (.bipush 15, 2) := dk_16 15 (dk_at dksX2_wordOf_5 22 rfl rfl)
theorem dX2_wordOf_139 : decode cX2_wordOf 139 = .ok (.goto 4, 3) := dk_167 0 4 (dk_at dksX2_wordOf_6 0 rfl rfl)
theorem dX2_wordOf_142 : decode cX2_wordOf 142 = .ok (.iconst (-1), 1) := dk_2 (dk_at dksX2_wordOf_6 3 rfl rfl)
theorem dX2_wordOf_143 : decode cX2_wordOf 143 = .ok (.ireturn, 1) := dk_172 (dk_at dksX2_wordOf_6 4 rfl rfl)
abbrev cX2_kindWord : ByteArray := prog_19_method_10_code
def yX2_kindWord : MethodName := ⟨RX2, "kindWord", "()I"⟩
def dkwX2_kindWord_3 : List UInt8 := [153, 0, 7, 8, 167, 0, 4, 2, 172]
abbrev dktX2_kindWord_3 : List UInt8 := dkwX2_kindWord_3 ++ []
def dkwX2_kindWord_2 : List UInt8 := [18, 92, 7, 3, 182, 0, 86, 153, 0, 7, 7, 167, 0, 19, 42, 18, 93, 7, 3, 182, 0, 86]
abbrev dktX2_kindWord_2 : List UInt8 := dkwX2_kindWord_2 ++ dktX2_kindWord_3
def dkwX2_kindWord_1 : List UInt8 := [153, 0, 7, 5, 167, 0, 50, 42, 18, 91, 16, 6, 3, 182, 0, 86, 153, 0, 7, 6, 167, 0, 34, 42]
abbrev dktX2_kindWord_1 : List UInt8 := dkwX2_kindWord_1 ++ dktX2_kindWord_2
def dkwX2_kindWord_0 : List UInt8 := [42, 18, 85, 7, 3, 182, 0, 86, 153, 0, 7, 4, 167, 0, 65, 42, 18, 90, 8, 3, 182, 0, 86]
abbrev dktX2_kindWord_0 : List UInt8 := dkwX2_kindWord_0 ++ dktX2_kindWord_1
theorem dksX2_kindWord_0 : cX2_kindWord.data.toList.drop 0 = dktX2_kindWord_0 := by decide +kernel
theorem dksX2_kindWord_1 : cX2_kindWord.data.toList.drop 23 = dktX2_kindWord_1 := dk_seg dksX2_kindWord_0 23 rfl rfl
theorem dksX2_kindWord_2 : cX2_kindWord.data.toList.drop 47 = dktX2_kindWord_2 := dk_seg dksX2_kindWord_1 24 rfl rfl
theorem dksX2_kindWord_3 : cX2_kindWord.data.toList.drop 69 = dktX2_kindWord_3 := dk_seg dksX2_kindWord_2 22 rfl rfl
theorem dX2_kindWord_0 : decode cX2_kindWord 0 = .ok (.aload_n 0, 1) := dk_42 (dk_at dksX2_kindWord_0 0 rfl rfl)
theorem dX2_kindWord_1 : decode cX2_kindWord 1 = .ok (.ldc 85, 2) := dk_18 85 (dk_at dksX2_kindWord_0 1 rfl rfl)
theorem dX2_kindWord_3 : decode cX2_kindWord 3 = .ok (.iconst 4, 1) := dk_7 (dk_at dksX2_kindWord_0 3 rfl rfl)
theorem dX2_kindWord_4 : decode cX2_kindWord 4 = .ok (.iconst 0, 1) := dk_3 (dk_at dksX2_kindWord_0 4 rfl rfl)
theorem dX2_kindWord_5 : decode cX2_kindWord 5 = .ok (.invokevirtual 86, 3) := dk_182 0 86 (dk_at dksX2_kindWord_0 5 rfl rfl)
theorem dX2_kindWord_8 : decode cX2_kindWord 8 = .ok (.ifCond .eq 7, 3) := dk_153 0 7 (dk_at dksX2_kindWord_0 8 rfl rfl)
theorem dX2_kindWord_11 : decode cX2_kindWord 11 = .ok (.iconst 1, 1) := dk_4 (dk_at dksX2_kindWord_0 11 rfl rfl)
theorem dX2_kindWord_12 : decode cX2_kindWord 12 = .ok (.goto 65, 3) := dk_167 0 65 (dk_at dksX2_kindWord_0 12 rfl rfl)
theorem dX2_kindWord_15 : decode cX2_kindWord 15 = .ok (.aload_n 0, 1) := dk_42 (dk_at dksX2_kindWord_0 15 rfl rfl)
theorem dX2_kindWord_16 : decode cX2_kindWord 16 = .ok (.ldc 90, 2) := dk_18 90 (dk_at dksX2_kindWord_0 16 rfl rfl)
theorem dX2_kindWord_18 : decode cX2_kindWord 18 = .ok (.iconst 5, 1) := dk_8 (dk_at dksX2_kindWord_0 18 rfl rfl)
theorem dX2_kindWord_19 : decode cX2_kindWord 19 = .ok (.iconst 0, 1) := dk_3 (dk_at dksX2_kindWord_0 19 rfl rfl)
theorem dX2_kindWord_20 : decode cX2_kindWord 20 = .ok (.invokevirtual 86, 3) := dk_182 0 86 (dk_at dksX2_kindWord_0 20 rfl rfl)
theorem dX2_kindWord_23 : decode cX2_kindWord 23 = .ok (.ifCond .eq 7, 3) := dk_153 0 7 (dk_at dksX2_kindWord_1 0 rfl rfl)
theorem dX2_kindWord_26 : decode cX2_kindWord 26 = .ok (.iconst 2, 1) := dk_5 (dk_at dksX2_kindWord_1 3 rfl rfl)
theorem dX2_kindWord_27 : decode cX2_kindWord 27 = .ok (.goto 50, 3) := dk_167 0 50 (dk_at dksX2_kindWord_1 4 rfl rfl)
theorem dX2_kindWord_30 : decode cX2_kindWord 30 = .ok (.aload_n 0, 1) := dk_42 (dk_at dksX2_kindWord_1 7 rfl rfl)
theorem dX2_kindWord_31 : decode cX2_kindWord 31 = .ok (.ldc 91, 2) := dk_18 91 (dk_at dksX2_kindWord_1 8 rfl rfl)
theorem dX2_kindWord_33 : decode cX2_kindWord 33 = .ok (.bipush 6, 2) := dk_16 6 (dk_at dksX2_kindWord_1 10 rfl rfl)
theorem dX2_kindWord_35 : decode cX2_kindWord 35 = .ok (.iconst 0, 1) := dk_3 (dk_at dksX2_kindWord_1 12 rfl rfl)
theorem dX2_kindWord_36 : decode cX2_kindWord 36 = .ok (.invokevirtual 86, 3) := dk_182 0 86 (dk_at dksX2_kindWord_1 13 rfl rfl)
theorem dX2_kindWord_39 : decode cX2_kindWord 39 = .ok (.ifCond .eq 7, 3) := dk_153 0 7 (dk_at dksX2_kindWord_1 16 rfl rfl)
theorem dX2_kindWord_42 : decode cX2_kindWord 42 = .ok (.iconst 3, 1) := dk_6 (dk_at dksX2_kindWord_1 19 rfl rfl)
theorem dX2_kindWord_43 : decode cX2_kindWord 43 = .ok (.goto 34, 3) := dk_167 0 34 (dk_at dksX2_kindWord_1 20 rfl rfl)
theorem dX2_kindWord_46 : decode cX2_kindWord 46 = .ok (.aload_n 0, 1) := dk_42 (dk_at dksX2_kindWord_1 23 rfl rfl)
theorem dX2_kindWord_47 : decode cX2_kindWord 47 = .ok (.ldc 92, 2) := dk_18 92 (dk_at dksX2_kindWord_2 0 rfl rfl)
theorem dX2_kindWord_49 : decode cX2_kindWord 49 = .ok (.iconst 4, 1) := dk_7 (dk_at dksX2_kindWord_2 2 rfl rfl)
theorem dX2_kindWord_50 : decode cX2_kindWord 50 = .ok (.iconst 0, 1) := dk_3 (dk_at dksX2_kindWord_2 3 rfl rfl)
theorem dX2_kindWord_51 : decode cX2_kindWord 51 = .ok (.invokevirtual 86, 3) := dk_182 0 86 (dk_at dksX2_kindWord_2 4 rfl rfl)
theorem dX2_kindWord_54 : decode cX2_kindWord 54 = .ok (.ifCond .eq 7, 3) := dk_153 0 7 (dk_at dksX2_kindWord_2 7 rfl rfl)
theorem dX2_kindWord_57 : decode cX2_kindWord 57 = .ok (.iconst 4, 1) := dk_7 (dk_at dksX2_kindWord_2 10 rfl rfl)
theorem dX2_kindWord_58 : decode cX2_kindWord 58 = .ok (.goto 19, 3) := dk_167 0 19 (dk_at dksX2_kindWord_2 11 rfl rfl)
theorem dX2_kindWord_61 : decode cX2_kindWord 61 = .ok (.aload_n 0, 1) := dk_42 (dk_at dksX2_kindWord_2 14 rfl rfl)
theorem dX2_kindWord_62 : decode cX2_kindWord 62 = .ok (.ldc 93, 2) := dk_18 93 (dk_at dksX2_kindWord_2 15 rfl rfl)
theorem dX2_kindWord_64 : decode cX2_kindWord 64 = .ok (.iconst 4, 1) := dk_7 (dk_at dksX2_kindWord_2 17 rfl rfl)
theorem dX2_kindWord_65 : decode cX2_kindWord 65 = .ok (.iconst 0, 1) := dk_3 (dk_at dksX2_kindWord_2 18 rfl rfl)
theorem dX2_kindWord_66 : decode cX2_kindWord 66 = .ok (.invokevirtual 86, 3) := dk_182 0 86 (dk_at dksX2_kindWord_2 19 rfl rfl)
theorem dX2_kindWord_69 : decode cX2_kindWord 69 = .ok (.ifCond .eq 7, 3) := dk_153 0 7 (dk_at dksX2_kindWord_3 0 rfl rfl)
theorem dX2_kindWord_72 : decode cX2_kindWord 72 = .ok (.iconst 5, 1) := dk_8 (dk_at dksX2_kindWord_3 3 rfl rfl)
theorem dX2_kindWord_73 : decode cX2_kindWord 73 = .ok (.goto 4, 3) := dk_167 0 4 (dk_at dksX2_kindWord_3 4 rfl rfl)
theorem dX2_kindWord_76 : decode cX2_kindWord 76 = .ok (.iconst (-1), 1) := dk_2 (dk_at dksX2_kindWord_3 7 rfl rfl)
theorem dX2_kindWord_77 : decode cX2_kindWord 77 = .ok (.ireturn, 1) := dk_172 (dk_at dksX2_kindWord_3 8 rfl rfl)
abbrev cX2_isWord : ByteArray := prog_19_method_9_code
def yX2_isWord : MethodName := ⟨RX2, "isWord", "(III)Z"⟩
def dkwX2_isWord_3 : List UInt8 := [160, 0, 7, 4, 167, 0, 4, 3, 54, 4, 132, 5, 1, 167, 255, 197, 21, 4, 172]
abbrev dktX2_isWord_3 : List UInt8 := dkwX2_isWord_3 ++ []
def dkwX2_isWord_2 : List UInt8 := [16, 96, 21, 5, 16, 6, 162, 0, 15, 27, 8, 21, 5, 104, 122, 16, 31, 126, 167, 0, 4, 29, 96]
abbrev dktX2_isWord_2 : List UInt8 := dkwX2_isWord_2 ++ dktX2_isWord_3
def dkwX2_isWord_1 : List UInt8 := [21, 4, 153, 0, 60, 21, 5, 28, 162, 0, 54, 42, 180, 0, 17, 42, 180, 0, 75, 21, 5, 96, 46]
abbrev dktX2_isWord_1 : List UInt8 := dkwX2_isWord_1 ++ dktX2_isWord_2
def dkwX2_isWord_0 : List UInt8 := [42, 180, 0, 82, 42, 180, 0, 75, 100, 28, 160, 0, 7, 4, 167, 0, 4, 3, 54, 4, 3, 54, 5]
abbrev dktX2_isWord_0 : List UInt8 := dkwX2_isWord_0 ++ dktX2_isWord_1
theorem dksX2_isWord_0 : cX2_isWord.data.toList.drop 0 = dktX2_isWord_0 := by decide +kernel
theorem dksX2_isWord_1 : cX2_isWord.data.toList.drop 23 = dktX2_isWord_1 := dk_seg dksX2_isWord_0 23 rfl rfl
theorem dksX2_isWord_2 : cX2_isWord.data.toList.drop 46 = dktX2_isWord_2 := dk_seg dksX2_isWord_1 23 rfl rfl
theorem dksX2_isWord_3 : cX2_isWord.data.toList.drop 69 = dktX2_isWord_3 := dk_seg dksX2_isWord_2 23 rfl rfl
theorem dX2_isWord_0 : decode cX2_isWord 0 = .ok (.aload_n 0, 1) := dk_42 (dk_at dksX2_isWord_0 0 rfl rfl)
theorem dX2_isWord_1 : decode cX2_isWord 1 = .ok (.getfield 82, 3) := dk_180 0 82 (dk_at dksX2_isWord_0 1 rfl rfl)
theorem dX2_isWord_4 : decode cX2_isWord 4 = .ok (.aload_n 0, 1) := dk_42 (dk_at dksX2_isWord_0 4 rfl rfl)
theorem dX2_isWord_5 : decode cX2_isWord 5 = .ok (.getfield 75, 3) := dk_180 0 75 (dk_at dksX2_isWord_0 5 rfl rfl)
theorem dX2_isWord_8 : decode cX2_isWord 8 = .ok (.isub, 1) := dk_100 (dk_at dksX2_isWord_0 8 rfl rfl)
theorem dX2_isWord_9 : decode cX2_isWord 9 = .ok (.iload_n 2, 1) := dk_28 (dk_at dksX2_isWord_0 9 rfl rfl)
theorem dX2_isWord_10 : decode cX2_isWord 10 = .ok (.if_icmp .ne 7, 3) := dk_160 0 7 (dk_at dksX2_isWord_0 10 rfl rfl)
theorem dX2_isWord_13 : decode cX2_isWord 13 = .ok (.iconst 1, 1) := dk_4 (dk_at dksX2_isWord_0 13 rfl rfl)
theorem dX2_isWord_14 : decode cX2_isWord 14 = .ok (.goto 4, 3) := dk_167 0 4 (dk_at dksX2_isWord_0 14 rfl rfl)
theorem dX2_isWord_17 : decode cX2_isWord 17 = .ok (.iconst 0, 1) := dk_3 (dk_at dksX2_isWord_0 17 rfl rfl)
theorem dX2_isWord_18 : decode cX2_isWord 18 = .ok (.istore 4, 2) := dk_54 4 (dk_at dksX2_isWord_0 18 rfl rfl)
theorem dX2_isWord_20 : decode cX2_isWord 20 = .ok (.iconst 0, 1) := dk_3 (dk_at dksX2_isWord_0 20 rfl rfl)
theorem dX2_isWord_21 : decode cX2_isWord 21 = .ok (.istore 5, 2) := dk_54 5 (dk_at dksX2_isWord_0 21 rfl rfl)
theorem dX2_isWord_23 : decode cX2_isWord 23 = .ok (.iload 4, 2) := dk_21 4 (dk_at dksX2_isWord_1 0 rfl rfl)
theorem dX2_isWord_25 : decode cX2_isWord 25 = .ok (.ifCond .eq 60, 3) := dk_153 0 60 (dk_at dksX2_isWord_1 2 rfl rfl)
theorem dX2_isWord_28 : decode cX2_isWord 28 = .ok (.iload 5, 2) := dk_21 5 (dk_at dksX2_isWord_1 5 rfl rfl)
theorem dX2_isWord_30 : decode cX2_isWord 30 = .ok (.iload_n 2, 1) := dk_28 (dk_at dksX2_isWord_1 7 rfl rfl)
theorem dX2_isWord_31 : decode cX2_isWord 31 = .ok (.if_icmp .ge 54, 3) := dk_162 0 54 (dk_at dksX2_isWord_1 8 rfl rfl)
theorem dX2_isWord_34 : decode cX2_isWord 34 = .ok (.aload_n 0, 1) := dk_42 (dk_at dksX2_isWord_1 11 rfl rfl)
theorem dX2_isWord_35 : decode cX2_isWord 35 = .ok (.getfield 17, 3) := dk_180 0 17 (dk_at dksX2_isWord_1 12 rfl rfl)
theorem dX2_isWord_38 : decode cX2_isWord 38 = .ok (.aload_n 0, 1) := dk_42 (dk_at dksX2_isWord_1 15 rfl rfl)
theorem dX2_isWord_39 : decode cX2_isWord 39 = .ok (.getfield 75, 3) := dk_180 0 75 (dk_at dksX2_isWord_1 16 rfl rfl)
theorem dX2_isWord_42 : decode cX2_isWord 42 = .ok (.iload 5, 2) := dk_21 5 (dk_at dksX2_isWord_1 19 rfl rfl)
theorem dX2_isWord_44 : decode cX2_isWord 44 = .ok (.iadd, 1) := dk_96 (dk_at dksX2_isWord_1 21 rfl rfl)
theorem dX2_isWord_45 : decode cX2_isWord 45 = .ok (.iaload, 1) := dk_46 (dk_at dksX2_isWord_1 22 rfl rfl)
theorem dX2_isWord_46 : decode cX2_isWord 46 = .ok (.bipush 96, 2) := dk_16 96 (dk_at dksX2_isWord_2 0 rfl rfl)
theorem dX2_isWord_48 : decode cX2_isWord 48 = .ok (.iload 5, 2) := dk_21 5 (dk_at dksX2_isWord_2 2 rfl rfl)
theorem dX2_isWord_50 : decode cX2_isWord 50 = .ok (.bipush 6, 2) := dk_16 6 (dk_at dksX2_isWord_2 4 rfl rfl)
theorem dX2_isWord_52 : decode cX2_isWord 52 = .ok (.if_icmp .ge 15, 3) := dk_162 0 15 (dk_at dksX2_isWord_2 6 rfl rfl)
theorem dX2_isWord_55 : decode cX2_isWord 55 = .ok (.iload_n 1, 1) := dk_27 (dk_at dksX2_isWord_2 9 rfl rfl)
theorem dX2_isWord_56 : decode cX2_isWord 56 = .ok (.iconst 5, 1) := dk_8 (dk_at dksX2_isWord_2 10 rfl rfl)
theorem dX2_isWord_57 : decode cX2_isWord 57 = .ok (.iload 5, 2) := dk_21 5 (dk_at dksX2_isWord_2 11 rfl rfl)
theorem dX2_isWord_59 : decode cX2_isWord 59 = .ok (.imul, 1) := dk_104 (dk_at dksX2_isWord_2 13 rfl rfl)
theorem dX2_isWord_60 : decode cX2_isWord 60 = .ok (.ishr, 1) := dk_122 (dk_at dksX2_isWord_2 14 rfl rfl)
theorem dX2_isWord_61 : decode cX2_isWord 61 = .ok (.bipush 31, 2) := dk_16 31 (dk_at dksX2_isWord_2 15 rfl rfl)
theorem dX2_isWord_63 : decode cX2_isWord 63 = .ok (.iand, 1) := dk_126 (dk_at dksX2_isWord_2 17 rfl rfl)
theorem dX2_isWord_64 : decode cX2_isWord 64 = .ok (.goto 4, 3) := dk_167 0 4 (dk_at dksX2_isWord_2 18 rfl rfl)
theorem dX2_isWord_67 : decode cX2_isWord 67 = .ok (.iload_n 3, 1) := dk_29 (dk_at dksX2_isWord_2 21 rfl rfl)
theorem dX2_isWord_68 : decode cX2_isWord 68 = .ok (.iadd, 1) := dk_96 (dk_at dksX2_isWord_2 22 rfl rfl)
theorem dX2_isWord_69 : decode cX2_isWord 69 = .ok (.if_icmp .ne 7, 3) := dk_160 0 7 (dk_at dksX2_isWord_3 0 rfl rfl)
theorem dX2_isWord_72 : decode cX2_isWord 72 = .ok (.iconst 1, 1) := dk_4 (dk_at dksX2_isWord_3 3 rfl rfl)
theorem dX2_isWord_73 : decode cX2_isWord 73 = .ok (.goto 4, 3) := dk_167 0 4 (dk_at dksX2_isWord_3 4 rfl rfl)
theorem dX2_isWord_76 : decode cX2_isWord 76 = .ok (.iconst 0, 1) := dk_3 (dk_at dksX2_isWord_3 7 rfl rfl)
theorem dX2_isWord_77 : decode cX2_isWord 77 = .ok (.istore 4, 2) := dk_54 4 (dk_at dksX2_isWord_3 8 rfl rfl)
theorem dX2_isWord_79 : decode cX2_isWord 79 = .ok (.iinc 5 1, 3) := dk_132 5 1 (dk_at dksX2_isWord_3 10 rfl rfl)
theorem dX2_isWord_82 : decode cX2_isWord 82 = .ok (.goto (-59), 3) := dk_167 255 197 (dk_at dksX2_isWord_3 13 rfl rfl)
theorem dX2_isWord_85 : decode cX2_isWord 85 = .ok (.iload 4, 2) := dk_21 4 (dk_at dksX2_isWord_3 16 rfl rfl)
theorem dX2_isWord_87 : decode cX2_isWord 87 = .ok (.ireturn, 1) := dk_172 (dk_at dksX2_isWord_3 18 rfl rfl)
abbrev cX2_folkWord : ByteArray := prog_19_method_11_code
def yX2_folkWord : MethodName := ⟨RX2, "folkWord", "()I"⟩
def dkwX2_folkWord_2 : List UInt8 := [16, 9, 167, 0, 20, 42, 18, 97, 7, 3, 182, 0, 86, 153, 0, 8, 16, 10, 167, 0, 4, 2, 172]
abbrev dktX2_folkWord_2 : List UInt8 := dkwX2_folkWord_2 ++ []
def dkwX2_folkWord_1 : List UInt8 := [182, 0, 86, 153, 0, 8, 16, 8, 167, 0, 37, 42, 18, 96, 16, 6, 3, 182, 0, 86, 153, 0, 8]
abbrev dktX2_folkWord_1 : List UInt8 := dkwX2_folkWord_1 ++ dktX2_folkWord_2
def dkwX2_folkWord_0 : List UInt8 := [42, 18, 94, 16, 7, 16, 14, 182, 0, 86, 153, 0, 8, 16, 7, 167, 0, 53, 42, 18, 95, 8, 3]
abbrev dktX2_folkWord_0 : List UInt8 := dkwX2_folkWord_0 ++ dktX2_folkWord_1
theorem dksX2_folkWord_0 : cX2_folkWord.data.toList.drop 0 = dktX2_folkWord_0 := by decide +kernel
theorem dksX2_folkWord_1 : cX2_folkWord.data.toList.drop 23 = dktX2_folkWord_1 := dk_seg dksX2_folkWord_0 23 rfl rfl
theorem dksX2_folkWord_2 : cX2_folkWord.data.toList.drop 46 = dktX2_folkWord_2 := dk_seg dksX2_folkWord_1 23 rfl rfl
theorem dX2_folkWord_0 : decode cX2_folkWord 0 = .ok (.aload_n 0, 1) := dk_42 (dk_at dksX2_folkWord_0 0 rfl rfl)
theorem dX2_folkWord_1 : decode cX2_folkWord 1 = .ok (.ldc 94, 2) := dk_18 94 (dk_at dksX2_folkWord_0 1 rfl rfl)
theorem dX2_folkWord_3 : decode cX2_folkWord 3 = .ok (.bipush 7, 2) := dk_16 7 (dk_at dksX2_folkWord_0 3 rfl rfl)
theorem dX2_folkWord_5 : decode cX2_folkWord 5 = .ok (.bipush 14, 2) := dk_16 14 (dk_at dksX2_folkWord_0 5 rfl rfl)
theorem dX2_folkWord_7 : decode cX2_folkWord 7 = .ok (.invokevirtual 86, 3) := dk_182 0 86 (dk_at dksX2_folkWord_0 7 rfl rfl)
theorem dX2_folkWord_10 : decode cX2_folkWord 10 = .ok (.ifCond .eq 8, 3) := dk_153 0 8 (dk_at dksX2_folkWord_0 10 rfl rfl)
theorem dX2_folkWord_13 : decode cX2_folkWord 13 = .ok (.bipush 7, 2) := dk_16 7 (dk_at dksX2_folkWord_0 13 rfl rfl)
theorem dX2_folkWord_15 : decode cX2_folkWord 15 = .ok (.goto 53, 3) := dk_167 0 53 (dk_at dksX2_folkWord_0 15 rfl rfl)
theorem dX2_folkWord_18 : decode cX2_folkWord 18 = .ok (.aload_n 0, 1) := dk_42 (dk_at dksX2_folkWord_0 18 rfl rfl)
theorem dX2_folkWord_19 : decode cX2_folkWord 19 = .ok (.ldc 95, 2) := dk_18 95 (dk_at dksX2_folkWord_0 19 rfl rfl)
theorem dX2_folkWord_21 : decode cX2_folkWord 21 = .ok (.iconst 5, 1) := dk_8 (dk_at dksX2_folkWord_0 21 rfl rfl)
theorem dX2_folkWord_22 : decode cX2_folkWord 22 = .ok (.iconst 0, 1) := dk_3 (dk_at dksX2_folkWord_0 22 rfl rfl)
theorem dX2_folkWord_23 : decode cX2_folkWord 23 = .ok (.invokevirtual 86, 3) := dk_182 0 86 (dk_at dksX2_folkWord_1 0 rfl rfl)
theorem dX2_folkWord_26 : decode cX2_folkWord 26 = .ok (.ifCond .eq 8, 3) := dk_153 0 8 (dk_at dksX2_folkWord_1 3 rfl rfl)
theorem dX2_folkWord_29 : decode cX2_folkWord 29 = .ok (.bipush 8, 2) := dk_16 8 (dk_at dksX2_folkWord_1 6 rfl rfl)
theorem dX2_folkWord_31 : decode cX2_folkWord 31 = .ok (.goto 37, 3) := dk_167 0 37 (dk_at dksX2_folkWord_1 8 rfl rfl)
theorem dX2_folkWord_34 : decode cX2_folkWord 34 = .ok (.aload_n 0, 1) := dk_42 (dk_at dksX2_folkWord_1 11 rfl rfl)
theorem dX2_folkWord_35 : decode cX2_folkWord 35 = .ok (.ldc 96, 2) := dk_18 96 (dk_at dksX2_folkWord_1 12 rfl rfl)
theorem dX2_folkWord_37 : decode cX2_folkWord 37 = .ok (.bipush 6, 2) := dk_16 6 (dk_at dksX2_folkWord_1 14 rfl rfl)
theorem dX2_folkWord_39 : decode cX2_folkWord 39 = .ok (.iconst 0, 1) := dk_3 (dk_at dksX2_folkWord_1 16 rfl rfl)
theorem dX2_folkWord_40 : decode cX2_folkWord 40 = .ok (.invokevirtual 86, 3) := dk_182 0 86 (dk_at dksX2_folkWord_1 17 rfl rfl)
theorem dX2_folkWord_43 : decode cX2_folkWord 43 = .ok (.ifCond .eq 8, 3) := dk_153 0 8 (dk_at dksX2_folkWord_1 20 rfl rfl)
theorem dX2_folkWord_46 : decode cX2_folkWord 46 = .ok (.bipush 9, 2) := dk_16 9 (dk_at dksX2_folkWord_2 0 rfl rfl)
theorem dX2_folkWord_48 : decode cX2_folkWord 48 = .ok (.goto 20, 3) := dk_167 0 20 (dk_at dksX2_folkWord_2 2 rfl rfl)
theorem dX2_folkWord_51 : decode cX2_folkWord 51 = .ok (.aload_n 0, 1) := dk_42 (dk_at dksX2_folkWord_2 5 rfl rfl)
theorem dX2_folkWord_52 : decode cX2_folkWord 52 = .ok (.ldc 97, 2) := dk_18 97 (dk_at dksX2_folkWord_2 6 rfl rfl)
theorem dX2_folkWord_54 : decode cX2_folkWord 54 = .ok (.iconst 4, 1) := dk_7 (dk_at dksX2_folkWord_2 8 rfl rfl)
theorem dX2_folkWord_55 : decode cX2_folkWord 55 = .ok (.iconst 0, 1) := dk_3 (dk_at dksX2_folkWord_2 9 rfl rfl)
theorem dX2_folkWord_56 : decode cX2_folkWord 56 = .ok (.invokevirtual 86, 3) := dk_182 0 86 (dk_at dksX2_folkWord_2 10 rfl rfl)
theorem dX2_folkWord_59 : decode cX2_folkWord 59 = .ok (.ifCond .eq 8, 3) := dk_153 0 8 (dk_at dksX2_folkWord_2 13 rfl rfl)
theorem dX2_folkWord_62 : decode cX2_folkWord 62 = .ok (.bipush 10, 2) := dk_16 10 (dk_at dksX2_folkWord_2 16 rfl rfl)
theorem dX2_folkWord_64 : decode cX2_folkWord 64 = .ok (.goto 4, 3) := dk_167 0 4 (dk_at dksX2_folkWord_2 18 rfl rfl)
theorem dX2_folkWord_67 : decode cX2_folkWord 67 = .ok (.iconst (-1), 1) := dk_2 (dk_at dksX2_folkWord_2 21 rfl rfl)
theorem dX2_folkWord_68 : decode cX2_folkWord 68 = .ok (.ireturn, 1) := dk_172 (dk_at dksX2_folkWord_2 22 rfl rfl)
abbrev cX2_isKindWord : ByteArray := prog_19_method_14_code
def yX2_isKindWord : MethodName := ⟨RX2, "isKindWord", "(I)Z"⟩
def dkwX2_isKindWord_0 : List UInt8 := [26, 133, 10, 20, 0, 118, 184, 0, 65, 172]
abbrev dktX2_isKindWord_0 : List UInt8 := dkwX2_isKindWord_0 ++ []
theorem dksX2_isKindWord_0 : cX2_isKindWord.data.toList.drop 0 = dktX2_isKindWord_0 := by decide +kernel
theorem dX2_isKindWord_0 : decode cX2_isKindWord 0 = .ok (.iload_n 0, 1) := dk_26 (dk_at dksX2_isKindWord_0 0 rfl rfl)
theorem dX2_isKindWord_1 : decode cX2_isKindWord 1 = .ok (.i2l, 1) := dk_133 (dk_at dksX2_isKindWord_0 1 rfl rfl)
theorem dX2_isKindWord_2 : decode cX2_isKindWord 2 = .ok (.lconst 1, 1) := dk_10 (dk_at dksX2_isKindWord_0 2 rfl rfl)
theorem dX2_isKindWord_3 : decode cX2_isKindWord 3 = .ok (.ldc2_w 118, 3) := dk_20 0 118 (dk_at dksX2_isKindWord_0 3 rfl rfl)
theorem dX2_isKindWord_6 : decode cX2_isKindWord 6 = .ok (.invokestatic 65, 3) := dk_184 0 65 (dk_at dksX2_isKindWord_0 6 rfl rfl)
theorem dX2_isKindWord_9 : decode cX2_isKindWord 9 = .ok (.ireturn, 1) := dk_172 (dk_at dksX2_isKindWord_0 9 rfl rfl)
abbrev cX2_isFolkWord : ByteArray := prog_19_method_15_code
def yX2_isFolkWord : MethodName := ⟨RX2, "isFolkWord", "(I)Z"⟩
def dkwX2_isFolkWord_0 : List UInt8 := [26, 133, 20, 0, 120, 20, 0, 122, 184, 0, 65, 172]
abbrev dktX2_isFolkWord_0 : List UInt8 := dkwX2_isFolkWord_0 ++ []
theorem dksX2_isFolkWord_0 : cX2_isFolkWord.data.toList.drop 0 = dktX2_isFolkWord_0 := by decide +kernel
theorem dX2_isFolkWord_0 : decode cX2_isFolkWord 0 = .ok (.iload_n 0, 1) := dk_26 (dk_at dksX2_isFolkWord_0 0 rfl rfl)
theorem dX2_isFolkWord_1 : decode cX2_isFolkWord 1 = .ok (.i2l, 1) := dk_133 (dk_at dksX2_isFolkWord_0 1 rfl rfl)
theorem dX2_isFolkWord_2 : decode cX2_isFolkWord 2 = .ok (.ldc2_w 120, 3) := dk_20 0 120 (dk_at dksX2_isFolkWord_0 2 rfl rfl)
theorem dX2_isFolkWord_5 : decode cX2_isFolkWord 5 = .ok (.ldc2_w 122, 3) := dk_20 0 122 (dk_at dksX2_isFolkWord_0 5 rfl rfl)
theorem dX2_isFolkWord_8 : decode cX2_isFolkWord 8 = .ok (.invokestatic 65, 3) := dk_184 0 65 (dk_at dksX2_isFolkWord_0 8 rfl rfl)
theorem dX2_isFolkWord_11 : decode cX2_isFolkWord 11 = .ok (.ireturn, 1) := dk_172 (dk_at dksX2_isFolkWord_0 11 rfl rfl)
abbrev cX2_readsRest : ByteArray := prog_19_method_16_code
def yX2_readsRest : MethodName := ⟨RX2, "readsRest", "(I)Z"⟩
def dkwX2_readsRest_3 : List UInt8 := [16, 99, 182, 0, 128, 153, 0, 7, 4, 167, 0, 4, 3, 172]
abbrev dktX2_readsRest_3 : List UInt8 := dkwX2_readsRest_3 ++ []
def dkwX2_readsRest_2 : List UInt8 := [180, 0, 134, 4, 100, 182, 0, 128, 153, 0, 28, 42, 4, 3, 7, 182, 0, 128, 153, 0, 18, 42, 5, 3]
abbrev dktX2_readsRest_2 : List UInt8 := dkwX2_readsRest_2 ++ dktX2_readsRest_3
def dkwX2_readsRest_1 : List UInt8 := [16, 11, 160, 0, 12, 42, 3, 3, 16, 20, 182, 0, 128, 172, 27, 16, 6, 160, 0, 39, 42, 3, 3, 42]
abbrev dktX2_readsRest_1 : List UInt8 := dkwX2_readsRest_1 ++ dktX2_readsRest_2
def dkwX2_readsRest_0 : List UInt8 := [27, 184, 0, 124, 153, 0, 12, 42, 3, 3, 16, 30, 182, 0, 128, 172, 27, 184, 0, 131, 154, 0, 9, 27]
abbrev dktX2_readsRest_0 : List UInt8 := dkwX2_readsRest_0 ++ dktX2_readsRest_1
theorem dksX2_readsRest_0 : cX2_readsRest.data.toList.drop 0 = dktX2_readsRest_0 := by decide +kernel
theorem dksX2_readsRest_1 : cX2_readsRest.data.toList.drop 24 = dktX2_readsRest_1 := dk_seg dksX2_readsRest_0 24 rfl rfl
theorem dksX2_readsRest_2 : cX2_readsRest.data.toList.drop 48 = dktX2_readsRest_2 := dk_seg dksX2_readsRest_1 24 rfl rfl
theorem dksX2_readsRest_3 : cX2_readsRest.data.toList.drop 72 = dktX2_readsRest_3 := dk_seg dksX2_readsRest_2 24 rfl rfl
theorem dX2_readsRest_0 : decode cX2_readsRest 0 = .ok (.iload_n 1, 1) := dk_27 (dk_at dksX2_readsRest_0 0 rfl rfl)
theorem dX2_readsRest_1 : decode cX2_readsRest 1 = .ok (.invokestatic 124, 3) := dk_184 0 124 (dk_at dksX2_readsRest_0 1 rfl rfl)
theorem dX2_readsRest_4 : decode cX2_readsRest 4 = .ok (.ifCond .eq 12, 3) := dk_153 0 12 (dk_at dksX2_readsRest_0 4 rfl rfl)
theorem dX2_readsRest_7 : decode cX2_readsRest 7 = .ok (.aload_n 0, 1) := dk_42 (dk_at dksX2_readsRest_0 7 rfl rfl)
theorem dX2_readsRest_8 : decode cX2_readsRest 8 = .ok (.iconst 0, 1) := dk_3 (dk_at dksX2_readsRest_0 8 rfl rfl)
theorem dX2_readsRest_9 : decode cX2_readsRest 9 = .ok (.iconst 0, 1) := dk_3 (dk_at dksX2_readsRest_0 9 rfl rfl)
theorem dX2_readsRest_10 : decode cX2_readsRest 10 = .ok (.bipush 30, 2) := dk_16 30 (dk_at dksX2_readsRest_0 10 rfl rfl)
theorem dX2_readsRest_12 : decode cX2_readsRest 12 = .ok (.invokevirtual 128, 3) := dk_182 0 128 (dk_at dksX2_readsRest_0 12 rfl rfl)
theorem dX2_readsRest_15 : decode cX2_readsRest 15 = .ok (.ireturn, 1) := dk_172 (dk_at dksX2_readsRest_0 15 rfl rfl)
theorem dX2_readsRest_16 : decode cX2_readsRest 16 = .ok (.iload_n 1, 1) := dk_27 (dk_at dksX2_readsRest_0 16 rfl rfl)
theorem dX2_readsRest_17 : decode cX2_readsRest 17 = .ok (.invokestatic 131, 3) := dk_184 0 131 (dk_at dksX2_readsRest_0 17 rfl rfl)
theorem dX2_readsRest_20 : decode cX2_readsRest 20 = .ok (.ifCond .ne 9, 3) := dk_154 0 9 (dk_at dksX2_readsRest_0 20 rfl rfl)
theorem dX2_readsRest_23 : decode cX2_readsRest 23 = .ok (.iload_n 1, 1) := dk_27 (dk_at dksX2_readsRest_0 23 rfl rfl)
theorem dX2_readsRest_24 : decode cX2_readsRest 24 = .ok (.bipush 11, 2) := dk_16 11 (dk_at dksX2_readsRest_1 0 rfl rfl)
theorem dX2_readsRest_26 : decode cX2_readsRest 26 = .ok (.if_icmp .ne 12, 3) := dk_160 0 12 (dk_at dksX2_readsRest_1 2 rfl rfl)
theorem dX2_readsRest_29 : decode cX2_readsRest 29 = .ok (.aload_n 0, 1) := dk_42 (dk_at dksX2_readsRest_1 5 rfl rfl)
theorem dX2_readsRest_30 : decode cX2_readsRest 30 = .ok (.iconst 0, 1) := dk_3 (dk_at dksX2_readsRest_1 6 rfl rfl)
theorem dX2_readsRest_31 : decode cX2_readsRest 31 = .ok (.iconst 0, 1) := dk_3 (dk_at dksX2_readsRest_1 7 rfl rfl)
theorem dX2_readsRest_32 : decode cX2_readsRest 32 = .ok (.bipush 20, 2) := dk_16 20 (dk_at dksX2_readsRest_1 8 rfl rfl)
theorem dX2_readsRest_34 : decode cX2_readsRest 34 = .ok (.invokevirtual 128, 3) := dk_182 0 128 (dk_at dksX2_readsRest_1 10 rfl rfl)
theorem dX2_readsRest_37 : decode cX2_readsRest 37 = .ok (.ireturn, 1) := dk_172 (dk_at dksX2_readsRest_1 13 rfl rfl)
theorem dX2_readsRest_38 : decode cX2_readsRest 38 = .ok (.iload_n 1, 1) := dk_27 (dk_at dksX2_readsRest_1 14 rfl rfl)
theorem dX2_readsRest_39 : decode cX2_readsRest 39 = .ok (.bipush 6, 2) := dk_16 6 (dk_at dksX2_readsRest_1 15 rfl rfl)
theorem dX2_readsRest_41 : decode cX2_readsRest 41 = .ok (.if_icmp .ne 39, 3) := dk_160 0 39 (dk_at dksX2_readsRest_1 17 rfl rfl)
theorem dX2_readsRest_44 : decode cX2_readsRest 44 = .ok (.aload_n 0, 1) := dk_42 (dk_at dksX2_readsRest_1 20 rfl rfl)
theorem dX2_readsRest_45 : decode cX2_readsRest 45 = .ok (.iconst 0, 1) := dk_3 (dk_at dksX2_readsRest_1 21 rfl rfl)
theorem dX2_readsRest_46 : decode cX2_readsRest 46 = .ok (.iconst 0, 1) := dk_3 (dk_at dksX2_readsRest_1 22 rfl rfl)
theorem dX2_readsRest_47 : decode cX2_readsRest 47 = .ok (.aload_n 0, 1) := dk_42 (dk_at dksX2_readsRest_1 23 rfl rfl)
theorem dX2_readsRest_48 : decode cX2_readsRest 48 = .ok (.getfield 134, 3) := dk_180 0 134 (dk_at dksX2_readsRest_2 0 rfl rfl)
theorem dX2_readsRest_51 : decode cX2_readsRest 51 = .ok (.iconst 1, 1) := dk_4 (dk_at dksX2_readsRest_2 3 rfl rfl)
theorem dX2_readsRest_52 : decode cX2_readsRest 52 = .ok (.isub, 1) := dk_100 (dk_at dksX2_readsRest_2 4 rfl rfl)
theorem dX2_readsRest_53 : decode cX2_readsRest 53 = .ok (.invokevirtual 128, 3) := dk_182 0 128 (dk_at dksX2_readsRest_2 5 rfl rfl)
theorem dX2_readsRest_56 : decode cX2_readsRest 56 = .ok (.ifCond .eq 28, 3) := dk_153 0 28 (dk_at dksX2_readsRest_2 8 rfl rfl)
theorem dX2_readsRest_59 : decode cX2_readsRest 59 = .ok (.aload_n 0, 1) := dk_42 (dk_at dksX2_readsRest_2 11 rfl rfl)
theorem dX2_readsRest_60 : decode cX2_readsRest 60 = .ok (.iconst 1, 1) := dk_4 (dk_at dksX2_readsRest_2 12 rfl rfl)
theorem dX2_readsRest_61 : decode cX2_readsRest 61 = .ok (.iconst 0, 1) := dk_3 (dk_at dksX2_readsRest_2 13 rfl rfl)
theorem dX2_readsRest_62 : decode cX2_readsRest 62 = .ok (.iconst 4, 1) := dk_7 (dk_at dksX2_readsRest_2 14 rfl rfl)
theorem dX2_readsRest_63 : decode cX2_readsRest 63 = .ok (.invokevirtual 128, 3) := dk_182 0 128 (dk_at dksX2_readsRest_2 15 rfl rfl)
theorem dX2_readsRest_66 : decode cX2_readsRest 66 = .ok (.ifCond .eq 18, 3) := dk_153 0 18 (dk_at dksX2_readsRest_2 18 rfl rfl)
theorem dX2_readsRest_69 : decode cX2_readsRest 69 = .ok (.aload_n 0, 1) := dk_42 (dk_at dksX2_readsRest_2 21 rfl rfl)
theorem dX2_readsRest_70 : decode cX2_readsRest 70 = .ok (.iconst 2, 1) := dk_5 (dk_at dksX2_readsRest_2 22 rfl rfl)
theorem dX2_readsRest_71 : decode cX2_readsRest 71 = .ok (.iconst 0, 1) := dk_3 (dk_at dksX2_readsRest_2 23 rfl rfl)
theorem dX2_readsRest_72 : decode cX2_readsRest 72 = .ok (.bipush 99, 2) := dk_16 99 (dk_at dksX2_readsRest_3 0 rfl rfl)
theorem dX2_readsRest_74 : decode cX2_readsRest 74 = .ok (.invokevirtual 128, 3) := dk_182 0 128 (dk_at dksX2_readsRest_3 2 rfl rfl)
theorem dX2_readsRest_77 : decode cX2_readsRest 77 = .ok (.ifCond .eq 7, 3) := dk_153 0 7 (dk_at dksX2_readsRest_3 5 rfl rfl)
theorem dX2_readsRest_80 : decode cX2_readsRest 80 = .ok (.iconst 1, 1) := dk_4 (dk_at dksX2_readsRest_3 8 rfl rfl)
theorem dX2_readsRest_81 : decode cX2_readsRest 81 = .ok (.goto 4, 3) := dk_167 0 4 (dk_at dksX2_readsRest_3 9 rfl rfl)
theorem dX2_readsRest_84 : decode cX2_readsRest 84 = .ok (.iconst 0, 1) := dk_3 (dk_at dksX2_readsRest_3 12 rfl rfl)
theorem dX2_readsRest_85 : decode cX2_readsRest 85 = .ok (.ireturn, 1) := dk_172 (dk_at dksX2_readsRest_3 13 rfl rfl)
abbrev cX2_reads : ByteArray := prog_19_method_13_code
def yX2_reads : MethodName := ⟨RX2, "reads", "(III)Z"⟩
def dkwX2_reads_5 : List UInt8 := [79, 42, 182, 0, 115, 4, 172]
abbrev dktX2_reads_5 : List UInt8 := dkwX2_reads_5 ++ []
def dkwX2_reads_4 : List UInt8 := [184, 0, 65, 154, 0, 5, 3, 172, 42, 180, 0, 20, 7, 42, 180, 0, 112, 104, 4, 96, 27, 96, 21, 4]
abbrev dktX2_reads_4 : List UInt8 := dkwX2_reads_4 ++ dktX2_reads_5
def dkwX2_reads_3 : List UInt8 := [21, 5, 46, 96, 16, 48, 100, 54, 4, 132, 5, 1, 167, 255, 226, 21, 4, 133, 28, 133, 29, 133]
abbrev dktX2_reads_3 : List UInt8 := dkwX2_reads_3 ++ dktX2_reads_4
def dkwX2_reads_2 : List UInt8 := [180, 0, 75, 54, 5, 21, 5, 42, 180, 0, 82, 162, 0, 27, 16, 10, 21, 4, 104, 42, 180, 0, 17]
abbrev dktX2_reads_2 : List UInt8 := dkwX2_reads_2 ++ dktX2_reads_3
def dkwX2_reads_1 : List UInt8 := [160, 0, 16, 42, 180, 0, 82, 42, 180, 0, 75, 100, 5, 164, 0, 5, 3, 172, 3, 54, 4, 42]
abbrev dktX2_reads_1 : List UInt8 := dkwX2_reads_1 ++ dktX2_reads_2
def dkwX2_reads_0 : List UInt8 := [42, 180, 0, 75, 42, 180, 0, 69, 159, 0, 32, 42, 180, 0, 17, 42, 180, 0, 75, 46, 184, 0, 78, 5]
abbrev dktX2_reads_0 : List UInt8 := dkwX2_reads_0 ++ dktX2_reads_1
theorem dksX2_reads_0 : cX2_reads.data.toList.drop 0 = dktX2_reads_0 := by decide +kernel
theorem dksX2_reads_1 : cX2_reads.data.toList.drop 24 = dktX2_reads_1 := dk_seg dksX2_reads_0 24 rfl rfl
theorem dksX2_reads_2 : cX2_reads.data.toList.drop 46 = dktX2_reads_2 := dk_seg dksX2_reads_1 22 rfl rfl
theorem dksX2_reads_3 : cX2_reads.data.toList.drop 69 = dktX2_reads_3 := dk_seg dksX2_reads_2 23 rfl rfl
theorem dksX2_reads_4 : cX2_reads.data.toList.drop 91 = dktX2_reads_4 := dk_seg dksX2_reads_3 22 rfl rfl
theorem dksX2_reads_5 : cX2_reads.data.toList.drop 115 = dktX2_reads_5 := dk_seg dksX2_reads_4 24 rfl rfl
theorem dX2_reads_0 : decode cX2_reads 0 = .ok (.aload_n 0, 1) := dk_42 (dk_at dksX2_reads_0 0 rfl rfl)
theorem dX2_reads_1 : decode cX2_reads 1 = .ok (.getfield 75, 3) := dk_180 0 75 (dk_at dksX2_reads_0 1 rfl rfl)
theorem dX2_reads_4 : decode cX2_reads 4 = .ok (.aload_n 0, 1) := dk_42 (dk_at dksX2_reads_0 4 rfl rfl)
theorem dX2_reads_5 : decode cX2_reads 5 = .ok (.getfield 69, 3) := dk_180 0 69 (dk_at dksX2_reads_0 5 rfl rfl)
theorem dX2_reads_8 : decode cX2_reads 8 = .ok (.if_icmp .eq 32, 3) := dk_159 0 32 (dk_at dksX2_reads_0 8 rfl rfl)
theorem dX2_reads_11 : decode cX2_reads 11 = .ok (.aload_n 0, 1) := dk_42 (dk_at dksX2_reads_0 11 rfl rfl)
theorem dX2_reads_12 : decode cX2_reads 12 = .ok (.getfield 17, 3) := dk_180 0 17 (dk_at dksX2_reads_0 12 rfl rfl)
theorem dX2_reads_15 : decode cX2_reads 15 = .ok (.aload_n 0, 1) := dk_42 (dk_at dksX2_reads_0 15 rfl rfl)
theorem dX2_reads_16 : decode cX2_reads 16 = .ok (.getfield 75, 3) := dk_180 0 75 (dk_at dksX2_reads_0 16 rfl rfl)
theorem dX2_reads_19 : decode cX2_reads 19 = .ok (.iaload, 1) := dk_46 (dk_at dksX2_reads_0 19 rfl rfl)
theorem dX2_reads_20 : decode cX2_reads 20 = .ok (.invokestatic 78, 3) := dk_184 0 78 (dk_at dksX2_reads_0 20 rfl rfl)
theorem dX2_reads_23 : decode cX2_reads 23 = .ok (.iconst 2, 1) := dk_5 (dk_at dksX2_reads_0 23 rfl rfl)
theorem dX2_reads_24 : decode cX2_reads 24 = .ok (.if_icmp .ne 16, 3) := dk_160 0 16 (dk_at dksX2_reads_1 0 rfl rfl)
theorem dX2_reads_27 : decode cX2_reads 27 = .ok (.aload_n 0, 1) := dk_42 (dk_at dksX2_reads_1 3 rfl rfl)
theorem dX2_reads_28 : decode cX2_reads 28 = .ok (.getfield 82, 3) := dk_180 0 82 (dk_at dksX2_reads_1 4 rfl rfl)
theorem dX2_reads_31 : decode cX2_reads 31 = .ok (.aload_n 0, 1) := dk_42 (dk_at dksX2_reads_1 7 rfl rfl)
theorem dX2_reads_32 : decode cX2_reads 32 = .ok (.getfield 75, 3) := dk_180 0 75 (dk_at dksX2_reads_1 8 rfl rfl)
theorem dX2_reads_35 : decode cX2_reads 35 = .ok (.isub, 1) := dk_100 (dk_at dksX2_reads_1 11 rfl rfl)
theorem dX2_reads_36 : decode cX2_reads 36 = .ok (.iconst 2, 1) := dk_5 (dk_at dksX2_reads_1 12 rfl rfl)
theorem dX2_reads_37 : decode cX2_reads 37 = .ok (.if_icmp .le 5, 3) := dk_164 0 5 (dk_at dksX2_reads_1 13 rfl rfl)
theorem dX2_reads_40 : decode cX2_reads 40 = .ok (.iconst 0, 1) := dk_3 (dk_at dksX2_reads_1 16 rfl rfl)
theorem dX2_reads_41 : decode cX2_reads 41 = .ok (.ireturn, 1) := dk_172 (dk_at dksX2_reads_1 17 rfl rfl)
theorem dX2_reads_42 : decode cX2_reads 42 = .ok (.iconst 0, 1) := dk_3 (dk_at dksX2_reads_1 18 rfl rfl)
theorem dX2_reads_43 : decode cX2_reads 43 = .ok (.istore 4, 2) := dk_54 4 (dk_at dksX2_reads_1 19 rfl rfl)
theorem dX2_reads_45 : decode cX2_reads 45 = .ok (.aload_n 0, 1) := dk_42 (dk_at dksX2_reads_1 21 rfl rfl)
theorem dX2_reads_46 : decode cX2_reads 46 = .ok (.getfield 75, 3) := dk_180 0 75 (dk_at dksX2_reads_2 0 rfl rfl)
theorem dX2_reads_49 : decode cX2_reads 49 = .ok (.istore 5, 2) := dk_54 5 (dk_at dksX2_reads_2 3 rfl rfl)
theorem dX2_reads_51 : decode cX2_reads 51 = .ok (.iload 5, 2) := dk_21 5 (dk_at dksX2_reads_2 5 rfl rfl)
theorem dX2_reads_53 : decode cX2_reads 53 = .ok (.aload_n 0, 1) := dk_42 (dk_at dksX2_reads_2 7 rfl rfl)
theorem dX2_reads_54 : decode cX2_reads 54 = .ok (.getfield 82, 3) := dk_180 0 82 (dk_at dksX2_reads_2 8 rfl rfl)
theorem dX2_reads_57 : decode cX2_reads 57 = .ok (.if_icmp .ge 27, 3) := dk_162 0 27 (dk_at dksX2_reads_2 11 rfl rfl)
theorem dX2_reads_60 : decode cX2_reads 60 = .ok (.bipush 10, 2) := dk_16 10 (dk_at dksX2_reads_2 14 rfl rfl)
theorem dX2_reads_62 : decode cX2_reads 62 = .ok (.iload 4, 2) := dk_21 4 (dk_at dksX2_reads_2 16 rfl rfl)
theorem dX2_reads_64 : decode cX2_reads 64 = .ok (.imul, 1) := dk_104 (dk_at dksX2_reads_2 18 rfl rfl)
theorem dX2_reads_65 : decode cX2_reads 65 = .ok (.aload_n 0, 1) := dk_42 (dk_at dksX2_reads_2 19 rfl rfl)
theorem dX2_reads_66 : decode cX2_reads 66 = .ok (.getfield 17, 3) := dk_180 0 17 (dk_at dksX2_reads_2 20 rfl rfl)
theorem dX2_reads_69 : decode cX2_reads 69 = .ok (.iload 5, 2) := dk_21 5 (dk_at dksX2_reads_3 0 rfl rfl)
theorem dX2_reads_71 : decode cX2_reads 71 = .ok (.iaload, 1) := dk_46 (dk_at dksX2_reads_3 2 rfl rfl)
theorem dX2_reads_72 : decode cX2_reads 72 = .ok (.iadd, 1) := dk_96 (dk_at dksX2_reads_3 3 rfl rfl)
theorem dX2_reads_73 : decode cX2_reads 73 = .ok (.bipush 48, 2) := dk_16 48 (dk_at dksX2_reads_3 4 rfl rfl)
theorem dX2_reads_75 : decode cX2_reads 75 = .ok (.isub, 1) := dk_100 (dk_at dksX2_reads_3 6 rfl rfl)
theorem dX2_reads_76 : decode cX2_reads 76 = .ok (.istore 4, 2) := dk_54 4 (dk_at dksX2_reads_3 7 rfl rfl)
theorem dX2_reads_78 : decode cX2_reads 78 = .ok (.iinc 5 1, 3) := dk_132 5 1 (dk_at dksX2_reads_3 9 rfl rfl)
theorem dX2_reads_81 : decode cX2_reads 81 = .ok (.goto (-30), 3) := dk_167 255 226 (dk_at dksX2_reads_3 12 rfl rfl)
theorem dX2_reads_84 : decode cX2_reads 84 = .ok (.iload 4, 2) := dk_21 4 (dk_at dksX2_reads_3 15 rfl rfl)
theorem dX2_reads_86 : decode cX2_reads 86 = .ok (.i2l, 1) := dk_133 (dk_at dksX2_reads_3 17 rfl rfl)
theorem dX2_reads_87 : decode cX2_reads 87 = .ok (.iload_n 2, 1) := dk_28 (dk_at dksX2_reads_3 18 rfl rfl)
theorem dX2_reads_88 : decode cX2_reads 88 = .ok (.i2l, 1) := dk_133 (dk_at dksX2_reads_3 19 rfl rfl)
theorem dX2_reads_89 : decode cX2_reads 89 = .ok (.iload_n 3, 1) := dk_29 (dk_at dksX2_reads_3 20 rfl rfl)
theorem dX2_reads_90 : decode cX2_reads 90 = .ok (.i2l, 1) := dk_133 (dk_at dksX2_reads_3 21 rfl rfl)
theorem dX2_reads_91 : decode cX2_reads 91 = .ok (.invokestatic 65, 3) := dk_184 0 65 (dk_at dksX2_reads_4 0 rfl rfl)
theorem dX2_reads_94 : decode cX2_reads 94 = .ok (.ifCond .ne 5, 3) := dk_154 0 5 (dk_at dksX2_reads_4 3 rfl rfl)
theorem dX2_reads_97 : decode cX2_reads 97 = .ok (.iconst 0, 1) := dk_3 (dk_at dksX2_reads_4 6 rfl rfl)
theorem dX2_reads_98 : decode cX2_reads 98 = .ok (.ireturn, 1) := dk_172 (dk_at dksX2_reads_4 7 rfl rfl)
theorem dX2_reads_99 : decode cX2_reads 99 = .ok (.aload_n 0, 1) := dk_42 (dk_at dksX2_reads_4 8 rfl rfl)
theorem dX2_reads_100 : decode cX2_reads 100 = .ok (.getfield 20, 3) := dk_180 0 20 (dk_at dksX2_reads_4 9 rfl rfl)
theorem dX2_reads_103 : decode cX2_reads 103 = .ok (.iconst 4, 1) := dk_7 (dk_at dksX2_reads_4 12 rfl rfl)
theorem dX2_reads_104 : decode cX2_reads 104 = .ok (.aload_n 0, 1) := dk_42 (dk_at dksX2_reads_4 13 rfl rfl)
theorem dX2_reads_105 : decode cX2_reads 105 = .ok (.getfield 112, 3) := dk_180 0 112 (dk_at dksX2_reads_4 14 rfl rfl)
theorem dX2_reads_108 : decode cX2_reads 108 = .ok (.imul, 1) := dk_104 (dk_at dksX2_reads_4 17 rfl rfl)
theorem dX2_reads_109 : decode cX2_reads 109 = .ok (.iconst 1, 1) := dk_4 (dk_at dksX2_reads_4 18 rfl rfl)
theorem dX2_reads_110 : decode cX2_reads 110 = .ok (.iadd, 1) := dk_96 (dk_at dksX2_reads_4 19 rfl rfl)
theorem dX2_reads_111 : decode cX2_reads 111 = .ok (.iload_n 1, 1) := dk_27 (dk_at dksX2_reads_4 20 rfl rfl)
theorem dX2_reads_112 : decode cX2_reads 112 = .ok (.iadd, 1) := dk_96 (dk_at dksX2_reads_4 21 rfl rfl)
theorem dX2_reads_113 : decode cX2_reads 113 = .ok (.iload 4, 2) := dk_21 4 (dk_at dksX2_reads_4 22 rfl rfl)
theorem dX2_reads_115 : decode cX2_reads 115 = .ok (.iastore, 1) := dk_79 (dk_at dksX2_reads_5 0 rfl rfl)
theorem dX2_reads_116 : decode cX2_reads 116 = .ok (.aload_n 0, 1) := dk_42 (dk_at dksX2_reads_5 1 rfl rfl)
theorem dX2_reads_117 : decode cX2_reads 117 = .ok (.invokevirtual 115, 3) := dk_182 0 115 (dk_at dksX2_reads_5 2 rfl rfl)
theorem dX2_reads_120 : decode cX2_reads 120 = .ok (.iconst 1, 1) := dk_4 (dk_at dksX2_reads_5 5 rfl rfl)
theorem dX2_reads_121 : decode cX2_reads 121 = .ok (.ireturn, 1) := dk_172 (dk_at dksX2_reads_5 6 rfl rfl)
abbrev cX2_realm : ByteArray := prog_19_method_24_code
def yX2_realm : MethodName := ⟨RX2, "realm", "()I"⟩
def dkwX2_realm_6 : List UInt8 := [180, 0, 112, 172]
abbrev dktX2_realm_6 : List UInt8 := dkwX2_realm_6 ++ []
def dkwX2_realm_5 : List UInt8 := [181, 0, 191, 42, 180, 0, 13, 3, 3, 84, 42, 180, 0, 13, 4, 3, 84, 42, 3, 181, 0, 69, 42]
abbrev dktX2_realm_5 : List UInt8 := dkwX2_realm_5 ++ dktX2_realm_6
def dkwX2_realm_4 : List UInt8 := [167, 0, 5, 16, 10, 79, 132, 1, 1, 167, 255, 189, 42, 3, 181, 0, 185, 42, 3, 181, 0, 188, 42, 3]
abbrev dktX2_realm_4 : List UInt8 := dkwX2_realm_4 ++ dktX2_realm_5
def dkwX2_realm_3 : List UInt8 := [180, 0, 7, 27, 28, 154, 0, 7, 3, 167, 0, 19, 27, 8, 162, 0, 12, 5, 42, 180, 0, 38, 104]
abbrev dktX2_realm_3 : List UInt8 := dkwX2_realm_3 ++ dktX2_realm_4
def dkwX2_realm_2 : List UInt8 := [27, 158, 0, 19, 27, 4, 100, 7, 112, 42, 180, 0, 155, 162, 0, 7, 4, 167, 0, 4, 3, 61, 42]
abbrev dktX2_realm_2 : List UInt8 := dkwX2_realm_2 ++ dktX2_realm_3
def dkwX2_realm_1 : List UInt8 := [104, 182, 0, 182, 132, 1, 1, 167, 255, 238, 3, 60, 27, 16, 73, 162, 0, 67, 27, 16, 9, 162, 0, 23]
abbrev dktX2_realm_1 : List UInt8 := dkwX2_realm_1 ++ dktX2_realm_2
def dkwX2_realm_0 : List UInt8 := [42, 182, 0, 179, 2, 159, 0, 6, 16, 252, 172, 3, 60, 27, 42, 180, 0, 112, 162, 0, 16, 42, 7, 27]
abbrev dktX2_realm_0 : List UInt8 := dkwX2_realm_0 ++ dktX2_realm_1
theorem dksX2_realm_0 : cX2_realm.data.toList.drop 0 = dktX2_realm_0 := by decide +kernel
theorem dksX2_realm_1 : cX2_realm.data.toList.drop 24 = dktX2_realm_1 := dk_seg dksX2_realm_0 24 rfl rfl
theorem dksX2_realm_2 : cX2_realm.data.toList.drop 48 = dktX2_realm_2 := dk_seg dksX2_realm_1 24 rfl rfl
theorem dksX2_realm_3 : cX2_realm.data.toList.drop 71 = dktX2_realm_3 := dk_seg dksX2_realm_2 23 rfl rfl
theorem dksX2_realm_4 : cX2_realm.data.toList.drop 94 = dktX2_realm_4 := dk_seg dksX2_realm_3 23 rfl rfl
theorem dksX2_realm_5 : cX2_realm.data.toList.drop 118 = dktX2_realm_5 := dk_seg dksX2_realm_4 24 rfl rfl
theorem dksX2_realm_6 : cX2_realm.data.toList.drop 141 = dktX2_realm_6 := dk_seg dksX2_realm_5 23 rfl rfl
theorem dX2_realm_0 : decode cX2_realm 0 = .ok (.aload_n 0, 1) := dk_42 (dk_at dksX2_realm_0 0 rfl rfl)
theorem dX2_realm_1 : decode cX2_realm 1 = .ok (.invokevirtual 179, 3) := dk_182 0 179 (dk_at dksX2_realm_0 1 rfl rfl)
theorem dX2_realm_4 : decode cX2_realm 4 = .ok (.iconst (-1), 1) := dk_2 (dk_at dksX2_realm_0 4 rfl rfl)
theorem dX2_realm_5 : decode cX2_realm 5 = .ok (.if_icmp .eq 6, 3) := dk_159 0 6 (dk_at dksX2_realm_0 5 rfl rfl)
theorem dX2_realm_8 : decode cX2_realm 8 = .ok (.bipush (-4), 2) := dk_16 252 (dk_at dksX2_realm_0 8 rfl rfl)
theorem dX2_realm_10 : decode cX2_realm 10 = .ok (.ireturn, 1) := dk_172 (dk_at dksX2_realm_0 10 rfl rfl)
theorem dX2_realm_11 : decode cX2_realm 11 = .ok (.iconst 0, 1) := dk_3 (dk_at dksX2_realm_0 11 rfl rfl)
theorem dX2_realm_12 : decode cX2_realm 12 = .ok (.istore_n 1, 1) := dk_60 (dk_at dksX2_realm_0 12 rfl rfl)
theorem dX2_realm_13 : decode cX2_realm 13 = .ok (.iload_n 1, 1) := dk_27 (dk_at dksX2_realm_0 13 rfl rfl)
theorem dX2_realm_14 : decode cX2_realm 14 = .ok (.aload_n 0, 1) := dk_42 (dk_at dksX2_realm_0 14 rfl rfl)
theorem dX2_realm_15 : decode cX2_realm 15 = .ok (.getfield 112, 3) := dk_180 0 112 (dk_at dksX2_realm_0 15 rfl rfl)
theorem dX2_realm_18 : decode cX2_realm 18 = .ok (.if_icmp .ge 16, 3) := dk_162 0 16 (dk_at dksX2_realm_0 18 rfl rfl)
theorem dX2_realm_21 : decode cX2_realm 21 = .ok (.aload_n 0, 1) := dk_42 (dk_at dksX2_realm_0 21 rfl rfl)
theorem dX2_realm_22 : decode cX2_realm 22 = .ok (.iconst 4, 1) := dk_7 (dk_at dksX2_realm_0 22 rfl rfl)
theorem dX2_realm_23 : decode cX2_realm 23 = .ok (.iload_n 1, 1) := dk_27 (dk_at dksX2_realm_0 23 rfl rfl)
theorem dX2_realm_24 : decode cX2_realm 24 = .ok (.imul, 1) := dk_104 (dk_at dksX2_realm_1 0 rfl rfl)
theorem dX2_realm_25 : decode cX2_realm 25 = .ok (.invokevirtual 182, 3) := dk_182 0 182 (dk_at dksX2_realm_1 1 rfl rfl)
theorem dX2_realm_28 : decode cX2_realm 28 = .ok (.iinc 1 1, 3) := dk_132 1 1 (dk_at dksX2_realm_1 4 rfl rfl)
theorem dX2_realm_31 : decode cX2_realm 31 = .ok (.goto (-18), 3) := dk_167 255 238 (dk_at dksX2_realm_1 7 rfl rfl)
theorem dX2_realm_34 : decode cX2_realm 34 = .ok (.iconst 0, 1) := dk_3 (dk_at dksX2_realm_1 10 rfl rfl)
theorem dX2_realm_35 : decode cX2_realm 35 = .ok (.istore_n 1, 1) := dk_60 (dk_at dksX2_realm_1 11 rfl rfl)
theorem dX2_realm_36 : decode cX2_realm 36 = .ok (.iload_n 1, 1) := dk_27 (dk_at dksX2_realm_1 12 rfl rfl)
theorem dX2_realm_37 : decode cX2_realm 37 = .ok (.bipush 73, 2) := dk_16 73 (dk_at dksX2_realm_1 13 rfl rfl)
theorem dX2_realm_39 : decode cX2_realm 39 = .ok (.if_icmp .ge 67, 3) := dk_162 0 67 (dk_at dksX2_realm_1 15 rfl rfl)
theorem dX2_realm_42 : decode cX2_realm 42 = .ok (.iload_n 1, 1) := dk_27 (dk_at dksX2_realm_1 18 rfl rfl)
theorem dX2_realm_43 : decode cX2_realm 43 = .ok (.bipush 9, 2) := dk_16 9 (dk_at dksX2_realm_1 19 rfl rfl)
theorem dX2_realm_45 : decode cX2_realm 45 = .ok (.if_icmp .ge 23, 3) := dk_162 0 23 (dk_at dksX2_realm_1 21 rfl rfl)
theorem dX2_realm_48 : decode cX2_realm 48 = .ok (.iload_n 1, 1) := dk_27 (dk_at dksX2_realm_2 0 rfl rfl)
theorem dX2_realm_49 : decode cX2_realm 49 = .ok (.ifCond .le 19, 3) := dk_158 0 19 (dk_at dksX2_realm_2 1 rfl rfl)
theorem dX2_realm_52 : decode cX2_realm 52 = .ok (.iload_n 1, 1) := dk_27 (dk_at dksX2_realm_2 4 rfl rfl)
theorem dX2_realm_53 : decode cX2_realm 53 = .ok (.iconst 1, 1) := dk_4 (dk_at dksX2_realm_2 5 rfl rfl)
theorem dX2_realm_54 : decode cX2_realm 54 = .ok (.isub, 1) := dk_100 (dk_at dksX2_realm_2 6 rfl rfl)
theorem dX2_realm_55 : decode cX2_realm 55 = .ok (.iconst 4, 1) := dk_7 (dk_at dksX2_realm_2 7 rfl rfl)
theorem dX2_realm_56 : decode cX2_realm 56 = .ok (.irem, 1) := dk_112 (dk_at dksX2_realm_2 8 rfl rfl)
theorem dX2_realm_57 : decode cX2_realm 57 = .ok (.aload_n 0, 1) := dk_42 (dk_at dksX2_realm_2 9 rfl rfl)
theorem dX2_realm_58 : decode cX2_realm 58 = .ok (.getfield 155, 3) := dk_180 0 155 (dk_at dksX2_realm_2 10 rfl rfl)
theorem dX2_realm_61 : decode cX2_realm 61 = .ok (.if_icmp .ge 7, 3) := dk_162 0 7 (dk_at dksX2_realm_2 13 rfl rfl)
theorem dX2_realm_64 : decode cX2_realm 64 = .ok (.iconst 1, 1) := dk_4 (dk_at dksX2_realm_2 16 rfl rfl)
theorem dX2_realm_65 : decode cX2_realm 65 = .ok (.goto 4, 3) := dk_167 0 4 (dk_at dksX2_realm_2 17 rfl rfl)
theorem dX2_realm_68 : decode cX2_realm 68 = .ok (.iconst 0, 1) := dk_3 (dk_at dksX2_realm_2 20 rfl rfl)
theorem dX2_realm_69 : decode cX2_realm 69 = .ok (.istore_n 2, 1) := dk_61 (dk_at dksX2_realm_2 21 rfl rfl)
theorem dX2_realm_70 : decode cX2_realm 70 = .ok (.aload_n 0, 1) := dk_42 (dk_at dksX2_realm_2 22 rfl rfl)
theorem dX2_realm_71 : decode cX2_realm 71 = .ok (.getfield 7, 3) := dk_180 0 7 (dk_at dksX2_realm_3 0 rfl rfl)
theorem dX2_realm_74 : decode cX2_realm 74 = .ok (.iload_n 1, 1) := dk_27 (dk_at dksX2_realm_3 3 rfl rfl)
theorem dX2_realm_75 : decode cX2_realm 75 = .ok (.iload_n 2, 1) := dk_28 (dk_at dksX2_realm_3 4 rfl rfl)
theorem dX2_realm_76 : decode cX2_realm 76 = .ok (.ifCond .ne 7, 3) := dk_154 0 7 (dk_at dksX2_realm_3 5 rfl rfl)
theorem dX2_realm_79 : decode cX2_realm 79 = .ok (.iconst 0, 1) := dk_3 (dk_at dksX2_realm_3 8 rfl rfl)
theorem dX2_realm_80 : decode cX2_realm 80 = .ok (.goto 19, 3) := dk_167 0 19 (dk_at dksX2_realm_3 9 rfl rfl)
theorem dX2_realm_83 : decode cX2_realm 83 = .ok (.iload_n 1, 1) := dk_27 (dk_at dksX2_realm_3 12 rfl rfl)
theorem dX2_realm_84 : decode cX2_realm 84 = .ok (.iconst 5, 1) := dk_8 (dk_at dksX2_realm_3 13 rfl rfl)
theorem dX2_realm_85 : decode cX2_realm 85 = .ok (.if_icmp .ge 12, 3) := dk_162 0 12 (dk_at dksX2_realm_3 14 rfl rfl)
theorem dX2_realm_88 : decode cX2_realm 88 = .ok (.iconst 2, 1) := dk_5 (dk_at dksX2_realm_3 17 rfl rfl)
theorem dX2_realm_89 : decode cX2_realm 89 = .ok (.aload_n 0, 1) := dk_42 (dk_at dksX2_realm_3 18 rfl rfl)
theorem dX2_realm_90 : decode cX2_realm 90 = .ok (.getfield 38, 3) := dk_180 0 38 (dk_at dksX2_realm_3 19 rfl rfl)
theorem dX2_realm_93 : decode cX2_realm 93 = .ok (.imul, 1) := dk_104 (dk_at dksX2_realm_3 22 rfl rfl)
theorem dX2_realm_94 : decode cX2_realm 94 = .ok (.goto 5, 3) := dk_167 0 5 (dk_at dksX2_realm_4 0 rfl rfl)
theorem dX2_realm_97 : decode cX2_realm 97 = .ok (.bipush 10, 2) := dk_16 10 (dk_at dksX2_realm_4 3 rfl rfl)
theorem dX2_realm_99 : decode cX2_realm 99 = .ok (.iastore, 1) := dk_79 (dk_at dksX2_realm_4 5 rfl rfl)
theorem dX2_realm_100 : decode cX2_realm 100 = .ok (.iinc 1 1, 3) := dk_132 1 1 (dk_at dksX2_realm_4 6 rfl rfl)
theorem dX2_realm_103 : decode cX2_realm 103 = .ok (.goto (-67), 3) := dk_167 255 189 (dk_at dksX2_realm_4 9 rfl rfl)
theorem dX2_realm_106 : decode cX2_realm 106 = .ok (.aload_n 0, 1) := dk_42 (dk_at dksX2_realm_4 12 rfl rfl)
theorem dX2_realm_107 : decode cX2_realm 107 = .ok (.iconst 0, 1) := dk_3 (dk_at dksX2_realm_4 13 rfl rfl)
theorem dX2_realm_108 : decode cX2_realm 108 = .ok (.putfield 185, 3) := dk_181 0 185 (dk_at dksX2_realm_4 14 rfl rfl)
theorem dX2_realm_111 : decode cX2_realm 111 = .ok (.aload_n 0, 1) := dk_42 (dk_at dksX2_realm_4 17 rfl rfl)
theorem dX2_realm_112 : decode cX2_realm 112 = .ok (.iconst 0, 1) := dk_3 (dk_at dksX2_realm_4 18 rfl rfl)
theorem dX2_realm_113 : decode cX2_realm 113 = .ok (.putfield 188, 3) := dk_181 0 188 (dk_at dksX2_realm_4 19 rfl rfl)
theorem dX2_realm_116 : decode cX2_realm 116 = .ok (.aload_n 0, 1) := dk_42 (dk_at dksX2_realm_4 22 rfl rfl)
theorem dX2_realm_117 : decode cX2_realm 117 = .ok (.iconst 0, 1) := dk_3 (dk_at dksX2_realm_4 23 rfl rfl)
theorem dX2_realm_118 : decode cX2_realm 118 = .ok (.putfield 191, 3) := dk_181 0 191 (dk_at dksX2_realm_5 0 rfl rfl)
theorem dX2_realm_121 : decode cX2_realm 121 = .ok (.aload_n 0, 1) := dk_42 (dk_at dksX2_realm_5 3 rfl rfl)
theorem dX2_realm_122 : decode cX2_realm 122 = .ok (.getfield 13, 3) := dk_180 0 13 (dk_at dksX2_realm_5 4 rfl rfl)
theorem dX2_realm_125 : decode cX2_realm 125 = .ok (.iconst 0, 1) := dk_3 (dk_at dksX2_realm_5 7 rfl rfl)
theorem dX2_realm_126 : decode cX2_realm 126 = .ok (.iconst 0, 1) := dk_3 (dk_at dksX2_realm_5 8 rfl rfl)
theorem dX2_realm_127 : decode cX2_realm 127 = .ok (.bastore, 1) := dk_84 (dk_at dksX2_realm_5 9 rfl rfl)
theorem dX2_realm_128 : decode cX2_realm 128 = .ok (.aload_n 0, 1) := dk_42 (dk_at dksX2_realm_5 10 rfl rfl)
theorem dX2_realm_129 : decode cX2_realm 129 = .ok (.getfield 13, 3) := dk_180 0 13 (dk_at dksX2_realm_5 11 rfl rfl)
theorem dX2_realm_132 : decode cX2_realm 132 = .ok (.iconst 1, 1) := dk_4 (dk_at dksX2_realm_5 14 rfl rfl)
theorem dX2_realm_133 : decode cX2_realm 133 = .ok (.iconst 0, 1) := dk_3 (dk_at dksX2_realm_5 15 rfl rfl)
theorem dX2_realm_134 : decode cX2_realm 134 = .ok (.bastore, 1) := dk_84 (dk_at dksX2_realm_5 16 rfl rfl)
theorem dX2_realm_135 : decode cX2_realm 135 = .ok (.aload_n 0, 1) := dk_42 (dk_at dksX2_realm_5 17 rfl rfl)
theorem dX2_realm_136 : decode cX2_realm 136 = .ok (.iconst 0, 1) := dk_3 (dk_at dksX2_realm_5 18 rfl rfl)
theorem dX2_realm_137 : decode cX2_realm 137 = .ok (.putfield 69, 3) := dk_181 0 69 (dk_at dksX2_realm_5 19 rfl rfl)
theorem dX2_realm_140 : decode cX2_realm 140 = .ok (.aload_n 0, 1) := dk_42 (dk_at dksX2_realm_5 22 rfl rfl)
theorem dX2_realm_141 : decode cX2_realm 141 = .ok (.getfield 112, 3) := dk_180 0 112 (dk_at dksX2_realm_6 0 rfl rfl)
theorem dX2_realm_144 : decode cX2_realm 144 = .ok (.ireturn, 1) := dk_172 (dk_at dksX2_realm_6 3 rfl rfl)
abbrev cX2_tell : ByteArray := prog_19_method_23_code
def yX2_tell : MethodName := ⟨RX2, "tell", "(I)V"⟩
def dkwX2_tell_5 : List UInt8 := [16, 13, 160, 0, 7, 5, 167, 0, 4, 7, 128, 181, 0, 162, 177]
abbrev dktX2_tell_5 : List UInt8 := dkwX2_tell_5 ++ []
def dkwX2_tell_4 : List UInt8 := [16, 15, 160, 0, 7, 3, 167, 0, 29, 42, 180, 0, 162, 28, 16, 12, 160, 0, 7, 4, 167, 0, 14, 28]
abbrev dktX2_tell_4 : List UInt8 := dkwX2_tell_4 ++ dktX2_tell_5
def dkwX2_tell_3 : List UInt8 := [160, 0, 11, 42, 29, 181, 0, 38, 167, 0, 54, 28, 154, 0, 10, 42, 182, 0, 176, 167, 0, 43, 42, 28]
abbrev dktX2_tell_3 : List UInt8 := dkwX2_tell_3 ++ dktX2_tell_4
def dkwX2_tell_2 : List UInt8 := [182, 0, 169, 167, 0, 82, 28, 16, 6, 160, 0, 11, 42, 27, 182, 0, 172, 167, 0, 68, 28, 16, 11]
abbrev dktX2_tell_2 : List UInt8 := dkwX2_tell_2 ++ dktX2_tell_3
def dkwX2_tell_1 : List UInt8 := [28, 4, 100, 29, 182, 0, 165, 167, 0, 101, 28, 184, 0, 131, 153, 0, 15, 42, 28, 16, 7, 100, 29]
abbrev dktX2_tell_1 : List UInt8 := dkwX2_tell_1 ++ dktX2_tell_2
def dkwX2_tell_0 : List UInt8 := [42, 180, 0, 20, 27, 46, 61, 42, 180, 0, 20, 27, 4, 96, 46, 62, 28, 184, 0, 124, 153, 0, 14, 42]
abbrev dktX2_tell_0 : List UInt8 := dkwX2_tell_0 ++ dktX2_tell_1
theorem dksX2_tell_0 : cX2_tell.data.toList.drop 0 = dktX2_tell_0 := by decide +kernel
theorem dksX2_tell_1 : cX2_tell.data.toList.drop 24 = dktX2_tell_1 := dk_seg dksX2_tell_0 24 rfl rfl
theorem dksX2_tell_2 : cX2_tell.data.toList.drop 47 = dktX2_tell_2 := dk_seg dksX2_tell_1 23 rfl rfl
theorem dksX2_tell_3 : cX2_tell.data.toList.drop 70 = dktX2_tell_3 := dk_seg dksX2_tell_2 23 rfl rfl
theorem dksX2_tell_4 : cX2_tell.data.toList.drop 94 = dktX2_tell_4 := dk_seg dksX2_tell_3 24 rfl rfl
theorem dksX2_tell_5 : cX2_tell.data.toList.drop 118 = dktX2_tell_5 := dk_seg dksX2_tell_4 24 rfl rfl
theorem dX2_tell_0 : decode cX2_tell 0 = .ok (.aload_n 0, 1) := dk_42 (dk_at dksX2_tell_0 0 rfl rfl)
theorem dX2_tell_1 : decode cX2_tell 1 = .ok (.getfield 20, 3) := dk_180 0 20 (dk_at dksX2_tell_0 1 rfl rfl)
theorem dX2_tell_4 : decode cX2_tell 4 = .ok (.iload_n 1, 1) := dk_27 (dk_at dksX2_tell_0 4 rfl rfl)
theorem dX2_tell_5 : decode cX2_tell 5 = .ok (.iaload, 1) := dk_46 (dk_at dksX2_tell_0 5 rfl rfl)
theorem dX2_tell_6 : decode cX2_tell 6 = .ok (.istore_n 2, 1) := dk_61 (dk_at dksX2_tell_0 6 rfl rfl)
theorem dX2_tell_7 : decode cX2_tell 7 = .ok (.aload_n 0, 1) := dk_42 (dk_at dksX2_tell_0 7 rfl rfl)
theorem dX2_tell_8 : decode cX2_tell 8 = .ok (.getfield 20, 3) := dk_180 0 20 (dk_at dksX2_tell_0 8 rfl rfl)
theorem dX2_tell_11 : decode cX2_tell 11 = .ok (.iload_n 1, 1) := dk_27 (dk_at dksX2_tell_0 11 rfl rfl)
theorem dX2_tell_12 : decode cX2_tell 12 = .ok (.iconst 1, 1) := dk_4 (dk_at dksX2_tell_0 12 rfl rfl)
theorem dX2_tell_13 : decode cX2_tell 13 = .ok (.iadd, 1) := dk_96 (dk_at dksX2_tell_0 13 rfl rfl)
theorem dX2_tell_14 : decode cX2_tell 14 = .ok (.iaload, 1) := dk_46 (dk_at dksX2_tell_0 14 rfl rfl)
theorem dX2_tell_15 : decode cX2_tell 15 = .ok (.istore_n 3, 1) := dk_62 (dk_at dksX2_tell_0 15 rfl rfl)
theorem dX2_tell_16 : decode cX2_tell 16 = .ok (.iload_n 2, 1) := dk_28 (dk_at dksX2_tell_0 16 rfl rfl)
theorem dX2_tell_17 : decode cX2_tell 17 = .ok (.invokestatic 124, 3) := dk_184 0 124 (dk_at dksX2_tell_0 17 rfl rfl)
theorem dX2_tell_20 : decode cX2_tell 20 = .ok (.ifCond .eq 14, 3) := dk_153 0 14 (dk_at dksX2_tell_0 20 rfl rfl)
theorem dX2_tell_23 : decode cX2_tell 23 = .ok (.aload_n 0, 1) := dk_42 (dk_at dksX2_tell_0 23 rfl rfl)
theorem dX2_tell_24 : decode cX2_tell 24 = .ok (.iload_n 2, 1) := dk_28 (dk_at dksX2_tell_1 0 rfl rfl)
theorem dX2_tell_25 : decode cX2_tell 25 = .ok (.iconst 1, 1) := dk_4 (dk_at dksX2_tell_1 1 rfl rfl)
theorem dX2_tell_26 : decode cX2_tell 26 = .ok (.isub, 1) := dk_100 (dk_at dksX2_tell_1 2 rfl rfl)
theorem dX2_tell_27 : decode cX2_tell 27 = .ok (.iload_n 3, 1) := dk_29 (dk_at dksX2_tell_1 3 rfl rfl)
theorem dX2_tell_28 : decode cX2_tell 28 = .ok (.invokevirtual 165, 3) := dk_182 0 165 (dk_at dksX2_tell_1 4 rfl rfl)
theorem dX2_tell_31 : decode cX2_tell 31 = .ok (.goto 101, 3) := dk_167 0 101 (dk_at dksX2_tell_1 7 rfl rfl)
theorem dX2_tell_34 : decode cX2_tell 34 = .ok (.iload_n 2, 1) := dk_28 (dk_at dksX2_tell_1 10 rfl rfl)
theorem dX2_tell_35 : decode cX2_tell 35 = .ok (.invokestatic 131, 3) := dk_184 0 131 (dk_at dksX2_tell_1 11 rfl rfl)
theorem dX2_tell_38 : decode cX2_tell 38 = .ok (.ifCond .eq 15, 3) := dk_153 0 15 (dk_at dksX2_tell_1 14 rfl rfl)
theorem dX2_tell_41 : decode cX2_tell 41 = .ok (.aload_n 0, 1) := dk_42 (dk_at dksX2_tell_1 17 rfl rfl)
theorem dX2_tell_42 : decode cX2_tell 42 = .ok (.iload_n 2, 1) := dk_28 (dk_at dksX2_tell_1 18 rfl rfl)
theorem dX2_tell_43 : decode cX2_tell 43 = .ok (.bipush 7, 2) := dk_16 7 (dk_at dksX2_tell_1 19 rfl rfl)
theorem dX2_tell_45 : decode cX2_tell 45 = .ok (.isub, 1) := dk_100 (dk_at dksX2_tell_1 21 rfl rfl)
theorem dX2_tell_46 : decode cX2_tell 46 = .ok (.iload_n 3, 1) := dk_29 (dk_at dksX2_tell_1 22 rfl rfl)
theorem dX2_tell_47 : decode cX2_tell 47 = .ok (.invokevirtual 169, 3) := dk_182 0 169 (dk_at dksX2_tell_2 0 rfl rfl)
theorem dX2_tell_50 : decode cX2_tell 50 = .ok (.goto 82, 3) := dk_167 0 82 (dk_at dksX2_tell_2 3 rfl rfl)
theorem dX2_tell_53 : decode cX2_tell 53 = .ok (.iload_n 2, 1) := dk_28 (dk_at dksX2_tell_2 6 rfl rfl)
theorem dX2_tell_54 : decode cX2_tell 54 = .ok (.bipush 6, 2) := dk_16 6 (dk_at dksX2_tell_2 7 rfl rfl)
theorem dX2_tell_56 : decode cX2_tell 56 = .ok (.if_icmp .ne 11, 3) := dk_160 0 11 (dk_at dksX2_tell_2 9 rfl rfl)
theorem dX2_tell_59 : decode cX2_tell 59 = .ok (.aload_n 0, 1) := dk_42 (dk_at dksX2_tell_2 12 rfl rfl)
theorem dX2_tell_60 : decode cX2_tell 60 = .ok (.iload_n 1, 1) := dk_27 (dk_at dksX2_tell_2 13 rfl rfl)
theorem dX2_tell_61 : decode cX2_tell 61 = .ok (.invokevirtual 172, 3) := dk_182 0 172 (dk_at dksX2_tell_2 14 rfl rfl)
theorem dX2_tell_64 : decode cX2_tell 64 = .ok (.goto 68, 3) := dk_167 0 68 (dk_at dksX2_tell_2 17 rfl rfl)
theorem dX2_tell_67 : decode cX2_tell 67 = .ok (.iload_n 2, 1) := dk_28 (dk_at dksX2_tell_2 20 rfl rfl)
theorem dX2_tell_68 : decode cX2_tell 68 = .ok (.bipush 11, 2) := dk_16 11 (dk_at dksX2_tell_2 21 rfl rfl)
theorem dX2_tell_70 : decode cX2_tell 70 = .ok (.if_icmp .ne 11, 3) := dk_160 0 11 (dk_at dksX2_tell_3 0 rfl rfl)
theorem dX2_tell_73 : decode cX2_tell 73 = .ok (.aload_n 0, 1) := dk_42 (dk_at dksX2_tell_3 3 rfl rfl)
theorem dX2_tell_74 : decode cX2_tell 74 = .ok (.iload_n 3, 1) := dk_29 (dk_at dksX2_tell_3 4 rfl rfl)
theorem dX2_tell_75 : decode cX2_tell 75 = .ok (.putfield 38, 3) := dk_181 0 38 (dk_at dksX2_tell_3 5 rfl rfl)
theorem dX2_tell_78 : decode cX2_tell 78 = .ok (.goto 54, 3) := dk_167 0 54 (dk_at dksX2_tell_3 8 rfl rfl)
theorem dX2_tell_81 : decode cX2_tell 81 = .ok (.iload_n 2, 1) := dk_28 (dk_at dksX2_tell_3 11 rfl rfl)
theorem dX2_tell_82 : decode cX2_tell 82 = .ok (.ifCond .ne 10, 3) := dk_154 0 10 (dk_at dksX2_tell_3 12 rfl rfl)
theorem dX2_tell_85 : decode cX2_tell 85 = .ok (.aload_n 0, 1) := dk_42 (dk_at dksX2_tell_3 15 rfl rfl)
theorem dX2_tell_86 : decode cX2_tell 86 = .ok (.invokevirtual 176, 3) := dk_182 0 176 (dk_at dksX2_tell_3 16 rfl rfl)
theorem dX2_tell_89 : decode cX2_tell 89 = .ok (.goto 43, 3) := dk_167 0 43 (dk_at dksX2_tell_3 19 rfl rfl)
theorem dX2_tell_92 : decode cX2_tell 92 = .ok (.aload_n 0, 1) := dk_42 (dk_at dksX2_tell_3 22 rfl rfl)
theorem dX2_tell_93 : decode cX2_tell 93 = .ok (.iload_n 2, 1) := dk_28 (dk_at dksX2_tell_3 23 rfl rfl)
theorem dX2_tell_94 : decode cX2_tell 94 = .ok (.bipush 15, 2) := dk_16 15 (dk_at dksX2_tell_4 0 rfl rfl)
theorem dX2_tell_96 : decode cX2_tell 96 = .ok (.if_icmp .ne 7, 3) := dk_160 0 7 (dk_at dksX2_tell_4 2 rfl rfl)
theorem dX2_tell_99 : decode cX2_tell 99 = .ok (.iconst 0, 1) := dk_3 (dk_at dksX2_tell_4 5 rfl rfl)
theorem dX2_tell_100 : decode cX2_tell 100 = .ok (.goto 29, 3) := dk_167 0 29 (dk_at dksX2_tell_4 6 rfl rfl)
theorem dX2_tell_103 : decode cX2_tell 103 = .ok (.aload_n 0, 1) := dk_42 (dk_at dksX2_tell_4 9 rfl rfl)
theorem dX2_tell_104 : decode cX2_tell 104 = .ok (.getfield 162, 3) := dk_180 0 162 (dk_at dksX2_tell_4 10 rfl rfl)
theorem dX2_tell_107 : decode cX2_tell 107 = .ok (.iload_n 2, 1) := dk_28 (dk_at dksX2_tell_4 13 rfl rfl)
theorem dX2_tell_108 : decode cX2_tell 108 = .ok (.bipush 12, 2) := dk_16 12 (dk_at dksX2_tell_4 14 rfl rfl)
theorem dX2_tell_110 : decode cX2_tell 110 = .ok (.if_icmp .ne 7, 3) := dk_160 0 7 (dk_at dksX2_tell_4 16 rfl rfl)
theorem dX2_tell_113 : decode cX2_tell 113 = .ok (.iconst 1, 1) := dk_4 (dk_at dksX2_tell_4 19 rfl rfl)
theorem dX2_tell_114 : decode cX2_tell 114 = .ok (.goto 14, 3) := dk_167 0 14 (dk_at dksX2_tell_4 20 rfl rfl)
theorem dX2_tell_117 : decode cX2_tell 117 = .ok (.iload_n 2, 1) := dk_28 (dk_at dksX2_tell_4 23 rfl rfl)
theorem dX2_tell_118 : decode cX2_tell 118 = .ok (.bipush 13, 2) := dk_16 13 (dk_at dksX2_tell_5 0 rfl rfl)
theorem dX2_tell_120 : decode cX2_tell 120 = .ok (.if_icmp .ne 7, 3) := dk_160 0 7 (dk_at dksX2_tell_5 2 rfl rfl)
theorem dX2_tell_123 : decode cX2_tell 123 = .ok (.iconst 2, 1) := dk_5 (dk_at dksX2_tell_5 5 rfl rfl)
theorem dX2_tell_124 : decode cX2_tell 124 = .ok (.goto 4, 3) := dk_167 0 4 (dk_at dksX2_tell_5 6 rfl rfl)
theorem dX2_tell_127 : decode cX2_tell 127 = .ok (.iconst 4, 1) := dk_7 (dk_at dksX2_tell_5 9 rfl rfl)
theorem dX2_tell_128 : decode cX2_tell 128 = .ok (.ior, 1) := dk_128 (dk_at dksX2_tell_5 10 rfl rfl)
theorem dX2_tell_129 : decode cX2_tell 129 = .ok (.putfield 162, 3) := dk_181 0 162 (dk_at dksX2_tell_5 11 rfl rfl)
theorem dX2_tell_132 : decode cX2_tell 132 = .ok (.return_, 1) := dk_177 (dk_at dksX2_tell_5 14 rfl rfl)
abbrev cX2_addWord : ByteArray := prog_19_method_20_code
def yX2_addWord : MethodName := ⟨RX2, "addWord", "(II)V"⟩
def dkwX2_addWord_1 : List UInt8 := [180, 0, 149, 4, 96, 181, 0, 149, 177]
abbrev dktX2_addWord_1 : List UInt8 := dkwX2_addWord_1 ++ []
def dkwX2_addWord_0 : List UInt8 := [42, 180, 0, 23, 42, 180, 0, 149, 27, 79, 42, 180, 0, 26, 42, 180, 0, 149, 28, 79, 42, 89]
abbrev dktX2_addWord_0 : List UInt8 := dkwX2_addWord_0 ++ dktX2_addWord_1
theorem dksX2_addWord_0 : cX2_addWord.data.toList.drop 0 = dktX2_addWord_0 := by decide +kernel
theorem dksX2_addWord_1 : cX2_addWord.data.toList.drop 22 = dktX2_addWord_1 := dk_seg dksX2_addWord_0 22 rfl rfl
theorem dX2_addWord_0 : decode cX2_addWord 0 = .ok (.aload_n 0, 1) := dk_42 (dk_at dksX2_addWord_0 0 rfl rfl)
theorem dX2_addWord_1 : decode cX2_addWord 1 = .ok (.getfield 23, 3) := dk_180 0 23 (dk_at dksX2_addWord_0 1 rfl rfl)
theorem dX2_addWord_4 : decode cX2_addWord 4 = .ok (.aload_n 0, 1) := dk_42 (dk_at dksX2_addWord_0 4 rfl rfl)
theorem dX2_addWord_5 : decode cX2_addWord 5 = .ok (.getfield 149, 3) := dk_180 0 149 (dk_at dksX2_addWord_0 5 rfl rfl)
theorem dX2_addWord_8 : decode cX2_addWord 8 = .ok (.iload_n 1, 1) := dk_27 (dk_at dksX2_addWord_0 8 rfl rfl)
theorem dX2_addWord_9 : decode cX2_addWord 9 = .ok (.iastore, 1) := dk_79 (dk_at dksX2_addWord_0 9 rfl rfl)
theorem dX2_addWord_10 : decode cX2_addWord 10 = .ok (.aload_n 0, 1) := dk_42 (dk_at dksX2_addWord_0 10 rfl rfl)
theorem dX2_addWord_11 : decode cX2_addWord 11 = .ok (.getfield 26, 3) := dk_180 0 26 (dk_at dksX2_addWord_0 11 rfl rfl)
theorem dX2_addWord_14 : decode cX2_addWord 14 = .ok (.aload_n 0, 1) := dk_42 (dk_at dksX2_addWord_0 14 rfl rfl)
theorem dX2_addWord_15 : decode cX2_addWord 15 = .ok (.getfield 149, 3) := dk_180 0 149 (dk_at dksX2_addWord_0 15 rfl rfl)
theorem dX2_addWord_18 : decode cX2_addWord 18 = .ok (.iload_n 2, 1) := dk_28 (dk_at dksX2_addWord_0 18 rfl rfl)
theorem dX2_addWord_19 : decode cX2_addWord 19 = .ok (.iastore, 1) := dk_79 (dk_at dksX2_addWord_0 19 rfl rfl)
theorem dX2_addWord_20 : decode cX2_addWord 20 = .ok (.aload_n 0, 1) := dk_42 (dk_at dksX2_addWord_0 20 rfl rfl)
theorem dX2_addWord_21 : decode cX2_addWord 21 = .ok (.dup, 1) := dk_89 (dk_at dksX2_addWord_0 21 rfl rfl)
theorem dX2_addWord_22 : decode cX2_addWord 22 = .ok (.getfield 149, 3) := dk_180 0 149 (dk_at dksX2_addWord_1 0 rfl rfl)
theorem dX2_addWord_25 : decode cX2_addWord 25 = .ok (.iconst 1, 1) := dk_4 (dk_at dksX2_addWord_1 3 rfl rfl)
theorem dX2_addWord_26 : decode cX2_addWord 26 = .ok (.iadd, 1) := dk_96 (dk_at dksX2_addWord_1 4 rfl rfl)
theorem dX2_addWord_27 : decode cX2_addWord 27 = .ok (.putfield 149, 3) := dk_181 0 149 (dk_at dksX2_addWord_1 5 rfl rfl)
theorem dX2_addWord_30 : decode cX2_addWord 30 = .ok (.return_, 1) := dk_177 (dk_at dksX2_addWord_1 8 rfl rfl)
abbrev cX2_addOne : ByteArray := prog_19_method_21_code
def yX2_addOne : MethodName := ⟨RX2, "addOne", "(II)V"⟩
def dkwX2_addOne_1 : List UInt8 := [180, 0, 155, 4, 96, 181, 0, 155, 177]
abbrev dktX2_addOne_1 : List UInt8 := dkwX2_addOne_1 ++ []
def dkwX2_addOne_0 : List UInt8 := [42, 180, 0, 32, 42, 180, 0, 155, 27, 79, 42, 180, 0, 35, 42, 180, 0, 155, 28, 79, 42, 89]
abbrev dktX2_addOne_0 : List UInt8 := dkwX2_addOne_0 ++ dktX2_addOne_1
theorem dksX2_addOne_0 : cX2_addOne.data.toList.drop 0 = dktX2_addOne_0 := by decide +kernel
theorem dksX2_addOne_1 : cX2_addOne.data.toList.drop 22 = dktX2_addOne_1 := dk_seg dksX2_addOne_0 22 rfl rfl
theorem dX2_addOne_0 : decode cX2_addOne 0 = .ok (.aload_n 0, 1) := dk_42 (dk_at dksX2_addOne_0 0 rfl rfl)
theorem dX2_addOne_1 : decode cX2_addOne 1 = .ok (.getfield 32, 3) := dk_180 0 32 (dk_at dksX2_addOne_0 1 rfl rfl)
theorem dX2_addOne_4 : decode cX2_addOne 4 = .ok (.aload_n 0, 1) := dk_42 (dk_at dksX2_addOne_0 4 rfl rfl)
theorem dX2_addOne_5 : decode cX2_addOne 5 = .ok (.getfield 155, 3) := dk_180 0 155 (dk_at dksX2_addOne_0 5 rfl rfl)
theorem dX2_addOne_8 : decode cX2_addOne 8 = .ok (.iload_n 1, 1) := dk_27 (dk_at dksX2_addOne_0 8 rfl rfl)
theorem dX2_addOne_9 : decode cX2_addOne 9 = .ok (.iastore, 1) := dk_79 (dk_at dksX2_addOne_0 9 rfl rfl)
theorem dX2_addOne_10 : decode cX2_addOne 10 = .ok (.aload_n 0, 1) := dk_42 (dk_at dksX2_addOne_0 10 rfl rfl)
theorem dX2_addOne_11 : decode cX2_addOne 11 = .ok (.getfield 35, 3) := dk_180 0 35 (dk_at dksX2_addOne_0 11 rfl rfl)
theorem dX2_addOne_14 : decode cX2_addOne 14 = .ok (.aload_n 0, 1) := dk_42 (dk_at dksX2_addOne_0 14 rfl rfl)
theorem dX2_addOne_15 : decode cX2_addOne 15 = .ok (.getfield 155, 3) := dk_180 0 155 (dk_at dksX2_addOne_0 15 rfl rfl)
theorem dX2_addOne_18 : decode cX2_addOne 18 = .ok (.iload_n 2, 1) := dk_28 (dk_at dksX2_addOne_0 18 rfl rfl)
theorem dX2_addOne_19 : decode cX2_addOne 19 = .ok (.iastore, 1) := dk_79 (dk_at dksX2_addOne_0 19 rfl rfl)
theorem dX2_addOne_20 : decode cX2_addOne 20 = .ok (.aload_n 0, 1) := dk_42 (dk_at dksX2_addOne_0 20 rfl rfl)
theorem dX2_addOne_21 : decode cX2_addOne 21 = .ok (.dup, 1) := dk_89 (dk_at dksX2_addOne_0 21 rfl rfl)
theorem dX2_addOne_22 : decode cX2_addOne 22 = .ok (.getfield 155, 3) := dk_180 0 155 (dk_at dksX2_addOne_1 0 rfl rfl)
theorem dX2_addOne_25 : decode cX2_addOne 25 = .ok (.iconst 1, 1) := dk_4 (dk_at dksX2_addOne_1 3 rfl rfl)
theorem dX2_addOne_26 : decode cX2_addOne 26 = .ok (.iadd, 1) := dk_96 (dk_at dksX2_addOne_1 4 rfl rfl)
theorem dX2_addOne_27 : decode cX2_addOne 27 = .ok (.putfield 155, 3) := dk_181 0 155 (dk_at dksX2_addOne_1 5 rfl rfl)
theorem dX2_addOne_30 : decode cX2_addOne 30 = .ok (.return_, 1) := dk_177 (dk_at dksX2_addOne_1 8 rfl rfl)
abbrev cX2_addChange : ByteArray := prog_19_method_22_code
def yX2_addChange : MethodName := ⟨RX2, "addChange", "(I)V"⟩
def dkwX2_addChange_1 : List UInt8 := [4, 96, 28, 96, 46, 79, 132, 2, 1, 167, 255, 225, 42, 89, 180, 0, 152, 4, 96, 181, 0, 152, 177]
abbrev dktX2_addChange_1 : List UInt8 := dkwX2_addChange_1 ++ []
def dkwX2_addChange_0 : List UInt8 := [3, 61, 28, 6, 162, 0, 32, 42, 180, 0, 29, 6, 42, 180, 0, 152, 104, 28, 96, 42, 180, 0, 20, 27]
abbrev dktX2_addChange_0 : List UInt8 := dkwX2_addChange_0 ++ dktX2_addChange_1
theorem dksX2_addChange_0 : cX2_addChange.data.toList.drop 0 = dktX2_addChange_0 := by decide +kernel
theorem dksX2_addChange_1 : cX2_addChange.data.toList.drop 24 = dktX2_addChange_1 := dk_seg dksX2_addChange_0 24 rfl rfl
theorem dX2_addChange_0 : decode cX2_addChange 0 = .ok (.iconst 0, 1) := dk_3 (dk_at dksX2_addChange_0 0 rfl rfl)
theorem dX2_addChange_1 : decode cX2_addChange 1 = .ok (.istore_n 2, 1) := dk_61 (dk_at dksX2_addChange_0 1 rfl rfl)
theorem dX2_addChange_2 : decode cX2_addChange 2 = .ok (.iload_n 2, 1) := dk_28 (dk_at dksX2_addChange_0 2 rfl rfl)
theorem dX2_addChange_3 : decode cX2_addChange 3 = .ok (.iconst 3, 1) := dk_6 (dk_at dksX2_addChange_0 3 rfl rfl)
theorem dX2_addChange_4 : decode cX2_addChange 4 = .ok (.if_icmp .ge 32, 3) := dk_162 0 32 (dk_at dksX2_addChange_0 4 rfl rfl)
theorem dX2_addChange_7 : decode cX2_addChange 7 = .ok (.aload_n 0, 1) := dk_42 (dk_at dksX2_addChange_0 7 rfl rfl)
theorem dX2_addChange_8 : decode cX2_addChange 8 = .ok (.getfield 29, 3) := dk_180 0 29 (dk_at dksX2_addChange_0 8 rfl rfl)
theorem dX2_addChange_11 : decode cX2_addChange 11 = .ok (.iconst 3, 1) := dk_6 (dk_at dksX2_addChange_0 11 rfl rfl)
theorem dX2_addChange_12 : decode cX2_addChange 12 = .ok (.aload_n 0, 1) := dk_42 (dk_at dksX2_addChange_0 12 rfl rfl)
theorem dX2_addChange_13 : decode cX2_addChange 13 = .ok (.getfield 152, 3) := dk_180 0 152 (dk_at dksX2_addChange_0 13 rfl rfl)
theorem dX2_addChange_16 : decode cX2_addChange 16 = .ok (.imul, 1) := dk_104 (dk_at dksX2_addChange_0 16 rfl rfl)
theorem dX2_addChange_17 : decode cX2_addChange 17 = .ok (.iload_n 2, 1) := dk_28 (dk_at dksX2_addChange_0 17 rfl rfl)
theorem dX2_addChange_18 : decode cX2_addChange 18 = .ok (.iadd, 1) := dk_96 (dk_at dksX2_addChange_0 18 rfl rfl)
theorem dX2_addChange_19 : decode cX2_addChange 19 = .ok (.aload_n 0, 1) := dk_42 (dk_at dksX2_addChange_0 19 rfl rfl)
theorem dX2_addChange_20 : decode cX2_addChange 20 = .ok (.getfield 20, 3) := dk_180 0 20 (dk_at dksX2_addChange_0 20 rfl rfl)
theorem dX2_addChange_23 : decode cX2_addChange 23 = .ok (.iload_n 1, 1) := dk_27 (dk_at dksX2_addChange_0 23 rfl rfl)
theorem dX2_addChange_24 : decode cX2_addChange 24 = .ok (.iconst 1, 1) := dk_4 (dk_at dksX2_addChange_1 0 rfl rfl)
theorem dX2_addChange_25 : decode cX2_addChange 25 = .ok (.iadd, 1) := dk_96 (dk_at dksX2_addChange_1 1 rfl rfl)
theorem dX2_addChange_26 : decode cX2_addChange 26 = .ok (.iload_n 2, 1) := dk_28 (dk_at dksX2_addChange_1 2 rfl rfl)
theorem dX2_addChange_27 : decode cX2_addChange 27 = .ok (.iadd, 1) := dk_96 (dk_at dksX2_addChange_1 3 rfl rfl)
theorem dX2_addChange_28 : decode cX2_addChange 28 = .ok (.iaload, 1) := dk_46 (dk_at dksX2_addChange_1 4 rfl rfl)
theorem dX2_addChange_29 : decode cX2_addChange 29 = .ok (.iastore, 1) := dk_79 (dk_at dksX2_addChange_1 5 rfl rfl)
theorem dX2_addChange_30 : decode cX2_addChange 30 = .ok (.iinc 2 1, 3) := dk_132 2 1 (dk_at dksX2_addChange_1 6 rfl rfl)
theorem dX2_addChange_33 : decode cX2_addChange 33 = .ok (.goto (-31), 3) := dk_167 255 225 (dk_at dksX2_addChange_1 9 rfl rfl)
theorem dX2_addChange_36 : decode cX2_addChange 36 = .ok (.aload_n 0, 1) := dk_42 (dk_at dksX2_addChange_1 12 rfl rfl)
theorem dX2_addChange_37 : decode cX2_addChange 37 = .ok (.dup, 1) := dk_89 (dk_at dksX2_addChange_1 13 rfl rfl)
theorem dX2_addChange_38 : decode cX2_addChange 38 = .ok (.getfield 152, 3) := dk_180 0 152 (dk_at dksX2_addChange_1 14 rfl rfl)
theorem dX2_addChange_41 : decode cX2_addChange 41 = .ok (.iconst 1, 1) := dk_4 (dk_at dksX2_addChange_1 17 rfl rfl)
theorem dX2_addChange_42 : decode cX2_addChange 42 = .ok (.iadd, 1) := dk_96 (dk_at dksX2_addChange_1 18 rfl rfl)
theorem dX2_addChange_43 : decode cX2_addChange 43 = .ok (.putfield 152, 3) := dk_181 0 152 (dk_at dksX2_addChange_1 19 rfl rfl)
theorem dX2_addChange_46 : decode cX2_addChange 46 = .ok (.return_, 1) := dk_177 (dk_at dksX2_addChange_1 22 rfl rfl)
abbrev cX2_clear : ByteArray := prog_19_method_19_code
def yX2_clear : MethodName := ⟨RX2, "clear", "()V"⟩
def dkwX2_clear_1 : List UInt8 := [181, 0, 162, 177]
abbrev dktX2_clear_1 : List UInt8 := dkwX2_clear_1 ++ []
def dkwX2_clear_0 : List UInt8 := [42, 3, 181, 0, 149, 42, 3, 181, 0, 152, 42, 3, 181, 0, 155, 42, 16, 9, 181, 0, 38, 42, 3]
abbrev dktX2_clear_0 : List UInt8 := dkwX2_clear_0 ++ dktX2_clear_1
theorem dksX2_clear_0 : cX2_clear.data.toList.drop 0 = dktX2_clear_0 := by decide +kernel
theorem dksX2_clear_1 : cX2_clear.data.toList.drop 23 = dktX2_clear_1 := dk_seg dksX2_clear_0 23 rfl rfl
theorem dX2_clear_0 : decode cX2_clear 0 = .ok (.aload_n 0, 1) := dk_42 (dk_at dksX2_clear_0 0 rfl rfl)
theorem dX2_clear_1 : decode cX2_clear 1 = .ok (.iconst 0, 1) := dk_3 (dk_at dksX2_clear_0 1 rfl rfl)
theorem dX2_clear_2 : decode cX2_clear 2 = .ok (.putfield 149, 3) := dk_181 0 149 (dk_at dksX2_clear_0 2 rfl rfl)
theorem dX2_clear_5 : decode cX2_clear 5 = .ok (.aload_n 0, 1) := dk_42 (dk_at dksX2_clear_0 5 rfl rfl)
theorem dX2_clear_6 : decode cX2_clear 6 = .ok (.iconst 0, 1) := dk_3 (dk_at dksX2_clear_0 6 rfl rfl)
theorem dX2_clear_7 : decode cX2_clear 7 = .ok (.putfield 152, 3) := dk_181 0 152 (dk_at dksX2_clear_0 7 rfl rfl)
theorem dX2_clear_10 : decode cX2_clear 10 = .ok (.aload_n 0, 1) := dk_42 (dk_at dksX2_clear_0 10 rfl rfl)
theorem dX2_clear_11 : decode cX2_clear 11 = .ok (.iconst 0, 1) := dk_3 (dk_at dksX2_clear_0 11 rfl rfl)
theorem dX2_clear_12 : decode cX2_clear 12 = .ok (.putfield 155, 3) := dk_181 0 155 (dk_at dksX2_clear_0 12 rfl rfl)
theorem dX2_clear_15 : decode cX2_clear 15 = .ok (.aload_n 0, 1) := dk_42 (dk_at dksX2_clear_0 15 rfl rfl)
theorem dX2_clear_16 : decode cX2_clear 16 = .ok (.bipush 9, 2) := dk_16 9 (dk_at dksX2_clear_0 16 rfl rfl)
theorem dX2_clear_18 : decode cX2_clear 18 = .ok (.putfield 38, 3) := dk_181 0 38 (dk_at dksX2_clear_0 18 rfl rfl)
theorem dX2_clear_21 : decode cX2_clear 21 = .ok (.aload_n 0, 1) := dk_42 (dk_at dksX2_clear_0 21 rfl rfl)
theorem dX2_clear_22 : decode cX2_clear 22 = .ok (.iconst 0, 1) := dk_3 (dk_at dksX2_clear_0 22 rfl rfl)
theorem dX2_clear_23 : decode cX2_clear 23 = .ok (.putfield 162, 3) := dk_181 0 162 (dk_at dksX2_clear_1 0 rfl rfl)
theorem dX2_clear_26 : decode cX2_clear 26 = .ok (.return_, 1) := dk_177 (dk_at dksX2_clear_1 3 rfl rfl)
abbrev cX2_word : ByteArray := prog_19_method_39_code
def yX2_word : MethodName := ⟨RX2, "word", "(II)I"⟩
def dkwX2_word_4 : List UInt8 := [167, 0, 14, 28, 6, 160, 0, 7, 29, 167, 0, 5, 16, 253, 172]
abbrev dktX2_word_4 : List UInt8 := dkwX2_word_4 ++ []
def dkwX2_word_3 : List UInt8 := [160, 0, 12, 42, 180, 0, 26, 27, 46, 167, 0, 28, 28, 5, 160, 0, 12, 42, 180, 0, 23, 27, 46]
abbrev dktX2_word_3 : List UInt8 := dkwX2_word_3 ++ dktX2_word_4
def dkwX2_word_2 : List UInt8 := [167, 255, 226, 28, 154, 0, 17, 42, 27, 42, 180, 0, 7, 3, 46, 182, 0, 197, 167, 0, 42, 28, 4]
abbrev dktX2_word_2 : List UInt8 := dkwX2_word_2 ++ dktX2_word_3
def dkwX2_word_1 : List UInt8 := [162, 0, 27, 29, 42, 180, 0, 7, 16, 17, 16, 10, 21, 4, 104, 96, 27, 96, 46, 96, 62, 132, 4, 1]
abbrev dktX2_word_1 : List UInt8 := dkwX2_word_1 ++ dktX2_word_2
def dkwX2_word_0 : List UInt8 := [42, 27, 182, 0, 225, 154, 0, 6, 16, 254, 172, 3, 62, 3, 54, 4, 21, 4, 42, 180, 0, 155]
abbrev dktX2_word_0 : List UInt8 := dkwX2_word_0 ++ dktX2_word_1
theorem dksX2_word_0 : cX2_word.data.toList.drop 0 = dktX2_word_0 := by decide +kernel
theorem dksX2_word_1 : cX2_word.data.toList.drop 22 = dktX2_word_1 := dk_seg dksX2_word_0 22 rfl rfl
theorem dksX2_word_2 : cX2_word.data.toList.drop 46 = dktX2_word_2 := dk_seg dksX2_word_1 24 rfl rfl
theorem dksX2_word_3 : cX2_word.data.toList.drop 69 = dktX2_word_3 := dk_seg dksX2_word_2 23 rfl rfl
theorem dksX2_word_4 : cX2_word.data.toList.drop 92 = dktX2_word_4 := dk_seg dksX2_word_3 23 rfl rfl
theorem dX2_word_0 : decode cX2_word 0 = .ok (.aload_n 0, 1) := dk_42 (dk_at dksX2_word_0 0 rfl rfl)
theorem dX2_word_1 : decode cX2_word 1 = .ok (.iload_n 1, 1) := dk_27 (dk_at dksX2_word_0 1 rfl rfl)
theorem dX2_word_2 : decode cX2_word 2 = .ok (.invokevirtual 225, 3) := dk_182 0 225 (dk_at dksX2_word_0 2 rfl rfl)
theorem dX2_word_5 : decode cX2_word 5 = .ok (.ifCond .ne 6, 3) := dk_154 0 6 (dk_at dksX2_word_0 5 rfl rfl)
theorem dX2_word_8 : decode cX2_word 8 = .ok (.bipush (-2), 2) := dk_16 254 (dk_at dksX2_word_0 8 rfl rfl)
theorem dX2_word_10 : decode cX2_word 10 = .ok (.ireturn, 1) := dk_172 (dk_at dksX2_word_0 10 rfl rfl)
theorem dX2_word_11 : decode cX2_word 11 = .ok (.iconst 0, 1) := dk_3 (dk_at dksX2_word_0 11 rfl rfl)
theorem dX2_word_12 : decode cX2_word 12 = .ok (.istore_n 3, 1) := dk_62 (dk_at dksX2_word_0 12 rfl rfl)
theorem dX2_word_13 : decode cX2_word 13 = .ok (.iconst 0, 1) := dk_3 (dk_at dksX2_word_0 13 rfl rfl)
theorem dX2_word_14 : decode cX2_word 14 = .ok (.istore 4, 2) := dk_54 4 (dk_at dksX2_word_0 14 rfl rfl)
theorem dX2_word_16 : decode cX2_word 16 = .ok (.iload 4, 2) := dk_21 4 (dk_at dksX2_word_0 16 rfl rfl)
theorem dX2_word_18 : decode cX2_word 18 = .ok (.aload_n 0, 1) := dk_42 (dk_at dksX2_word_0 18 rfl rfl)
theorem dX2_word_19 : decode cX2_word 19 = .ok (.getfield 155, 3) := dk_180 0 155 (dk_at dksX2_word_0 19 rfl rfl)
theorem dX2_word_22 : decode cX2_word 22 = .ok (.if_icmp .ge 27, 3) := dk_162 0 27 (dk_at dksX2_word_1 0 rfl rfl)
theorem dX2_word_25 : decode cX2_word 25 = .ok (.iload_n 3, 1) := dk_29 (dk_at dksX2_word_1 3 rfl rfl)
theorem dX2_word_26 : decode cX2_word 26 = .ok (.aload_n 0, 1) := dk_42 (dk_at dksX2_word_1 4 rfl rfl)
theorem dX2_word_27 : decode cX2_word 27 = .ok (.getfield 7, 3) := dk_180 0 7 (dk_at dksX2_word_1 5 rfl rfl)
theorem dX2_word_30 : decode cX2_word 30 = .ok (.bipush 17, 2) := dk_16 17 (dk_at dksX2_word_1 8 rfl rfl)
theorem dX2_word_32 : decode cX2_word 32 = .ok (.bipush 10, 2) := dk_16 10 (dk_at dksX2_word_1 10 rfl rfl)
theorem dX2_word_34 : decode cX2_word 34 = .ok (.iload 4, 2) := dk_21 4 (dk_at dksX2_word_1 12 rfl rfl)
theorem dX2_word_36 : decode cX2_word 36 = .ok (.imul, 1) := dk_104 (dk_at dksX2_word_1 14 rfl rfl)
theorem dX2_word_37 : decode cX2_word 37 = .ok (.iadd, 1) := dk_96 (dk_at dksX2_word_1 15 rfl rfl)
theorem dX2_word_38 : decode cX2_word 38 = .ok (.iload_n 1, 1) := dk_27 (dk_at dksX2_word_1 16 rfl rfl)
theorem dX2_word_39 : decode cX2_word 39 = .ok (.iadd, 1) := dk_96 (dk_at dksX2_word_1 17 rfl rfl)
theorem dX2_word_40 : decode cX2_word 40 = .ok (.iaload, 1) := dk_46 (dk_at dksX2_word_1 18 rfl rfl)
theorem dX2_word_41 : decode cX2_word 41 = .ok (.iadd, 1) := dk_96 (dk_at dksX2_word_1 19 rfl rfl)
theorem dX2_word_42 : decode cX2_word 42 = .ok (.istore_n 3, 1) := dk_62 (dk_at dksX2_word_1 20 rfl rfl)
theorem dX2_word_43 : decode cX2_word 43 = .ok (.iinc 4 1, 3) := dk_132 4 1 (dk_at dksX2_word_1 21 rfl rfl)
theorem dX2_word_46 : decode cX2_word 46 = .ok (.goto (-30), 3) := dk_167 255 226 (dk_at dksX2_word_2 0 rfl rfl)
theorem dX2_word_49 : decode cX2_word 49 = .ok (.iload_n 2, 1) := dk_28 (dk_at dksX2_word_2 3 rfl rfl)
theorem dX2_word_50 : decode cX2_word 50 = .ok (.ifCond .ne 17, 3) := dk_154 0 17 (dk_at dksX2_word_2 4 rfl rfl)
theorem dX2_word_53 : decode cX2_word 53 = .ok (.aload_n 0, 1) := dk_42 (dk_at dksX2_word_2 7 rfl rfl)
theorem dX2_word_54 : decode cX2_word 54 = .ok (.iload_n 1, 1) := dk_27 (dk_at dksX2_word_2 8 rfl rfl)
theorem dX2_word_55 : decode cX2_word 55 = .ok (.aload_n 0, 1) := dk_42 (dk_at dksX2_word_2 9 rfl rfl)
theorem dX2_word_56 : decode cX2_word 56 = .ok (.getfield 7, 3) := dk_180 0 7 (dk_at dksX2_word_2 10 rfl rfl)
theorem dX2_word_59 : decode cX2_word 59 = .ok (.iconst 0, 1) := dk_3 (dk_at dksX2_word_2 13 rfl rfl)
theorem dX2_word_60 : decode cX2_word 60 = .ok (.iaload, 1) := dk_46 (dk_at dksX2_word_2 14 rfl rfl)
theorem dX2_word_61 : decode cX2_word 61 = .ok (.invokevirtual 197, 3) := dk_182 0 197 (dk_at dksX2_word_2 15 rfl rfl)
theorem dX2_word_64 : decode cX2_word 64 = .ok (.goto 42, 3) := dk_167 0 42 (dk_at dksX2_word_2 18 rfl rfl)
theorem dX2_word_67 : decode cX2_word 67 = .ok (.iload_n 2, 1) := dk_28 (dk_at dksX2_word_2 21 rfl rfl)
theorem dX2_word_68 : decode cX2_word 68 = .ok (.iconst 1, 1) := dk_4 (dk_at dksX2_word_2 22 rfl rfl)
theorem dX2_word_69 : decode cX2_word 69 = .ok (.if_icmp .ne 12, 3) := dk_160 0 12 (dk_at dksX2_word_3 0 rfl rfl)
theorem dX2_word_72 : decode cX2_word 72 = .ok (.aload_n 0, 1) := dk_42 (dk_at dksX2_word_3 3 rfl rfl)
theorem dX2_word_73 : decode cX2_word 73 = .ok (.getfield 26, 3) := dk_180 0 26 (dk_at dksX2_word_3 4 rfl rfl)
theorem dX2_word_76 : decode cX2_word 76 = .ok (.iload_n 1, 1) := dk_27 (dk_at dksX2_word_3 7 rfl rfl)
theorem dX2_word_77 : decode cX2_word 77 = .ok (.iaload, 1) := dk_46 (dk_at dksX2_word_3 8 rfl rfl)
theorem dX2_word_78 : decode cX2_word 78 = .ok (.goto 28, 3) := dk_167 0 28 (dk_at dksX2_word_3 9 rfl rfl)
theorem dX2_word_81 : decode cX2_word 81 = .ok (.iload_n 2, 1) := dk_28 (dk_at dksX2_word_3 12 rfl rfl)
theorem dX2_word_82 : decode cX2_word 82 = .ok (.iconst 2, 1) := dk_5 (dk_at dksX2_word_3 13 rfl rfl)
theorem dX2_word_83 : decode cX2_word 83 = .ok (.if_icmp .ne 12, 3) := dk_160 0 12 (dk_at dksX2_word_3 14 rfl rfl)
theorem dX2_word_86 : decode cX2_word 86 = .ok (.aload_n 0, 1) := dk_42 (dk_at dksX2_word_3 17 rfl rfl)
theorem dX2_word_87 : decode cX2_word 87 = .ok (.getfield 23, 3) := dk_180 0 23 (dk_at dksX2_word_3 18 rfl rfl)
theorem dX2_word_90 : decode cX2_word 90 = .ok (.iload_n 1, 1) := dk_27 (dk_at dksX2_word_3 21 rfl rfl)
theorem dX2_word_91 : decode cX2_word 91 = .ok (.iaload, 1) := dk_46 (dk_at dksX2_word_3 22 rfl rfl)
theorem dX2_word_92 : decode cX2_word 92 = .ok (.goto 14, 3) := dk_167 0 14 (dk_at dksX2_word_4 0 rfl rfl)
theorem dX2_word_95 : decode cX2_word 95 = .ok (.iload_n 2, 1) := dk_28 (dk_at dksX2_word_4 3 rfl rfl)
theorem dX2_word_96 : decode cX2_word 96 = .ok (.iconst 3, 1) := dk_6 (dk_at dksX2_word_4 4 rfl rfl)
theorem dX2_word_97 : decode cX2_word 97 = .ok (.if_icmp .ne 7, 3) := dk_160 0 7 (dk_at dksX2_word_4 5 rfl rfl)
theorem dX2_word_100 : decode cX2_word 100 = .ok (.iload_n 3, 1) := dk_29 (dk_at dksX2_word_4 8 rfl rfl)
theorem dX2_word_101 : decode cX2_word 101 = .ok (.goto 5, 3) := dk_167 0 5 (dk_at dksX2_word_4 9 rfl rfl)
theorem dX2_word_104 : decode cX2_word 104 = .ok (.bipush (-3), 2) := dk_16 253 (dk_at dksX2_word_4 12 rfl rfl)
theorem dX2_word_106 : decode cX2_word 106 = .ok (.ireturn, 1) := dk_172 (dk_at dksX2_word_4 14 rfl rfl)
abbrev cX2_isWordThere : ByteArray := prog_19_method_25_code
def yX2_isWordThere : MethodName := ⟨RX2, "isWordThere", "(I)Z"⟩
def dkwX2_isWordThere_0 : List UInt8 := [27, 133, 9, 42, 180, 0, 149, 4, 100, 133, 184, 0, 65, 172]
abbrev dktX2_isWordThere_0 : List UInt8 := dkwX2_isWordThere_0 ++ []
theorem dksX2_isWordThere_0 : cX2_isWordThere.data.toList.drop 0 = dktX2_isWordThere_0 := by decide +kernel
theorem dX2_isWordThere_0 : decode cX2_isWordThere 0 = .ok (.iload_n 1, 1) := dk_27 (dk_at dksX2_isWordThere_0 0 rfl rfl)
theorem dX2_isWordThere_1 : decode cX2_isWordThere 1 = .ok (.i2l, 1) := dk_133 (dk_at dksX2_isWordThere_0 1 rfl rfl)
theorem dX2_isWordThere_2 : decode cX2_isWordThere 2 = .ok (.lconst 0, 1) := dk_9 (dk_at dksX2_isWordThere_0 2 rfl rfl)
theorem dX2_isWordThere_3 : decode cX2_isWordThere 3 = .ok (.aload_n 0, 1) := dk_42 (dk_at dksX2_isWordThere_0 3 rfl rfl)
theorem dX2_isWordThere_4 : decode cX2_isWordThere 4 = .ok (.getfield 149, 3) := dk_180 0 149 (dk_at dksX2_isWordThere_0 4 rfl rfl)
theorem dX2_isWordThere_7 : decode cX2_isWordThere 7 = .ok (.iconst 1, 1) := dk_4 (dk_at dksX2_isWordThere_0 7 rfl rfl)
theorem dX2_isWordThere_8 : decode cX2_isWordThere 8 = .ok (.isub, 1) := dk_100 (dk_at dksX2_isWordThere_0 8 rfl rfl)
theorem dX2_isWordThere_9 : decode cX2_isWordThere 9 = .ok (.i2l, 1) := dk_133 (dk_at dksX2_isWordThere_0 9 rfl rfl)
theorem dX2_isWordThere_10 : decode cX2_isWordThere 10 = .ok (.invokestatic 65, 3) := dk_184 0 65 (dk_at dksX2_isWordThere_0 10 rfl rfl)
theorem dX2_isWordThere_13 : decode cX2_isWordThere 13 = .ok (.ireturn, 1) := dk_172 (dk_at dksX2_isWordThere_0 13 rfl rfl)
abbrev cX2_kindIn : ByteArray := prog_19_method_27_code
def yX2_kindIn : MethodName := ⟨RX2, "kindIn", "(II)I"⟩
def dkwX2_kindIn_5 : List UInt8 := [132, 5, 1, 167, 255, 149, 29, 172]
abbrev dktX2_kindIn_5 : List UInt8 := dkwX2_kindIn_5 ++ []
def dkwX2_kindIn_4 : List UInt8 := [21, 6, 153, 0, 17, 42, 180, 0, 29, 6, 21, 5, 104, 5, 96, 46, 167, 0, 5, 21, 4, 54, 4]
abbrev dktX2_kindIn_4 : List UInt8 := dkwX2_kindIn_4 ++ dktX2_kindIn_5
def dkwX2_kindIn_3 : List UInt8 := [54, 6, 21, 6, 153, 0, 17, 42, 180, 0, 29, 6, 21, 5, 104, 4, 96, 46, 167, 0, 4, 29, 62]
abbrev dktX2_kindIn_3 : List UInt8 := dkwX2_kindIn_3 ++ dktX2_kindIn_4
def dkwX2_kindIn_2 : List UInt8 := [163, 0, 23, 42, 180, 0, 29, 6, 21, 5, 104, 5, 96, 46, 21, 4, 161, 0, 7, 4, 167, 0, 4, 3]
abbrev dktX2_kindIn_2 : List UInt8 := dkwX2_kindIn_2 ++ dktX2_kindIn_3
def dkwX2_kindIn_1 : List UInt8 := [180, 0, 29, 6, 21, 5, 104, 46, 27, 160, 0, 38, 42, 180, 0, 29, 6, 21, 5, 104, 5, 96, 46, 28]
abbrev dktX2_kindIn_1 : List UInt8 := dkwX2_kindIn_1 ++ dktX2_kindIn_2
def dkwX2_kindIn_0 : List UInt8 := [42, 180, 0, 23, 27, 46, 62, 2, 54, 4, 3, 54, 5, 21, 5, 42, 180, 0, 152, 162, 0, 104, 42]
abbrev dktX2_kindIn_0 : List UInt8 := dkwX2_kindIn_0 ++ dktX2_kindIn_1
theorem dksX2_kindIn_0 : cX2_kindIn.data.toList.drop 0 = dktX2_kindIn_0 := by decide +kernel
theorem dksX2_kindIn_1 : cX2_kindIn.data.toList.drop 23 = dktX2_kindIn_1 := dk_seg dksX2_kindIn_0 23 rfl rfl
theorem dksX2_kindIn_2 : cX2_kindIn.data.toList.drop 47 = dktX2_kindIn_2 := dk_seg dksX2_kindIn_1 24 rfl rfl
theorem dksX2_kindIn_3 : cX2_kindIn.data.toList.drop 71 = dktX2_kindIn_3 := dk_seg dksX2_kindIn_2 24 rfl rfl
theorem dksX2_kindIn_4 : cX2_kindIn.data.toList.drop 94 = dktX2_kindIn_4 := dk_seg dksX2_kindIn_3 23 rfl rfl
theorem dksX2_kindIn_5 : cX2_kindIn.data.toList.drop 117 = dktX2_kindIn_5 := dk_seg dksX2_kindIn_4 23 rfl rfl
theorem dX2_kindIn_0 : decode cX2_kindIn 0 = .ok (.aload_n 0, 1) := dk_42 (dk_at dksX2_kindIn_0 0 rfl rfl)
theorem dX2_kindIn_1 : decode cX2_kindIn 1 = .ok (.getfield 23, 3) := dk_180 0 23 (dk_at dksX2_kindIn_0 1 rfl rfl)
theorem dX2_kindIn_4 : decode cX2_kindIn 4 = .ok (.iload_n 1, 1) := dk_27 (dk_at dksX2_kindIn_0 4 rfl rfl)
theorem dX2_kindIn_5 : decode cX2_kindIn 5 = .ok (.iaload, 1) := dk_46 (dk_at dksX2_kindIn_0 5 rfl rfl)
theorem dX2_kindIn_6 : decode cX2_kindIn 6 = .ok (.istore_n 3, 1) := dk_62 (dk_at dksX2_kindIn_0 6 rfl rfl)
theorem dX2_kindIn_7 : decode cX2_kindIn 7 = .ok (.iconst (-1), 1) := dk_2 (dk_at dksX2_kindIn_0 7 rfl rfl)
theorem dX2_kindIn_8 : decode cX2_kindIn 8 = .ok (.istore 4, 2) := dk_54 4 (dk_at dksX2_kindIn_0 8 rfl rfl)
theorem dX2_kindIn_10 : decode cX2_kindIn 10 = .ok (.iconst 0, 1) := dk_3 (dk_at dksX2_kindIn_0 10 rfl rfl)
theorem dX2_kindIn_11 : decode cX2_kindIn 11 = .ok (.istore 5, 2) := dk_54 5 (dk_at dksX2_kindIn_0 11 rfl rfl)
theorem dX2_kindIn_13 : decode cX2_kindIn 13 = .ok (.iload 5, 2) := dk_21 5 (dk_at dksX2_kindIn_0 13 rfl rfl)
theorem dX2_kindIn_15 : decode cX2_kindIn 15 = .ok (.aload_n 0, 1) := dk_42 (dk_at dksX2_kindIn_0 15 rfl rfl)
theorem dX2_kindIn_16 : decode cX2_kindIn 16 = .ok (.getfield 152, 3) := dk_180 0 152 (dk_at dksX2_kindIn_0 16 rfl rfl)
theorem dX2_kindIn_19 : decode cX2_kindIn 19 = .ok (.if_icmp .ge 104, 3) := dk_162 0 104 (dk_at dksX2_kindIn_0 19 rfl rfl)
theorem dX2_kindIn_22 : decode cX2_kindIn 22 = .ok (.aload_n 0, 1) := dk_42 (dk_at dksX2_kindIn_0 22 rfl rfl)
theorem dX2_kindIn_23 : decode cX2_kindIn 23 = .ok (.getfield 29, 3) := dk_180 0 29 (dk_at dksX2_kindIn_1 0 rfl rfl)
theorem dX2_kindIn_26 : decode cX2_kindIn 26 = .ok (.iconst 3, 1) := dk_6 (dk_at dksX2_kindIn_1 3 rfl rfl)
theorem dX2_kindIn_27 : decode cX2_kindIn 27 = .ok (.iload 5, 2) := dk_21 5 (dk_at dksX2_kindIn_1 4 rfl rfl)
theorem dX2_kindIn_29 : decode cX2_kindIn 29 = .ok (.imul, 1) := dk_104 (dk_at dksX2_kindIn_1 6 rfl rfl)
theorem dX2_kindIn_30 : decode cX2_kindIn 30 = .ok (.iaload, 1) := dk_46 (dk_at dksX2_kindIn_1 7 rfl rfl)
theorem dX2_kindIn_31 : decode cX2_kindIn 31 = .ok (.iload_n 1, 1) := dk_27 (dk_at dksX2_kindIn_1 8 rfl rfl)
theorem dX2_kindIn_32 : decode cX2_kindIn 32 = .ok (.if_icmp .ne 38, 3) := dk_160 0 38 (dk_at dksX2_kindIn_1 9 rfl rfl)
theorem dX2_kindIn_35 : decode cX2_kindIn 35 = .ok (.aload_n 0, 1) := dk_42 (dk_at dksX2_kindIn_1 12 rfl rfl)
theorem dX2_kindIn_36 : decode cX2_kindIn 36 = .ok (.getfield 29, 3) := dk_180 0 29 (dk_at dksX2_kindIn_1 13 rfl rfl)
theorem dX2_kindIn_39 : decode cX2_kindIn 39 = .ok (.iconst 3, 1) := dk_6 (dk_at dksX2_kindIn_1 16 rfl rfl)
theorem dX2_kindIn_40 : decode cX2_kindIn 40 = .ok (.iload 5, 2) := dk_21 5 (dk_at dksX2_kindIn_1 17 rfl rfl)
theorem dX2_kindIn_42 : decode cX2_kindIn 42 = .ok (.imul, 1) := dk_104 (dk_at dksX2_kindIn_1 19 rfl rfl)
theorem dX2_kindIn_43 : decode cX2_kindIn 43 = .ok (.iconst 2, 1) := dk_5 (dk_at dksX2_kindIn_1 20 rfl rfl)
theorem dX2_kindIn_44 : decode cX2_kindIn 44 = .ok (.iadd, 1) := dk_96 (dk_at dksX2_kindIn_1 21 rfl rfl)
theorem dX2_kindIn_45 : decode cX2_kindIn 45 = .ok (.iaload, 1) := dk_46 (dk_at dksX2_kindIn_1 22 rfl rfl)
theorem dX2_kindIn_46 : decode cX2_kindIn 46 = .ok (.iload_n 2, 1) := dk_28 (dk_at dksX2_kindIn_1 23 rfl rfl)
theorem dX2_kindIn_47 : decode cX2_kindIn 47 = .ok (.if_icmp .gt 23, 3) := dk_163 0 23 (dk_at dksX2_kindIn_2 0 rfl rfl)
theorem dX2_kindIn_50 : decode cX2_kindIn 50 = .ok (.aload_n 0, 1) := dk_42 (dk_at dksX2_kindIn_2 3 rfl rfl)
theorem dX2_kindIn_51 : decode cX2_kindIn 51 = .ok (.getfield 29, 3) := dk_180 0 29 (dk_at dksX2_kindIn_2 4 rfl rfl)
theorem dX2_kindIn_54 : decode cX2_kindIn 54 = .ok (.iconst 3, 1) := dk_6 (dk_at dksX2_kindIn_2 7 rfl rfl)
theorem dX2_kindIn_55 : decode cX2_kindIn 55 = .ok (.iload 5, 2) := dk_21 5 (dk_at dksX2_kindIn_2 8 rfl rfl)
theorem dX2_kindIn_57 : decode cX2_kindIn 57 = .ok (.imul, 1) := dk_104 (dk_at dksX2_kindIn_2 10 rfl rfl)
theorem dX2_kindIn_58 : decode cX2_kindIn 58 = .ok (.iconst 2, 1) := dk_5 (dk_at dksX2_kindIn_2 11 rfl rfl)
theorem dX2_kindIn_59 : decode cX2_kindIn 59 = .ok (.iadd, 1) := dk_96 (dk_at dksX2_kindIn_2 12 rfl rfl)
theorem dX2_kindIn_60 : decode cX2_kindIn 60 = .ok (.iaload, 1) := dk_46 (dk_at dksX2_kindIn_2 13 rfl rfl)
theorem dX2_kindIn_61 : decode cX2_kindIn 61 = .ok (.iload 4, 2) := dk_21 4 (dk_at dksX2_kindIn_2 14 rfl rfl)
theorem dX2_kindIn_63 : decode cX2_kindIn 63 = .ok (.if_icmp .lt 7, 3) := dk_161 0 7 (dk_at dksX2_kindIn_2 16 rfl rfl)
theorem dX2_kindIn_66 : decode cX2_kindIn 66 = .ok (.iconst 1, 1) := dk_4 (dk_at dksX2_kindIn_2 19 rfl rfl)
theorem dX2_kindIn_67 : decode cX2_kindIn 67 = .ok (.goto 4, 3) := dk_167 0 4 (dk_at dksX2_kindIn_2 20 rfl rfl)
theorem dX2_kindIn_70 : decode cX2_kindIn 70 = .ok (.iconst 0, 1) := dk_3 (dk_at dksX2_kindIn_2 23 rfl rfl)
theorem dX2_kindIn_71 : decode cX2_kindIn 71 = .ok (.istore 6, 2) := dk_54 6 (dk_at dksX2_kindIn_3 0 rfl rfl)
theorem dX2_kindIn_73 : decode cX2_kindIn 73 = .ok (.iload 6, 2) := dk_21 6 (dk_at dksX2_kindIn_3 2 rfl rfl)
theorem dX2_kindIn_75 : decode cX2_kindIn 75 = .ok (.ifCond .eq 17, 3) := dk_153 0 17 (dk_at dksX2_kindIn_3 4 rfl rfl)
theorem dX2_kindIn_78 : decode cX2_kindIn 78 = .ok (.aload_n 0, 1) := dk_42 (dk_at dksX2_kindIn_3 7 rfl rfl)
theorem dX2_kindIn_79 : decode cX2_kindIn 79 = .ok (.getfield 29, 3) := dk_180 0 29 (dk_at dksX2_kindIn_3 8 rfl rfl)
theorem dX2_kindIn_82 : decode cX2_kindIn 82 = .ok (.iconst 3, 1) := dk_6 (dk_at dksX2_kindIn_3 11 rfl rfl)
theorem dX2_kindIn_83 : decode cX2_kindIn 83 = .ok (.iload 5, 2) := dk_21 5 (dk_at dksX2_kindIn_3 12 rfl rfl)
theorem dX2_kindIn_85 : decode cX2_kindIn 85 = .ok (.imul, 1) := dk_104 (dk_at dksX2_kindIn_3 14 rfl rfl)
theorem dX2_kindIn_86 : decode cX2_kindIn 86 = .ok (.iconst 1, 1) := dk_4 (dk_at dksX2_kindIn_3 15 rfl rfl)
theorem dX2_kindIn_87 : decode cX2_kindIn 87 = .ok (.iadd, 1) := dk_96 (dk_at dksX2_kindIn_3 16 rfl rfl)
theorem dX2_kindIn_88 : decode cX2_kindIn 88 = .ok (.iaload, 1) := dk_46 (dk_at dksX2_kindIn_3 17 rfl rfl)
theorem dX2_kindIn_89 : decode cX2_kindIn 89 = .ok (.goto 4, 3) := dk_167 0 4 (dk_at dksX2_kindIn_3 18 rfl rfl)
theorem dX2_kindIn_92 : decode cX2_kindIn 92 = .ok (.iload_n 3, 1) := dk_29 (dk_at dksX2_kindIn_3 21 rfl rfl)
theorem dX2_kindIn_93 : decode cX2_kindIn 93 = .ok (.istore_n 3, 1) := dk_62 (dk_at dksX2_kindIn_3 22 rfl rfl)
theorem dX2_kindIn_94 : decode cX2_kindIn 94 = .ok (.iload 6, 2) := dk_21 6 (dk_at dksX2_kindIn_4 0 rfl rfl)
theorem dX2_kindIn_96 : decode cX2_kindIn 96 = .ok (.ifCond .eq 17, 3) := dk_153 0 17 (dk_at dksX2_kindIn_4 2 rfl rfl)
theorem dX2_kindIn_99 : decode cX2_kindIn 99 = .ok (.aload_n 0, 1) := dk_42 (dk_at dksX2_kindIn_4 5 rfl rfl)
theorem dX2_kindIn_100 : decode cX2_kindIn 100 = .ok (.getfield 29, 3) := dk_180 0 29 (dk_at dksX2_kindIn_4 6 rfl rfl)
theorem dX2_kindIn_103 : decode cX2_kindIn 103 = .ok (.iconst 3, 1) := dk_6 (dk_at dksX2_kindIn_4 9 rfl rfl)
theorem dX2_kindIn_104 : decode cX2_kindIn 104 = .ok (.iload 5, 2) := dk_21 5 (dk_at dksX2_kindIn_4 10 rfl rfl)
theorem dX2_kindIn_106 : decode cX2_kindIn 106 = .ok (.imul, 1) := dk_104 (dk_at dksX2_kindIn_4 12 rfl rfl)
theorem dX2_kindIn_107 : decode cX2_kindIn 107 = .ok (.iconst 2, 1) := dk_5 (dk_at dksX2_kindIn_4 13 rfl rfl)
theorem dX2_kindIn_108 : decode cX2_kindIn 108 = .ok (.iadd, 1) := dk_96 (dk_at dksX2_kindIn_4 14 rfl rfl)
theorem dX2_kindIn_109 : decode cX2_kindIn 109 = .ok (.iaload, 1) := dk_46 (dk_at dksX2_kindIn_4 15 rfl rfl)
theorem dX2_kindIn_110 : decode cX2_kindIn 110 = .ok (.goto 5, 3) := dk_167 0 5 (dk_at dksX2_kindIn_4 16 rfl rfl)
theorem dX2_kindIn_113 : decode cX2_kindIn 113 = .ok (.iload 4, 2) := dk_21 4 (dk_at dksX2_kindIn_4 19 rfl rfl)
theorem dX2_kindIn_115 : decode cX2_kindIn 115 = .ok (.istore 4, 2) := dk_54 4 (dk_at dksX2_kindIn_4 21 rfl rfl)
theorem dX2_kindIn_117 : decode cX2_kindIn 117 = .ok (.iinc 5 1, 3) := dk_132 5 1 (dk_at dksX2_kindIn_5 0 rfl rfl)
theorem dX2_kindIn_120 : decode cX2_kindIn 120 = .ok (.goto (-107), 3) := dk_167 255 149 (dk_at dksX2_kindIn_5 3 rfl rfl)
theorem dX2_kindIn_123 : decode cX2_kindIn 123 = .ok (.iload_n 3, 1) := dk_29 (dk_at dksX2_kindIn_5 6 rfl rfl)
theorem dX2_kindIn_124 : decode cX2_kindIn 124 = .ok (.ireturn, 1) := dk_172 (dk_at dksX2_kindIn_5 7 rfl rfl)
abbrev cX2_one : ByteArray := prog_19_method_41_code
def yX2_one : MethodName := ⟨RX2, "one", "(II)I"⟩
def dkwX2_one_4 : List UInt8 := [182, 0, 231, 172, 42, 180, 0, 35, 27, 46, 172, 16, 253, 172]
abbrev dktX2_one_4 : List UInt8 := dkwX2_one_4 ++ []
def dkwX2_one_3 : List UInt8 := [172, 42, 180, 0, 7, 16, 9, 27, 96, 46, 172, 42, 180, 0, 7, 16, 13, 27, 96, 46, 172, 42, 27]
abbrev dktX2_one_3 : List UInt8 := dkwX2_one_3 ++ dktX2_one_4
def dkwX2_one_2 : List UInt8 := [42, 180, 0, 32, 27, 46, 172, 42, 180, 0, 7, 4, 27, 96, 46, 172, 42, 180, 0, 7, 8, 27, 96, 46]
abbrev dktX2_one_2 : List UInt8 := dkwX2_one_2 ++ dktX2_one_3
def dkwX2_one_1 : List UInt8 := [170, 0, 0, 0, 0, 0, 0, 102, 0, 0, 0, 0, 0, 0, 0, 6, 0, 0, 0, 44, 0, 0, 0, 51, 0, 0, 0, 60, 0, 0, 0, 69, 0, 0, 0, 79, 0, 0, 0, 89, 0, 0, 0, 95]
abbrev dktX2_one_1 : List UInt8 := dkwX2_one_1 ++ dktX2_one_2
def dkwX2_one_0 : List UInt8 := [42, 27, 182, 0, 228, 154, 0, 6, 16, 254, 172, 28]
abbrev dktX2_one_0 : List UInt8 := dkwX2_one_0 ++ dktX2_one_1
theorem dksX2_one_0 : cX2_one.data.toList.drop 0 = dktX2_one_0 := by decide +kernel
theorem dksX2_one_1 : cX2_one.data.toList.drop 12 = dktX2_one_1 := dk_seg dksX2_one_0 12 rfl rfl
theorem dksX2_one_2 : cX2_one.data.toList.drop 56 = dktX2_one_2 := dk_seg dksX2_one_1 44 rfl rfl
theorem dksX2_one_3 : cX2_one.data.toList.drop 80 = dktX2_one_3 := dk_seg dksX2_one_2 24 rfl rfl
theorem dksX2_one_4 : cX2_one.data.toList.drop 103 = dktX2_one_4 := dk_seg dksX2_one_3 23 rfl rfl
theorem dX2_one_0 : decode cX2_one 0 = .ok (.aload_n 0, 1) := dk_42 (dk_at dksX2_one_0 0 rfl rfl)
theorem dX2_one_1 : decode cX2_one 1 = .ok (.iload_n 1, 1) := dk_27 (dk_at dksX2_one_0 1 rfl rfl)
theorem dX2_one_2 : decode cX2_one 2 = .ok (.invokevirtual 228, 3) := dk_182 0 228 (dk_at dksX2_one_0 2 rfl rfl)
theorem dX2_one_5 : decode cX2_one 5 = .ok (.ifCond .ne 6, 3) := dk_154 0 6 (dk_at dksX2_one_0 5 rfl rfl)
theorem dX2_one_8 : decode cX2_one 8 = .ok (.bipush (-2), 2) := dk_16 254 (dk_at dksX2_one_0 8 rfl rfl)
theorem dX2_one_10 : decode cX2_one 10 = .ok (.ireturn, 1) := dk_172 (dk_at dksX2_one_0 10 rfl rfl)
theorem dX2_one_11 : decode cX2_one 11 = .ok (.iload_n 2, 1) := dk_28 (dk_at dksX2_one_0 11 rfl rfl)
theorem dX2_one_12 : decode cX2_one 12 = .ok (.tableswitch 102 0 6 #[44, 51, 60, 69, 79, 89, 95], 44) := by decide +kernel
theorem dX2_one_56 : decode cX2_one 56 = .ok (.aload_n 0, 1) := dk_42 (dk_at dksX2_one_2 0 rfl rfl)
theorem dX2_one_57 : decode cX2_one 57 = .ok (.getfield 32, 3) := dk_180 0 32 (dk_at dksX2_one_2 1 rfl rfl)
theorem dX2_one_60 : decode cX2_one 60 = .ok (.iload_n 1, 1) := dk_27 (dk_at dksX2_one_2 4 rfl rfl)
theorem dX2_one_61 : decode cX2_one 61 = .ok (.iaload, 1) := dk_46 (dk_at dksX2_one_2 5 rfl rfl)
theorem dX2_one_62 : decode cX2_one 62 = .ok (.ireturn, 1) := dk_172 (dk_at dksX2_one_2 6 rfl rfl)
theorem dX2_one_63 : decode cX2_one 63 = .ok (.aload_n 0, 1) := dk_42 (dk_at dksX2_one_2 7 rfl rfl)
theorem dX2_one_64 : decode cX2_one 64 = .ok (.getfield 7, 3) := dk_180 0 7 (dk_at dksX2_one_2 8 rfl rfl)
theorem dX2_one_67 : decode cX2_one 67 = .ok (.iconst 1, 1) := dk_4 (dk_at dksX2_one_2 11 rfl rfl)
theorem dX2_one_68 : decode cX2_one 68 = .ok (.iload_n 1, 1) := dk_27 (dk_at dksX2_one_2 12 rfl rfl)
theorem dX2_one_69 : decode cX2_one 69 = .ok (.iadd, 1) := dk_96 (dk_at dksX2_one_2 13 rfl rfl)
theorem dX2_one_70 : decode cX2_one 70 = .ok (.iaload, 1) := dk_46 (dk_at dksX2_one_2 14 rfl rfl)
theorem dX2_one_71 : decode cX2_one 71 = .ok (.ireturn, 1) := dk_172 (dk_at dksX2_one_2 15 rfl rfl)
theorem dX2_one_72 : decode cX2_one 72 = .ok (.aload_n 0, 1) := dk_42 (dk_at dksX2_one_2 16 rfl rfl)
theorem dX2_one_73 : decode cX2_one 73 = .ok (.getfield 7, 3) := dk_180 0 7 (dk_at dksX2_one_2 17 rfl rfl)
theorem dX2_one_76 : decode cX2_one 76 = .ok (.iconst 5, 1) := dk_8 (dk_at dksX2_one_2 20 rfl rfl)
theorem dX2_one_77 : decode cX2_one 77 = .ok (.iload_n 1, 1) := dk_27 (dk_at dksX2_one_2 21 rfl rfl)
theorem dX2_one_78 : decode cX2_one 78 = .ok (.iadd, 1) := dk_96 (dk_at dksX2_one_2 22 rfl rfl)
theorem dX2_one_79 : decode cX2_one 79 = .ok (.iaload, 1) := dk_46 (dk_at dksX2_one_2 23 rfl rfl)
theorem dX2_one_80 : decode cX2_one 80 = .ok (.ireturn, 1) := dk_172 (dk_at dksX2_one_3 0 rfl rfl)
theorem dX2_one_81 : decode cX2_one 81 = .ok (.aload_n 0, 1) := dk_42 (dk_at dksX2_one_3 1 rfl rfl)
theorem dX2_one_82 : decode cX2_one 82 = .ok (.getfield 7, 3) := dk_180 0 7 (dk_at dksX2_one_3 2 rfl rfl)
theorem dX2_one_85 : decode cX2_one 85 = .ok (.bipush 9, 2) := dk_16 9 (dk_at dksX2_one_3 5 rfl rfl)
theorem dX2_one_87 : decode cX2_one 87 = .ok (.iload_n 1, 1) := dk_27 (dk_at dksX2_one_3 7 rfl rfl)
theorem dX2_one_88 : decode cX2_one 88 = .ok (.iadd, 1) := dk_96 (dk_at dksX2_one_3 8 rfl rfl)
theorem dX2_one_89 : decode cX2_one 89 = .ok (.iaload, 1) := dk_46 (dk_at dksX2_one_3 9 rfl rfl)
theorem dX2_one_90 : decode cX2_one 90 = .ok (.ireturn, 1) := dk_172 (dk_at dksX2_one_3 10 rfl rfl)
theorem dX2_one_91 : decode cX2_one 91 = .ok (.aload_n 0, 1) := dk_42 (dk_at dksX2_one_3 11 rfl rfl)
theorem dX2_one_92 : decode cX2_one 92 = .ok (.getfield 7, 3) := dk_180 0 7 (dk_at dksX2_one_3 12 rfl rfl)
theorem dX2_one_95 : decode cX2_one 95 = .ok (.bipush 13, 2) := dk_16 13 (dk_at dksX2_one_3 15 rfl rfl)
theorem dX2_one_97 : decode cX2_one 97 = .ok (.iload_n 1, 1) := dk_27 (dk_at dksX2_one_3 17 rfl rfl)
theorem dX2_one_98 : decode cX2_one 98 = .ok (.iadd, 1) := dk_96 (dk_at dksX2_one_3 18 rfl rfl)
theorem dX2_one_99 : decode cX2_one 99 = .ok (.iaload, 1) := dk_46 (dk_at dksX2_one_3 19 rfl rfl)
theorem dX2_one_100 : decode cX2_one 100 = .ok (.ireturn, 1) := dk_172 (dk_at dksX2_one_3 20 rfl rfl)
theorem dX2_one_101 : decode cX2_one 101 = .ok (.aload_n 0, 1) := dk_42 (dk_at dksX2_one_3 21 rfl rfl)
theorem dX2_one_102 : decode cX2_one 102 = .ok (.iload_n 1, 1) := dk_27 (dk_at dksX2_one_3 22 rfl rfl)
theorem dX2_one_103 : decode cX2_one 103 = .ok (.invokevirtual 231, 3) := dk_182 0 231 (dk_at dksX2_one_4 0 rfl rfl)
theorem dX2_one_106 : decode cX2_one 106 = .ok (.ireturn, 1) := dk_172 (dk_at dksX2_one_4 3 rfl rfl)
theorem dX2_one_107 : decode cX2_one 107 = .ok (.aload_n 0, 1) := dk_42 (dk_at dksX2_one_4 4 rfl rfl)
theorem dX2_one_108 : decode cX2_one 108 = .ok (.getfield 35, 3) := dk_180 0 35 (dk_at dksX2_one_4 5 rfl rfl)
theorem dX2_one_111 : decode cX2_one 111 = .ok (.iload_n 1, 1) := dk_27 (dk_at dksX2_one_4 8 rfl rfl)
theorem dX2_one_112 : decode cX2_one 112 = .ok (.iaload, 1) := dk_46 (dk_at dksX2_one_4 9 rfl rfl)
theorem dX2_one_113 : decode cX2_one 113 = .ok (.ireturn, 1) := dk_172 (dk_at dksX2_one_4 10 rfl rfl)
theorem dX2_one_114 : decode cX2_one 114 = .ok (.bipush (-3), 2) := dk_16 253 (dk_at dksX2_one_4 11 rfl rfl)
theorem dX2_one_116 : decode cX2_one 116 = .ok (.ireturn, 1) := dk_172 (dk_at dksX2_one_4 13 rfl rfl)
abbrev cX2_isOne : ByteArray := prog_19_method_26_code
def yX2_isOne : MethodName := ⟨RX2, "isOne", "(I)Z"⟩
def dkwX2_isOne_0 : List UInt8 := [27, 133, 9, 42, 180, 0, 155, 4, 100, 133, 184, 0, 65, 172]
abbrev dktX2_isOne_0 : List UInt8 := dkwX2_isOne_0 ++ []
theorem dksX2_isOne_0 : cX2_isOne.data.toList.drop 0 = dktX2_isOne_0 := by decide +kernel
theorem dX2_isOne_0 : decode cX2_isOne 0 = .ok (.iload_n 1, 1) := dk_27 (dk_at dksX2_isOne_0 0 rfl rfl)
theorem dX2_isOne_1 : decode cX2_isOne 1 = .ok (.i2l, 1) := dk_133 (dk_at dksX2_isOne_0 1 rfl rfl)
theorem dX2_isOne_2 : decode cX2_isOne 2 = .ok (.lconst 0, 1) := dk_9 (dk_at dksX2_isOne_0 2 rfl rfl)
theorem dX2_isOne_3 : decode cX2_isOne 3 = .ok (.aload_n 0, 1) := dk_42 (dk_at dksX2_isOne_0 3 rfl rfl)
theorem dX2_isOne_4 : decode cX2_isOne 4 = .ok (.getfield 155, 3) := dk_180 0 155 (dk_at dksX2_isOne_0 4 rfl rfl)
theorem dX2_isOne_7 : decode cX2_isOne 7 = .ok (.iconst 1, 1) := dk_4 (dk_at dksX2_isOne_0 7 rfl rfl)
theorem dX2_isOne_8 : decode cX2_isOne 8 = .ok (.isub, 1) := dk_100 (dk_at dksX2_isOne_0 8 rfl rfl)
theorem dX2_isOne_9 : decode cX2_isOne 9 = .ok (.i2l, 1) := dk_133 (dk_at dksX2_isOne_0 9 rfl rfl)
theorem dX2_isOne_10 : decode cX2_isOne 10 = .ok (.invokestatic 65, 3) := dk_184 0 65 (dk_at dksX2_isOne_0 10 rfl rfl)
theorem dX2_isOne_13 : decode cX2_isOne 13 = .ok (.ireturn, 1) := dk_172 (dk_at dksX2_isOne_0 13 rfl rfl)
abbrev cX2_saidBy : ByteArray := prog_19_method_40_code
def yX2_saidBy : MethodName := ⟨RX2, "saidBy", "(I)I"⟩
def dkwX2_saidBy_1 : List UInt8 := [46, 96, 61, 132, 3, 1, 167, 255, 230, 28, 172]
abbrev dktX2_saidBy_1 : List UInt8 := dkwX2_saidBy_1 ++ []
def dkwX2_saidBy_0 : List UInt8 := [3, 61, 3, 62, 29, 16, 10, 162, 0, 26, 28, 42, 180, 0, 7, 16, 17, 16, 10, 27, 104, 96, 29, 96]
abbrev dktX2_saidBy_0 : List UInt8 := dkwX2_saidBy_0 ++ dktX2_saidBy_1
theorem dksX2_saidBy_0 : cX2_saidBy.data.toList.drop 0 = dktX2_saidBy_0 := by decide +kernel
theorem dksX2_saidBy_1 : cX2_saidBy.data.toList.drop 24 = dktX2_saidBy_1 := dk_seg dksX2_saidBy_0 24 rfl rfl
theorem dX2_saidBy_0 : decode cX2_saidBy 0 = .ok (.iconst 0, 1) := dk_3 (dk_at dksX2_saidBy_0 0 rfl rfl)
theorem dX2_saidBy_1 : decode cX2_saidBy 1 = .ok (.istore_n 2, 1) := dk_61 (dk_at dksX2_saidBy_0 1 rfl rfl)
theorem dX2_saidBy_2 : decode cX2_saidBy 2 = .ok (.iconst 0, 1) := dk_3 (dk_at dksX2_saidBy_0 2 rfl rfl)
theorem dX2_saidBy_3 : decode cX2_saidBy 3 = .ok (.istore_n 3, 1) := dk_62 (dk_at dksX2_saidBy_0 3 rfl rfl)
theorem dX2_saidBy_4 : decode cX2_saidBy 4 = .ok (.iload_n 3, 1) := dk_29 (dk_at dksX2_saidBy_0 4 rfl rfl)
theorem dX2_saidBy_5 : decode cX2_saidBy 5 = .ok (.bipush 10, 2) := dk_16 10 (dk_at dksX2_saidBy_0 5 rfl rfl)
theorem dX2_saidBy_7 : decode cX2_saidBy 7 = .ok (.if_icmp .ge 26, 3) := dk_162 0 26 (dk_at dksX2_saidBy_0 7 rfl rfl)
theorem dX2_saidBy_10 : decode cX2_saidBy 10 = .ok (.iload_n 2, 1) := dk_28 (dk_at dksX2_saidBy_0 10 rfl rfl)
theorem dX2_saidBy_11 : decode cX2_saidBy 11 = .ok (.aload_n 0, 1) := dk_42 (dk_at dksX2_saidBy_0 11 rfl rfl)
theorem dX2_saidBy_12 : decode cX2_saidBy 12 = .ok (.getfield 7, 3) := dk_180 0 7 (dk_at dksX2_saidBy_0 12 rfl rfl)
theorem dX2_saidBy_15 : decode cX2_saidBy 15 = .ok (.bipush 17, 2) := dk_16 17 (dk_at dksX2_saidBy_0 15 rfl rfl)
theorem dX2_saidBy_17 : decode cX2_saidBy 17 = .ok (.bipush 10, 2) := dk_16 10 (dk_at dksX2_saidBy_0 17 rfl rfl)
theorem dX2_saidBy_19 : decode cX2_saidBy 19 = .ok (.iload_n 1, 1) := dk_27 (dk_at dksX2_saidBy_0 19 rfl rfl)
theorem dX2_saidBy_20 : decode cX2_saidBy 20 = .ok (.imul, 1) := dk_104 (dk_at dksX2_saidBy_0 20 rfl rfl)
theorem dX2_saidBy_21 : decode cX2_saidBy 21 = .ok (.iadd, 1) := dk_96 (dk_at dksX2_saidBy_0 21 rfl rfl)
theorem dX2_saidBy_22 : decode cX2_saidBy 22 = .ok (.iload_n 3, 1) := dk_29 (dk_at dksX2_saidBy_0 22 rfl rfl)
theorem dX2_saidBy_23 : decode cX2_saidBy 23 = .ok (.iadd, 1) := dk_96 (dk_at dksX2_saidBy_0 23 rfl rfl)
theorem dX2_saidBy_24 : decode cX2_saidBy 24 = .ok (.iaload, 1) := dk_46 (dk_at dksX2_saidBy_1 0 rfl rfl)
theorem dX2_saidBy_25 : decode cX2_saidBy 25 = .ok (.iadd, 1) := dk_96 (dk_at dksX2_saidBy_1 1 rfl rfl)
theorem dX2_saidBy_26 : decode cX2_saidBy 26 = .ok (.istore_n 2, 1) := dk_61 (dk_at dksX2_saidBy_1 2 rfl rfl)
theorem dX2_saidBy_27 : decode cX2_saidBy 27 = .ok (.iinc 3 1, 3) := dk_132 3 1 (dk_at dksX2_saidBy_1 3 rfl rfl)
theorem dX2_saidBy_30 : decode cX2_saidBy 30 = .ok (.goto (-26), 3) := dk_167 255 230 (dk_at dksX2_saidBy_1 6 rfl rfl)
theorem dX2_saidBy_33 : decode cX2_saidBy 33 = .ok (.iload_n 2, 1) := dk_28 (dk_at dksX2_saidBy_1 9 rfl rfl)
theorem dX2_saidBy_34 : decode cX2_saidBy 34 = .ok (.ireturn, 1) := dk_172 (dk_at dksX2_saidBy_1 10 rfl rfl)
abbrev cX2_as : ByteArray := prog_19_method_42_code
def yX2_as : MethodName := ⟨RX2, "as", "(II)I"⟩
def dkwX2_as_4 : List UInt8 := [42, 29, 42, 180, 0, 7, 3, 46, 182, 0, 219, 167, 0, 5, 16, 252, 172]
abbrev dktX2_as_4 : List UInt8 := dkwX2_as_4 ++ []
def dkwX2_as_3 : List UInt8 := [160, 0, 12, 29, 6, 160, 0, 7, 4, 167, 0, 4, 3, 54, 4, 42, 182, 0, 236, 21, 4, 153, 0, 17]
abbrev dktX2_as_3 : List UInt8 := dkwX2_as_3 ++ dktX2_as_4
def dkwX2_as_2 : List UInt8 := [28, 5, 160, 0, 8, 29, 4, 159, 0, 23, 28, 6, 160, 0, 8, 29, 5, 162, 0, 13, 28, 7]
abbrev dktX2_as_2 : List UInt8 := dkwX2_as_2 ++ dktX2_as_3
def dkwX2_as_1 : List UInt8 := [16, 253, 172, 42, 180, 0, 32, 27, 46, 62, 28, 153, 0, 43, 28, 4, 160, 0, 8, 29, 5, 161, 0, 33]
abbrev dktX2_as_1 : List UInt8 := dkwX2_as_1 ++ dktX2_as_2
def dkwX2_as_0 : List UInt8 := [42, 27, 182, 0, 228, 154, 0, 6, 16, 254, 172, 28, 133, 9, 20, 0, 234, 184, 0, 65, 154, 0, 6]
abbrev dktX2_as_0 : List UInt8 := dkwX2_as_0 ++ dktX2_as_1
theorem dksX2_as_0 : cX2_as.data.toList.drop 0 = dktX2_as_0 := by decide +kernel
theorem dksX2_as_1 : cX2_as.data.toList.drop 23 = dktX2_as_1 := dk_seg dksX2_as_0 23 rfl rfl
theorem dksX2_as_2 : cX2_as.data.toList.drop 47 = dktX2_as_2 := dk_seg dksX2_as_1 24 rfl rfl
theorem dksX2_as_3 : cX2_as.data.toList.drop 69 = dktX2_as_3 := dk_seg dksX2_as_2 22 rfl rfl
theorem dksX2_as_4 : cX2_as.data.toList.drop 93 = dktX2_as_4 := dk_seg dksX2_as_3 24 rfl rfl
theorem dX2_as_0 : decode cX2_as 0 = .ok (.aload_n 0, 1) := dk_42 (dk_at dksX2_as_0 0 rfl rfl)
theorem dX2_as_1 : decode cX2_as 1 = .ok (.iload_n 1, 1) := dk_27 (dk_at dksX2_as_0 1 rfl rfl)
theorem dX2_as_2 : decode cX2_as 2 = .ok (.invokevirtual 228, 3) := dk_182 0 228 (dk_at dksX2_as_0 2 rfl rfl)
theorem dX2_as_5 : decode cX2_as 5 = .ok (.ifCond .ne 6, 3) := dk_154 0 6 (dk_at dksX2_as_0 5 rfl rfl)
theorem dX2_as_8 : decode cX2_as 8 = .ok (.bipush (-2), 2) := dk_16 254 (dk_at dksX2_as_0 8 rfl rfl)
theorem dX2_as_10 : decode cX2_as 10 = .ok (.ireturn, 1) := dk_172 (dk_at dksX2_as_0 10 rfl rfl)
theorem dX2_as_11 : decode cX2_as 11 = .ok (.iload_n 2, 1) := dk_28 (dk_at dksX2_as_0 11 rfl rfl)
theorem dX2_as_12 : decode cX2_as 12 = .ok (.i2l, 1) := dk_133 (dk_at dksX2_as_0 12 rfl rfl)
theorem dX2_as_13 : decode cX2_as 13 = .ok (.lconst 0, 1) := dk_9 (dk_at dksX2_as_0 13 rfl rfl)
theorem dX2_as_14 : decode cX2_as 14 = .ok (.ldc2_w 234, 3) := dk_20 0 234 (dk_at dksX2_as_0 14 rfl rfl)
theorem dX2_as_17 : decode cX2_as 17 = .ok (.invokestatic 65, 3) := dk_184 0 65 (dk_at dksX2_as_0 17 rfl rfl)
theorem dX2_as_20 : decode cX2_as 20 = .ok (.ifCond .ne 6, 3) := dk_154 0 6 (dk_at dksX2_as_0 20 rfl rfl)
theorem dX2_as_23 : decode cX2_as 23 = .ok (.bipush (-3), 2) := dk_16 253 (dk_at dksX2_as_1 0 rfl rfl)
theorem dX2_as_25 : decode cX2_as 25 = .ok (.ireturn, 1) := dk_172 (dk_at dksX2_as_1 2 rfl rfl)
theorem dX2_as_26 : decode cX2_as 26 = .ok (.aload_n 0, 1) := dk_42 (dk_at dksX2_as_1 3 rfl rfl)
theorem dX2_as_27 : decode cX2_as 27 = .ok (.getfield 32, 3) := dk_180 0 32 (dk_at dksX2_as_1 4 rfl rfl)
theorem dX2_as_30 : decode cX2_as 30 = .ok (.iload_n 1, 1) := dk_27 (dk_at dksX2_as_1 7 rfl rfl)
theorem dX2_as_31 : decode cX2_as 31 = .ok (.iaload, 1) := dk_46 (dk_at dksX2_as_1 8 rfl rfl)
theorem dX2_as_32 : decode cX2_as 32 = .ok (.istore_n 3, 1) := dk_62 (dk_at dksX2_as_1 9 rfl rfl)
theorem dX2_as_33 : decode cX2_as 33 = .ok (.iload_n 2, 1) := dk_28 (dk_at dksX2_as_1 10 rfl rfl)
theorem dX2_as_34 : decode cX2_as 34 = .ok (.ifCond .eq 43, 3) := dk_153 0 43 (dk_at dksX2_as_1 11 rfl rfl)
theorem dX2_as_37 : decode cX2_as 37 = .ok (.iload_n 2, 1) := dk_28 (dk_at dksX2_as_1 14 rfl rfl)
theorem dX2_as_38 : decode cX2_as 38 = .ok (.iconst 1, 1) := dk_4 (dk_at dksX2_as_1 15 rfl rfl)
theorem dX2_as_39 : decode cX2_as 39 = .ok (.if_icmp .ne 8, 3) := dk_160 0 8 (dk_at dksX2_as_1 16 rfl rfl)
theorem dX2_as_42 : decode cX2_as 42 = .ok (.iload_n 3, 1) := dk_29 (dk_at dksX2_as_1 19 rfl rfl)
theorem dX2_as_43 : decode cX2_as 43 = .ok (.iconst 2, 1) := dk_5 (dk_at dksX2_as_1 20 rfl rfl)
theorem dX2_as_44 : decode cX2_as 44 = .ok (.if_icmp .lt 33, 3) := dk_161 0 33 (dk_at dksX2_as_1 21 rfl rfl)
theorem dX2_as_47 : decode cX2_as 47 = .ok (.iload_n 2, 1) := dk_28 (dk_at dksX2_as_2 0 rfl rfl)
theorem dX2_as_48 : decode cX2_as 48 = .ok (.iconst 2, 1) := dk_5 (dk_at dksX2_as_2 1 rfl rfl)
theorem dX2_as_49 : decode cX2_as 49 = .ok (.if_icmp .ne 8, 3) := dk_160 0 8 (dk_at dksX2_as_2 2 rfl rfl)
theorem dX2_as_52 : decode cX2_as 52 = .ok (.iload_n 3, 1) := dk_29 (dk_at dksX2_as_2 5 rfl rfl)
theorem dX2_as_53 : decode cX2_as 53 = .ok (.iconst 1, 1) := dk_4 (dk_at dksX2_as_2 6 rfl rfl)
theorem dX2_as_54 : decode cX2_as 54 = .ok (.if_icmp .eq 23, 3) := dk_159 0 23 (dk_at dksX2_as_2 7 rfl rfl)
theorem dX2_as_57 : decode cX2_as 57 = .ok (.iload_n 2, 1) := dk_28 (dk_at dksX2_as_2 10 rfl rfl)
theorem dX2_as_58 : decode cX2_as 58 = .ok (.iconst 3, 1) := dk_6 (dk_at dksX2_as_2 11 rfl rfl)
theorem dX2_as_59 : decode cX2_as 59 = .ok (.if_icmp .ne 8, 3) := dk_160 0 8 (dk_at dksX2_as_2 12 rfl rfl)
theorem dX2_as_62 : decode cX2_as 62 = .ok (.iload_n 3, 1) := dk_29 (dk_at dksX2_as_2 15 rfl rfl)
theorem dX2_as_63 : decode cX2_as 63 = .ok (.iconst 2, 1) := dk_5 (dk_at dksX2_as_2 16 rfl rfl)
theorem dX2_as_64 : decode cX2_as 64 = .ok (.if_icmp .ge 13, 3) := dk_162 0 13 (dk_at dksX2_as_2 17 rfl rfl)
theorem dX2_as_67 : decode cX2_as 67 = .ok (.iload_n 2, 1) := dk_28 (dk_at dksX2_as_2 20 rfl rfl)
theorem dX2_as_68 : decode cX2_as 68 = .ok (.iconst 4, 1) := dk_7 (dk_at dksX2_as_2 21 rfl rfl)
theorem dX2_as_69 : decode cX2_as 69 = .ok (.if_icmp .ne 12, 3) := dk_160 0 12 (dk_at dksX2_as_3 0 rfl rfl)
theorem dX2_as_72 : decode cX2_as 72 = .ok (.iload_n 3, 1) := dk_29 (dk_at dksX2_as_3 3 rfl rfl)
theorem dX2_as_73 : decode cX2_as 73 = .ok (.iconst 3, 1) := dk_6 (dk_at dksX2_as_3 4 rfl rfl)
theorem dX2_as_74 : decode cX2_as 74 = .ok (.if_icmp .ne 7, 3) := dk_160 0 7 (dk_at dksX2_as_3 5 rfl rfl)
theorem dX2_as_77 : decode cX2_as 77 = .ok (.iconst 1, 1) := dk_4 (dk_at dksX2_as_3 8 rfl rfl)
theorem dX2_as_78 : decode cX2_as 78 = .ok (.goto 4, 3) := dk_167 0 4 (dk_at dksX2_as_3 9 rfl rfl)
theorem dX2_as_81 : decode cX2_as 81 = .ok (.iconst 0, 1) := dk_3 (dk_at dksX2_as_3 12 rfl rfl)
theorem dX2_as_82 : decode cX2_as 82 = .ok (.istore 4, 2) := dk_54 4 (dk_at dksX2_as_3 13 rfl rfl)
theorem dX2_as_84 : decode cX2_as 84 = .ok (.aload_n 0, 1) := dk_42 (dk_at dksX2_as_3 15 rfl rfl)
theorem dX2_as_85 : decode cX2_as 85 = .ok (.invokevirtual 236, 3) := dk_182 0 236 (dk_at dksX2_as_3 16 rfl rfl)
theorem dX2_as_88 : decode cX2_as 88 = .ok (.iload 4, 2) := dk_21 4 (dk_at dksX2_as_3 19 rfl rfl)
theorem dX2_as_90 : decode cX2_as 90 = .ok (.ifCond .eq 17, 3) := dk_153 0 17 (dk_at dksX2_as_3 21 rfl rfl)
theorem dX2_as_93 : decode cX2_as 93 = .ok (.aload_n 0, 1) := dk_42 (dk_at dksX2_as_4 0 rfl rfl)
theorem dX2_as_94 : decode cX2_as 94 = .ok (.iload_n 3, 1) := dk_29 (dk_at dksX2_as_4 1 rfl rfl)
theorem dX2_as_95 : decode cX2_as 95 = .ok (.aload_n 0, 1) := dk_42 (dk_at dksX2_as_4 2 rfl rfl)
theorem dX2_as_96 : decode cX2_as 96 = .ok (.getfield 7, 3) := dk_180 0 7 (dk_at dksX2_as_4 3 rfl rfl)
theorem dX2_as_99 : decode cX2_as 99 = .ok (.iconst 0, 1) := dk_3 (dk_at dksX2_as_4 6 rfl rfl)
theorem dX2_as_100 : decode cX2_as 100 = .ok (.iaload, 1) := dk_46 (dk_at dksX2_as_4 7 rfl rfl)
theorem dX2_as_101 : decode cX2_as 101 = .ok (.invokevirtual 219, 3) := dk_182 0 219 (dk_at dksX2_as_4 8 rfl rfl)
theorem dX2_as_104 : decode cX2_as 104 = .ok (.goto 5, 3) := dk_167 0 5 (dk_at dksX2_as_4 11 rfl rfl)
theorem dX2_as_107 : decode cX2_as 107 = .ok (.bipush (-4), 2) := dk_16 252 (dk_at dksX2_as_4 14 rfl rfl)
theorem dX2_as_109 : decode cX2_as 109 = .ok (.ireturn, 1) := dk_172 (dk_at dksX2_as_4 16 rfl rfl)
abbrev cX2_layLine : ByteArray := prog_19_method_28_code
def yX2_layLine : MethodName := ⟨RX2, "layLine", "()V"⟩
def dkwX2_layLine_1 : List UInt8 := [132, 1, 1, 167, 255, 233, 42, 42, 180, 0, 185, 181, 0, 194, 177]
abbrev dktX2_layLine_1 : List UInt8 := dkwX2_layLine_1 ++ []
def dkwX2_layLine_0 : List UInt8 := [3, 60, 27, 42, 180, 0, 185, 162, 0, 21, 42, 180, 0, 51, 27, 42, 180, 0, 42, 27, 46, 79]
abbrev dktX2_layLine_0 : List UInt8 := dkwX2_layLine_0 ++ dktX2_layLine_1
theorem dksX2_layLine_0 : cX2_layLine.data.toList.drop 0 = dktX2_layLine_0 := by decide +kernel
theorem dksX2_layLine_1 : cX2_layLine.data.toList.drop 22 = dktX2_layLine_1 := dk_seg dksX2_layLine_0 22 rfl rfl
theorem dX2_layLine_0 : decode cX2_layLine 0 = .ok (.iconst 0, 1) := dk_3 (dk_at dksX2_layLine_0 0 rfl rfl)
theorem dX2_layLine_1 : decode cX2_layLine 1 = .ok (.istore_n 1, 1) := dk_60 (dk_at dksX2_layLine_0 1 rfl rfl)
theorem dX2_layLine_2 : decode cX2_layLine 2 = .ok (.iload_n 1, 1) := dk_27 (dk_at dksX2_layLine_0 2 rfl rfl)
theorem dX2_layLine_3 : decode cX2_layLine 3 = .ok (.aload_n 0, 1) := dk_42 (dk_at dksX2_layLine_0 3 rfl rfl)
theorem dX2_layLine_4 : decode cX2_layLine 4 = .ok (.getfield 185, 3) := dk_180 0 185 (dk_at dksX2_layLine_0 4 rfl rfl)
theorem dX2_layLine_7 : decode cX2_layLine 7 = .ok (.if_icmp .ge 21, 3) := dk_162 0 21 (dk_at dksX2_layLine_0 7 rfl rfl)
theorem dX2_layLine_10 : decode cX2_layLine 10 = .ok (.aload_n 0, 1) := dk_42 (dk_at dksX2_layLine_0 10 rfl rfl)
theorem dX2_layLine_11 : decode cX2_layLine 11 = .ok (.getfield 51, 3) := dk_180 0 51 (dk_at dksX2_layLine_0 11 rfl rfl)
theorem dX2_layLine_14 : decode cX2_layLine 14 = .ok (.iload_n 1, 1) := dk_27 (dk_at dksX2_layLine_0 14 rfl rfl)
theorem dX2_layLine_15 : decode cX2_layLine 15 = .ok (.aload_n 0, 1) := dk_42 (dk_at dksX2_layLine_0 15 rfl rfl)
theorem dX2_layLine_16 : decode cX2_layLine 16 = .ok (.getfield 42, 3) := dk_180 0 42 (dk_at dksX2_layLine_0 16 rfl rfl)
theorem dX2_layLine_19 : decode cX2_layLine 19 = .ok (.iload_n 1, 1) := dk_27 (dk_at dksX2_layLine_0 19 rfl rfl)
theorem dX2_layLine_20 : decode cX2_layLine 20 = .ok (.iaload, 1) := dk_46 (dk_at dksX2_layLine_0 20 rfl rfl)
theorem dX2_layLine_21 : decode cX2_layLine 21 = .ok (.iastore, 1) := dk_79 (dk_at dksX2_layLine_0 21 rfl rfl)
theorem dX2_layLine_22 : decode cX2_layLine 22 = .ok (.iinc 1 1, 3) := dk_132 1 1 (dk_at dksX2_layLine_1 0 rfl rfl)
theorem dX2_layLine_25 : decode cX2_layLine 25 = .ok (.goto (-23), 3) := dk_167 255 233 (dk_at dksX2_layLine_1 3 rfl rfl)
theorem dX2_layLine_28 : decode cX2_layLine 28 = .ok (.aload_n 0, 1) := dk_42 (dk_at dksX2_layLine_1 6 rfl rfl)
theorem dX2_layLine_29 : decode cX2_layLine 29 = .ok (.aload_n 0, 1) := dk_42 (dk_at dksX2_layLine_1 7 rfl rfl)
theorem dX2_layLine_30 : decode cX2_layLine 30 = .ok (.getfield 185, 3) := dk_180 0 185 (dk_at dksX2_layLine_1 8 rfl rfl)
theorem dX2_layLine_33 : decode cX2_layLine 33 = .ok (.putfield 194, 3) := dk_181 0 194 (dk_at dksX2_layLine_1 11 rfl rfl)
theorem dX2_layLine_36 : decode cX2_layLine 36 = .ok (.return_, 1) := dk_177 (dk_at dksX2_layLine_1 14 rfl rfl)
abbrev cX2_costTo : ByteArray := prog_19_method_34_code
def yX2_costTo : MethodName := ⟨RX2, "costTo", "(II)I"⟩
def dkwX2_costTo_5 : List UInt8 := [172]
abbrev dktX2_costTo_5 : List UInt8 := dkwX2_costTo_5 ++ []
def dkwX2_costTo_4 : List UInt8 := [21, 4, 153, 0, 12, 21, 7, 154, 0, 7, 4, 167, 0, 4, 3, 54, 4, 132, 5, 1, 167, 255, 156, 29]
abbrev dktX2_costTo_4 : List UInt8 := dkwX2_costTo_4 ++ dktX2_costTo_5
def dkwX2_costTo_3 : List UInt8 := [160, 0, 13, 21, 4, 153, 0, 8, 21, 6, 167, 0, 4, 4, 54, 8, 29, 21, 6, 21, 8, 100, 96, 62]
abbrev dktX2_costTo_3 : List UInt8 := dkwX2_costTo_3 ++ dktX2_costTo_4
def dkwX2_costTo_2 : List UInt8 := [167, 0, 4, 3, 54, 7, 21, 7, 153, 0, 8, 27, 5, 162, 0, 7, 3, 167, 0, 19, 27, 6]
abbrev dktX2_costTo_2 : List UInt8 := dkwX2_costTo_2 ++ dktX2_costTo_3
def dkwX2_costTo_1 : List UInt8 := [21, 5, 182, 0, 216, 54, 6, 42, 180, 0, 54, 21, 5, 46, 5, 160, 0, 12, 21, 6, 158, 0, 7, 4]
abbrev dktX2_costTo_1 : List UInt8 := dkwX2_costTo_1 ++ dktX2_costTo_2
def dkwX2_costTo_0 : List UInt8 := [42, 28, 182, 0, 213, 3, 62, 4, 54, 4, 3, 54, 5, 21, 5, 42, 180, 0, 194, 162, 0, 97, 42]
abbrev dktX2_costTo_0 : List UInt8 := dkwX2_costTo_0 ++ dktX2_costTo_1
theorem dksX2_costTo_0 : cX2_costTo.data.toList.drop 0 = dktX2_costTo_0 := by decide +kernel
theorem dksX2_costTo_1 : cX2_costTo.data.toList.drop 23 = dktX2_costTo_1 := dk_seg dksX2_costTo_0 23 rfl rfl
theorem dksX2_costTo_2 : cX2_costTo.data.toList.drop 47 = dktX2_costTo_2 := dk_seg dksX2_costTo_1 24 rfl rfl
theorem dksX2_costTo_3 : cX2_costTo.data.toList.drop 69 = dktX2_costTo_3 := dk_seg dksX2_costTo_2 22 rfl rfl
theorem dksX2_costTo_4 : cX2_costTo.data.toList.drop 93 = dktX2_costTo_4 := dk_seg dksX2_costTo_3 24 rfl rfl
theorem dksX2_costTo_5 : cX2_costTo.data.toList.drop 117 = dktX2_costTo_5 := dk_seg dksX2_costTo_4 24 rfl rfl
theorem dX2_costTo_0 : decode cX2_costTo 0 = .ok (.aload_n 0, 1) := dk_42 (dk_at dksX2_costTo_0 0 rfl rfl)
theorem dX2_costTo_1 : decode cX2_costTo 1 = .ok (.iload_n 2, 1) := dk_28 (dk_at dksX2_costTo_0 1 rfl rfl)
theorem dX2_costTo_2 : decode cX2_costTo 2 = .ok (.invokevirtual 213, 3) := dk_182 0 213 (dk_at dksX2_costTo_0 2 rfl rfl)
theorem dX2_costTo_5 : decode cX2_costTo 5 = .ok (.iconst 0, 1) := dk_3 (dk_at dksX2_costTo_0 5 rfl rfl)
theorem dX2_costTo_6 : decode cX2_costTo 6 = .ok (.istore_n 3, 1) := dk_62 (dk_at dksX2_costTo_0 6 rfl rfl)
theorem dX2_costTo_7 : decode cX2_costTo 7 = .ok (.iconst 1, 1) := dk_4 (dk_at dksX2_costTo_0 7 rfl rfl)
theorem dX2_costTo_8 : decode cX2_costTo 8 = .ok (.istore 4, 2) := dk_54 4 (dk_at dksX2_costTo_0 8 rfl rfl)
theorem dX2_costTo_10 : decode cX2_costTo 10 = .ok (.iconst 0, 1) := dk_3 (dk_at dksX2_costTo_0 10 rfl rfl)
theorem dX2_costTo_11 : decode cX2_costTo 11 = .ok (.istore 5, 2) := dk_54 5 (dk_at dksX2_costTo_0 11 rfl rfl)
theorem dX2_costTo_13 : decode cX2_costTo 13 = .ok (.iload 5, 2) := dk_21 5 (dk_at dksX2_costTo_0 13 rfl rfl)
theorem dX2_costTo_15 : decode cX2_costTo 15 = .ok (.aload_n 0, 1) := dk_42 (dk_at dksX2_costTo_0 15 rfl rfl)
theorem dX2_costTo_16 : decode cX2_costTo 16 = .ok (.getfield 194, 3) := dk_180 0 194 (dk_at dksX2_costTo_0 16 rfl rfl)
theorem dX2_costTo_19 : decode cX2_costTo 19 = .ok (.if_icmp .ge 97, 3) := dk_162 0 97 (dk_at dksX2_costTo_0 19 rfl rfl)
theorem dX2_costTo_22 : decode cX2_costTo 22 = .ok (.aload_n 0, 1) := dk_42 (dk_at dksX2_costTo_0 22 rfl rfl)
theorem dX2_costTo_23 : decode cX2_costTo 23 = .ok (.iload 5, 2) := dk_21 5 (dk_at dksX2_costTo_1 0 rfl rfl)
theorem dX2_costTo_25 : decode cX2_costTo 25 = .ok (.invokevirtual 216, 3) := dk_182 0 216 (dk_at dksX2_costTo_1 2 rfl rfl)
theorem dX2_costTo_28 : decode cX2_costTo 28 = .ok (.istore 6, 2) := dk_54 6 (dk_at dksX2_costTo_1 5 rfl rfl)
theorem dX2_costTo_30 : decode cX2_costTo 30 = .ok (.aload_n 0, 1) := dk_42 (dk_at dksX2_costTo_1 7 rfl rfl)
theorem dX2_costTo_31 : decode cX2_costTo 31 = .ok (.getfield 54, 3) := dk_180 0 54 (dk_at dksX2_costTo_1 8 rfl rfl)
theorem dX2_costTo_34 : decode cX2_costTo 34 = .ok (.iload 5, 2) := dk_21 5 (dk_at dksX2_costTo_1 11 rfl rfl)
theorem dX2_costTo_36 : decode cX2_costTo 36 = .ok (.iaload, 1) := dk_46 (dk_at dksX2_costTo_1 13 rfl rfl)
theorem dX2_costTo_37 : decode cX2_costTo 37 = .ok (.iconst 2, 1) := dk_5 (dk_at dksX2_costTo_1 14 rfl rfl)
theorem dX2_costTo_38 : decode cX2_costTo 38 = .ok (.if_icmp .ne 12, 3) := dk_160 0 12 (dk_at dksX2_costTo_1 15 rfl rfl)
theorem dX2_costTo_41 : decode cX2_costTo 41 = .ok (.iload 6, 2) := dk_21 6 (dk_at dksX2_costTo_1 18 rfl rfl)
theorem dX2_costTo_43 : decode cX2_costTo 43 = .ok (.ifCond .le 7, 3) := dk_158 0 7 (dk_at dksX2_costTo_1 20 rfl rfl)
theorem dX2_costTo_46 : decode cX2_costTo 46 = .ok (.iconst 1, 1) := dk_4 (dk_at dksX2_costTo_1 23 rfl rfl)
theorem dX2_costTo_47 : decode cX2_costTo 47 = .ok (.goto 4, 3) := dk_167 0 4 (dk_at dksX2_costTo_2 0 rfl rfl)
theorem dX2_costTo_50 : decode cX2_costTo 50 = .ok (.iconst 0, 1) := dk_3 (dk_at dksX2_costTo_2 3 rfl rfl)
theorem dX2_costTo_51 : decode cX2_costTo 51 = .ok (.istore 7, 2) := dk_54 7 (dk_at dksX2_costTo_2 4 rfl rfl)
theorem dX2_costTo_53 : decode cX2_costTo 53 = .ok (.iload 7, 2) := dk_21 7 (dk_at dksX2_costTo_2 6 rfl rfl)
theorem dX2_costTo_55 : decode cX2_costTo 55 = .ok (.ifCond .eq 8, 3) := dk_153 0 8 (dk_at dksX2_costTo_2 8 rfl rfl)
theorem dX2_costTo_58 : decode cX2_costTo 58 = .ok (.iload_n 1, 1) := dk_27 (dk_at dksX2_costTo_2 11 rfl rfl)
theorem dX2_costTo_59 : decode cX2_costTo 59 = .ok (.iconst 2, 1) := dk_5 (dk_at dksX2_costTo_2 12 rfl rfl)
theorem dX2_costTo_60 : decode cX2_costTo 60 = .ok (.if_icmp .ge 7, 3) := dk_162 0 7 (dk_at dksX2_costTo_2 13 rfl rfl)
theorem dX2_costTo_63 : decode cX2_costTo 63 = .ok (.iconst 0, 1) := dk_3 (dk_at dksX2_costTo_2 16 rfl rfl)
theorem dX2_costTo_64 : decode cX2_costTo 64 = .ok (.goto 19, 3) := dk_167 0 19 (dk_at dksX2_costTo_2 17 rfl rfl)
theorem dX2_costTo_67 : decode cX2_costTo 67 = .ok (.iload_n 1, 1) := dk_27 (dk_at dksX2_costTo_2 20 rfl rfl)
theorem dX2_costTo_68 : decode cX2_costTo 68 = .ok (.iconst 3, 1) := dk_6 (dk_at dksX2_costTo_2 21 rfl rfl)
theorem dX2_costTo_69 : decode cX2_costTo 69 = .ok (.if_icmp .ne 13, 3) := dk_160 0 13 (dk_at dksX2_costTo_3 0 rfl rfl)
theorem dX2_costTo_72 : decode cX2_costTo 72 = .ok (.iload 4, 2) := dk_21 4 (dk_at dksX2_costTo_3 3 rfl rfl)
theorem dX2_costTo_74 : decode cX2_costTo 74 = .ok (.ifCond .eq 8, 3) := dk_153 0 8 (dk_at dksX2_costTo_3 5 rfl rfl)
theorem dX2_costTo_77 : decode cX2_costTo 77 = .ok (.iload 6, 2) := dk_21 6 (dk_at dksX2_costTo_3 8 rfl rfl)
theorem dX2_costTo_79 : decode cX2_costTo 79 = .ok (.goto 4, 3) := dk_167 0 4 (dk_at dksX2_costTo_3 10 rfl rfl)
theorem dX2_costTo_82 : decode cX2_costTo 82 = .ok (.iconst 1, 1) := dk_4 (dk_at dksX2_costTo_3 13 rfl rfl)
theorem dX2_costTo_83 : decode cX2_costTo 83 = .ok (.istore 8, 2) := dk_54 8 (dk_at dksX2_costTo_3 14 rfl rfl)
theorem dX2_costTo_85 : decode cX2_costTo 85 = .ok (.iload_n 3, 1) := dk_29 (dk_at dksX2_costTo_3 16 rfl rfl)
theorem dX2_costTo_86 : decode cX2_costTo 86 = .ok (.iload 6, 2) := dk_21 6 (dk_at dksX2_costTo_3 17 rfl rfl)
theorem dX2_costTo_88 : decode cX2_costTo 88 = .ok (.iload 8, 2) := dk_21 8 (dk_at dksX2_costTo_3 19 rfl rfl)
theorem dX2_costTo_90 : decode cX2_costTo 90 = .ok (.isub, 1) := dk_100 (dk_at dksX2_costTo_3 21 rfl rfl)
theorem dX2_costTo_91 : decode cX2_costTo 91 = .ok (.iadd, 1) := dk_96 (dk_at dksX2_costTo_3 22 rfl rfl)
theorem dX2_costTo_92 : decode cX2_costTo 92 = .ok (.istore_n 3, 1) := dk_62 (dk_at dksX2_costTo_3 23 rfl rfl)
theorem dX2_costTo_93 : decode cX2_costTo 93 = .ok (.iload 4, 2) := dk_21 4 (dk_at dksX2_costTo_4 0 rfl rfl)
theorem dX2_costTo_95 : decode cX2_costTo 95 = .ok (.ifCond .eq 12, 3) := dk_153 0 12 (dk_at dksX2_costTo_4 2 rfl rfl)
theorem dX2_costTo_98 : decode cX2_costTo 98 = .ok (.iload 7, 2) := dk_21 7 (dk_at dksX2_costTo_4 5 rfl rfl)
theorem dX2_costTo_100 : decode cX2_costTo 100 = .ok (.ifCond .ne 7, 3) := dk_154 0 7 (dk_at dksX2_costTo_4 7 rfl rfl)
theorem dX2_costTo_103 : decode cX2_costTo 103 = .ok (.iconst 1, 1) := dk_4 (dk_at dksX2_costTo_4 10 rfl rfl)
theorem dX2_costTo_104 : decode cX2_costTo 104 = .ok (.goto 4, 3) := dk_167 0 4 (dk_at dksX2_costTo_4 11 rfl rfl)
theorem dX2_costTo_107 : decode cX2_costTo 107 = .ok (.iconst 0, 1) := dk_3 (dk_at dksX2_costTo_4 14 rfl rfl)
theorem dX2_costTo_108 : decode cX2_costTo 108 = .ok (.istore 4, 2) := dk_54 4 (dk_at dksX2_costTo_4 15 rfl rfl)
theorem dX2_costTo_110 : decode cX2_costTo 110 = .ok (.iinc 5 1, 3) := dk_132 5 1 (dk_at dksX2_costTo_4 17 rfl rfl)
theorem dX2_costTo_113 : decode cX2_costTo 113 = .ok (.goto (-100), 3) := dk_167 255 156 (dk_at dksX2_costTo_4 20 rfl rfl)
theorem dX2_costTo_116 : decode cX2_costTo 116 = .ok (.iload_n 3, 1) := dk_29 (dk_at dksX2_costTo_4 23 rfl rfl)
theorem dX2_costTo_117 : decode cX2_costTo 117 = .ok (.ireturn, 1) := dk_172 (dk_at dksX2_costTo_5 0 rfl rfl)
abbrev cX2_layKinds : ByteArray := prog_19_method_30_code
def yX2_layKinds : MethodName := ⟨RX2, "layKinds", "(I)V"⟩
def dkwX2_layKinds_2 : List UInt8 := [167, 255, 214, 177]
abbrev dktX2_layKinds_2 : List UInt8 := dkwX2_layKinds_2 ++ []
def dkwX2_layKinds_1 : List UInt8 := [160, 0, 7, 2, 167, 0, 14, 42, 42, 180, 0, 51, 28, 46, 27, 182, 0, 197, 79, 132, 2, 1]
abbrev dktX2_layKinds_1 : List UInt8 := dkwX2_layKinds_1 ++ dktX2_layKinds_2
def dkwX2_layKinds_0 : List UInt8 := [3, 61, 28, 42, 180, 0, 194, 162, 0, 40, 42, 180, 0, 54, 28, 42, 180, 0, 51, 28, 46, 2]
abbrev dktX2_layKinds_0 : List UInt8 := dkwX2_layKinds_0 ++ dktX2_layKinds_1
theorem dksX2_layKinds_0 : cX2_layKinds.data.toList.drop 0 = dktX2_layKinds_0 := by decide +kernel
theorem dksX2_layKinds_1 : cX2_layKinds.data.toList.drop 22 = dktX2_layKinds_1 := dk_seg dksX2_layKinds_0 22 rfl rfl
theorem dksX2_layKinds_2 : cX2_layKinds.data.toList.drop 44 = dktX2_layKinds_2 := dk_seg dksX2_layKinds_1 22 rfl rfl
theorem dX2_layKinds_0 : decode cX2_layKinds 0 = .ok (.iconst 0, 1) := dk_3 (dk_at dksX2_layKinds_0 0 rfl rfl)
theorem dX2_layKinds_1 : decode cX2_layKinds 1 = .ok (.istore_n 2, 1) := dk_61 (dk_at dksX2_layKinds_0 1 rfl rfl)
theorem dX2_layKinds_2 : decode cX2_layKinds 2 = .ok (.iload_n 2, 1) := dk_28 (dk_at dksX2_layKinds_0 2 rfl rfl)
theorem dX2_layKinds_3 : decode cX2_layKinds 3 = .ok (.aload_n 0, 1) := dk_42 (dk_at dksX2_layKinds_0 3 rfl rfl)
theorem dX2_layKinds_4 : decode cX2_layKinds 4 = .ok (.getfield 194, 3) := dk_180 0 194 (dk_at dksX2_layKinds_0 4 rfl rfl)
theorem dX2_layKinds_7 : decode cX2_layKinds 7 = .ok (.if_icmp .ge 40, 3) := dk_162 0 40 (dk_at dksX2_layKinds_0 7 rfl rfl)
theorem dX2_layKinds_10 : decode cX2_layKinds 10 = .ok (.aload_n 0, 1) := dk_42 (dk_at dksX2_layKinds_0 10 rfl rfl)
theorem dX2_layKinds_11 : decode cX2_layKinds 11 = .ok (.getfield 54, 3) := dk_180 0 54 (dk_at dksX2_layKinds_0 11 rfl rfl)
theorem dX2_layKinds_14 : decode cX2_layKinds 14 = .ok (.iload_n 2, 1) := dk_28 (dk_at dksX2_layKinds_0 14 rfl rfl)
theorem dX2_layKinds_15 : decode cX2_layKinds 15 = .ok (.aload_n 0, 1) := dk_42 (dk_at dksX2_layKinds_0 15 rfl rfl)
theorem dX2_layKinds_16 : decode cX2_layKinds 16 = .ok (.getfield 51, 3) := dk_180 0 51 (dk_at dksX2_layKinds_0 16 rfl rfl)
theorem dX2_layKinds_19 : decode cX2_layKinds 19 = .ok (.iload_n 2, 1) := dk_28 (dk_at dksX2_layKinds_0 19 rfl rfl)
theorem dX2_layKinds_20 : decode cX2_layKinds 20 = .ok (.iaload, 1) := dk_46 (dk_at dksX2_layKinds_0 20 rfl rfl)
theorem dX2_layKinds_21 : decode cX2_layKinds 21 = .ok (.iconst (-1), 1) := dk_2 (dk_at dksX2_layKinds_0 21 rfl rfl)
theorem dX2_layKinds_22 : decode cX2_layKinds 22 = .ok (.if_icmp .ne 7, 3) := dk_160 0 7 (dk_at dksX2_layKinds_1 0 rfl rfl)
theorem dX2_layKinds_25 : decode cX2_layKinds 25 = .ok (.iconst (-1), 1) := dk_2 (dk_at dksX2_layKinds_1 3 rfl rfl)
theorem dX2_layKinds_26 : decode cX2_layKinds 26 = .ok (.goto 14, 3) := dk_167 0 14 (dk_at dksX2_layKinds_1 4 rfl rfl)
theorem dX2_layKinds_29 : decode cX2_layKinds 29 = .ok (.aload_n 0, 1) := dk_42 (dk_at dksX2_layKinds_1 7 rfl rfl)
theorem dX2_layKinds_30 : decode cX2_layKinds 30 = .ok (.aload_n 0, 1) := dk_42 (dk_at dksX2_layKinds_1 8 rfl rfl)
theorem dX2_layKinds_31 : decode cX2_layKinds 31 = .ok (.getfield 51, 3) := dk_180 0 51 (dk_at dksX2_layKinds_1 9 rfl rfl)
theorem dX2_layKinds_34 : decode cX2_layKinds 34 = .ok (.iload_n 2, 1) := dk_28 (dk_at dksX2_layKinds_1 12 rfl rfl)
theorem dX2_layKinds_35 : decode cX2_layKinds 35 = .ok (.iaload, 1) := dk_46 (dk_at dksX2_layKinds_1 13 rfl rfl)
theorem dX2_layKinds_36 : decode cX2_layKinds 36 = .ok (.iload_n 1, 1) := dk_27 (dk_at dksX2_layKinds_1 14 rfl rfl)
theorem dX2_layKinds_37 : decode cX2_layKinds 37 = .ok (.invokevirtual 197, 3) := dk_182 0 197 (dk_at dksX2_layKinds_1 15 rfl rfl)
theorem dX2_layKinds_40 : decode cX2_layKinds 40 = .ok (.iastore, 1) := dk_79 (dk_at dksX2_layKinds_1 18 rfl rfl)
theorem dX2_layKinds_41 : decode cX2_layKinds 41 = .ok (.iinc 2 1, 3) := dk_132 2 1 (dk_at dksX2_layKinds_1 19 rfl rfl)
theorem dX2_layKinds_44 : decode cX2_layKinds 44 = .ok (.goto (-42), 3) := dk_167 255 214 (dk_at dksX2_layKinds_2 0 rfl rfl)
theorem dX2_layKinds_47 : decode cX2_layKinds 47 = .ok (.return_, 1) := dk_177 (dk_at dksX2_layKinds_2 3 rfl rfl)
abbrev cX2_costAt : ByteArray := prog_19_method_33_code
def yX2_costAt : MethodName := ⟨RX2, "costAt", "(I)I"⟩
def dkwX2_costAt_6 : List UInt8 := [172]
abbrev dktX2_costAt_6 : List UInt8 := dkwX2_costAt_6 ++ []
def dkwX2_costAt_5 : List UInt8 := [180, 0, 54, 27, 46, 6, 160, 0, 7, 4, 167, 0, 4, 5, 29, 153, 0, 7, 4, 167, 0, 4, 3, 96]
abbrev dktX2_costAt_5 : List UInt8 := dkwX2_costAt_5 ++ dktX2_costAt_6
def dkwX2_costAt_4 : List UInt8 := [100, 182, 0, 207, 153, 0, 17, 42, 27, 5, 100, 182, 0, 207, 153, 0, 7, 4, 167, 0, 4, 3, 62, 42]
abbrev dktX2_costAt_4 : List UInt8 := dkwX2_costAt_4 ++ dktX2_costAt_5
def dkwX2_costAt_3 : List UInt8 := [153, 0, 5, 3, 172, 42, 180, 0, 162, 5, 184, 0, 203, 153, 0, 32, 27, 4, 164, 0, 27, 42, 27, 4]
abbrev dktX2_costAt_3 : List UInt8 := dkwX2_costAt_3 ++ dktX2_costAt_4
def dkwX2_costAt_2 : List UInt8 := [153, 0, 26, 28, 154, 0, 22, 42, 180, 0, 162, 4, 184, 0, 203, 153, 0, 13, 42, 27, 182, 0, 210]
abbrev dktX2_costAt_2 : List UInt8 := dkwX2_costAt_2 ++ dktX2_costAt_3
def dkwX2_costAt_1 : List UInt8 := [180, 0, 54, 27, 4, 96, 46, 7, 160, 0, 7, 4, 167, 0, 4, 3, 61, 42, 27, 182, 0, 207]
abbrev dktX2_costAt_1 : List UInt8 := dkwX2_costAt_1 ++ dktX2_costAt_2
def dkwX2_costAt_0 : List UInt8 := [42, 180, 0, 162, 3, 184, 0, 203, 153, 0, 29, 27, 4, 96, 42, 180, 0, 194, 162, 0, 19, 42]
abbrev dktX2_costAt_0 : List UInt8 := dkwX2_costAt_0 ++ dktX2_costAt_1
theorem dksX2_costAt_0 : cX2_costAt.data.toList.drop 0 = dktX2_costAt_0 := by decide +kernel
theorem dksX2_costAt_1 : cX2_costAt.data.toList.drop 22 = dktX2_costAt_1 := dk_seg dksX2_costAt_0 22 rfl rfl
theorem dksX2_costAt_2 : cX2_costAt.data.toList.drop 44 = dktX2_costAt_2 := dk_seg dksX2_costAt_1 22 rfl rfl
theorem dksX2_costAt_3 : cX2_costAt.data.toList.drop 67 = dktX2_costAt_3 := dk_seg dksX2_costAt_2 23 rfl rfl
theorem dksX2_costAt_4 : cX2_costAt.data.toList.drop 91 = dktX2_costAt_4 := dk_seg dksX2_costAt_3 24 rfl rfl
theorem dksX2_costAt_5 : cX2_costAt.data.toList.drop 115 = dktX2_costAt_5 := dk_seg dksX2_costAt_4 24 rfl rfl
theorem dksX2_costAt_6 : cX2_costAt.data.toList.drop 139 = dktX2_costAt_6 := dk_seg dksX2_costAt_5 24 rfl rfl
theorem dX2_costAt_0 : decode cX2_costAt 0 = .ok (.aload_n 0, 1) := dk_42 (dk_at dksX2_costAt_0 0 rfl rfl)
theorem dX2_costAt_1 : decode cX2_costAt 1 = .ok (.getfield 162, 3) := dk_180 0 162 (dk_at dksX2_costAt_0 1 rfl rfl)
theorem dX2_costAt_4 : decode cX2_costAt 4 = .ok (.iconst 0, 1) := dk_3 (dk_at dksX2_costAt_0 4 rfl rfl)
theorem dX2_costAt_5 : decode cX2_costAt 5 = .ok (.invokestatic 203, 3) := dk_184 0 203 (dk_at dksX2_costAt_0 5 rfl rfl)
theorem dX2_costAt_8 : decode cX2_costAt 8 = .ok (.ifCond .eq 29, 3) := dk_153 0 29 (dk_at dksX2_costAt_0 8 rfl rfl)
theorem dX2_costAt_11 : decode cX2_costAt 11 = .ok (.iload_n 1, 1) := dk_27 (dk_at dksX2_costAt_0 11 rfl rfl)
theorem dX2_costAt_12 : decode cX2_costAt 12 = .ok (.iconst 1, 1) := dk_4 (dk_at dksX2_costAt_0 12 rfl rfl)
theorem dX2_costAt_13 : decode cX2_costAt 13 = .ok (.iadd, 1) := dk_96 (dk_at dksX2_costAt_0 13 rfl rfl)
theorem dX2_costAt_14 : decode cX2_costAt 14 = .ok (.aload_n 0, 1) := dk_42 (dk_at dksX2_costAt_0 14 rfl rfl)
theorem dX2_costAt_15 : decode cX2_costAt 15 = .ok (.getfield 194, 3) := dk_180 0 194 (dk_at dksX2_costAt_0 15 rfl rfl)
theorem dX2_costAt_18 : decode cX2_costAt 18 = .ok (.if_icmp .ge 19, 3) := dk_162 0 19 (dk_at dksX2_costAt_0 18 rfl rfl)
theorem dX2_costAt_21 : decode cX2_costAt 21 = .ok (.aload_n 0, 1) := dk_42 (dk_at dksX2_costAt_0 21 rfl rfl)
theorem dX2_costAt_22 : decode cX2_costAt 22 = .ok (.getfield 54, 3) := dk_180 0 54 (dk_at dksX2_costAt_1 0 rfl rfl)
theorem dX2_costAt_25 : decode cX2_costAt 25 = .ok (.iload_n 1, 1) := dk_27 (dk_at dksX2_costAt_1 3 rfl rfl)
theorem dX2_costAt_26 : decode cX2_costAt 26 = .ok (.iconst 1, 1) := dk_4 (dk_at dksX2_costAt_1 4 rfl rfl)
theorem dX2_costAt_27 : decode cX2_costAt 27 = .ok (.iadd, 1) := dk_96 (dk_at dksX2_costAt_1 5 rfl rfl)
theorem dX2_costAt_28 : decode cX2_costAt 28 = .ok (.iaload, 1) := dk_46 (dk_at dksX2_costAt_1 6 rfl rfl)
theorem dX2_costAt_29 : decode cX2_costAt 29 = .ok (.iconst 4, 1) := dk_7 (dk_at dksX2_costAt_1 7 rfl rfl)
theorem dX2_costAt_30 : decode cX2_costAt 30 = .ok (.if_icmp .ne 7, 3) := dk_160 0 7 (dk_at dksX2_costAt_1 8 rfl rfl)
theorem dX2_costAt_33 : decode cX2_costAt 33 = .ok (.iconst 1, 1) := dk_4 (dk_at dksX2_costAt_1 11 rfl rfl)
theorem dX2_costAt_34 : decode cX2_costAt 34 = .ok (.goto 4, 3) := dk_167 0 4 (dk_at dksX2_costAt_1 12 rfl rfl)
theorem dX2_costAt_37 : decode cX2_costAt 37 = .ok (.iconst 0, 1) := dk_3 (dk_at dksX2_costAt_1 15 rfl rfl)
theorem dX2_costAt_38 : decode cX2_costAt 38 = .ok (.istore_n 2, 1) := dk_61 (dk_at dksX2_costAt_1 16 rfl rfl)
theorem dX2_costAt_39 : decode cX2_costAt 39 = .ok (.aload_n 0, 1) := dk_42 (dk_at dksX2_costAt_1 17 rfl rfl)
theorem dX2_costAt_40 : decode cX2_costAt 40 = .ok (.iload_n 1, 1) := dk_27 (dk_at dksX2_costAt_1 18 rfl rfl)
theorem dX2_costAt_41 : decode cX2_costAt 41 = .ok (.invokevirtual 207, 3) := dk_182 0 207 (dk_at dksX2_costAt_1 19 rfl rfl)
theorem dX2_costAt_44 : decode cX2_costAt 44 = .ok (.ifCond .eq 26, 3) := dk_153 0 26 (dk_at dksX2_costAt_2 0 rfl rfl)
theorem dX2_costAt_47 : decode cX2_costAt 47 = .ok (.iload_n 2, 1) := dk_28 (dk_at dksX2_costAt_2 3 rfl rfl)
theorem dX2_costAt_48 : decode cX2_costAt 48 = .ok (.ifCond .ne 22, 3) := dk_154 0 22 (dk_at dksX2_costAt_2 4 rfl rfl)
theorem dX2_costAt_51 : decode cX2_costAt 51 = .ok (.aload_n 0, 1) := dk_42 (dk_at dksX2_costAt_2 7 rfl rfl)
theorem dX2_costAt_52 : decode cX2_costAt 52 = .ok (.getfield 162, 3) := dk_180 0 162 (dk_at dksX2_costAt_2 8 rfl rfl)
theorem dX2_costAt_55 : decode cX2_costAt 55 = .ok (.iconst 1, 1) := dk_4 (dk_at dksX2_costAt_2 11 rfl rfl)
theorem dX2_costAt_56 : decode cX2_costAt 56 = .ok (.invokestatic 203, 3) := dk_184 0 203 (dk_at dksX2_costAt_2 12 rfl rfl)
theorem dX2_costAt_59 : decode cX2_costAt 59 = .ok (.ifCond .eq 13, 3) := dk_153 0 13 (dk_at dksX2_costAt_2 15 rfl rfl)
theorem dX2_costAt_62 : decode cX2_costAt 62 = .ok (.aload_n 0, 1) := dk_42 (dk_at dksX2_costAt_2 18 rfl rfl)
theorem dX2_costAt_63 : decode cX2_costAt 63 = .ok (.iload_n 1, 1) := dk_27 (dk_at dksX2_costAt_2 19 rfl rfl)
theorem dX2_costAt_64 : decode cX2_costAt 64 = .ok (.invokevirtual 210, 3) := dk_182 0 210 (dk_at dksX2_costAt_2 20 rfl rfl)
theorem dX2_costAt_67 : decode cX2_costAt 67 = .ok (.ifCond .eq 5, 3) := dk_153 0 5 (dk_at dksX2_costAt_3 0 rfl rfl)
theorem dX2_costAt_70 : decode cX2_costAt 70 = .ok (.iconst 0, 1) := dk_3 (dk_at dksX2_costAt_3 3 rfl rfl)
theorem dX2_costAt_71 : decode cX2_costAt 71 = .ok (.ireturn, 1) := dk_172 (dk_at dksX2_costAt_3 4 rfl rfl)
theorem dX2_costAt_72 : decode cX2_costAt 72 = .ok (.aload_n 0, 1) := dk_42 (dk_at dksX2_costAt_3 5 rfl rfl)
theorem dX2_costAt_73 : decode cX2_costAt 73 = .ok (.getfield 162, 3) := dk_180 0 162 (dk_at dksX2_costAt_3 6 rfl rfl)
theorem dX2_costAt_76 : decode cX2_costAt 76 = .ok (.iconst 2, 1) := dk_5 (dk_at dksX2_costAt_3 9 rfl rfl)
theorem dX2_costAt_77 : decode cX2_costAt 77 = .ok (.invokestatic 203, 3) := dk_184 0 203 (dk_at dksX2_costAt_3 10 rfl rfl)
theorem dX2_costAt_80 : decode cX2_costAt 80 = .ok (.ifCond .eq 32, 3) := dk_153 0 32 (dk_at dksX2_costAt_3 13 rfl rfl)
theorem dX2_costAt_83 : decode cX2_costAt 83 = .ok (.iload_n 1, 1) := dk_27 (dk_at dksX2_costAt_3 16 rfl rfl)
theorem dX2_costAt_84 : decode cX2_costAt 84 = .ok (.iconst 1, 1) := dk_4 (dk_at dksX2_costAt_3 17 rfl rfl)
theorem dX2_costAt_85 : decode cX2_costAt 85 = .ok (.if_icmp .le 27, 3) := dk_164 0 27 (dk_at dksX2_costAt_3 18 rfl rfl)
theorem dX2_costAt_88 : decode cX2_costAt 88 = .ok (.aload_n 0, 1) := dk_42 (dk_at dksX2_costAt_3 21 rfl rfl)
theorem dX2_costAt_89 : decode cX2_costAt 89 = .ok (.iload_n 1, 1) := dk_27 (dk_at dksX2_costAt_3 22 rfl rfl)
theorem dX2_costAt_90 : decode cX2_costAt 90 = .ok (.iconst 1, 1) := dk_4 (dk_at dksX2_costAt_3 23 rfl rfl)
theorem dX2_costAt_91 : decode cX2_costAt 91 = .ok (.isub, 1) := dk_100 (dk_at dksX2_costAt_4 0 rfl rfl)
theorem dX2_costAt_92 : decode cX2_costAt 92 = .ok (.invokevirtual 207, 3) := dk_182 0 207 (dk_at dksX2_costAt_4 1 rfl rfl)
theorem dX2_costAt_95 : decode cX2_costAt 95 = .ok (.ifCond .eq 17, 3) := dk_153 0 17 (dk_at dksX2_costAt_4 4 rfl rfl)
theorem dX2_costAt_98 : decode cX2_costAt 98 = .ok (.aload_n 0, 1) := dk_42 (dk_at dksX2_costAt_4 7 rfl rfl)
theorem dX2_costAt_99 : decode cX2_costAt 99 = .ok (.iload_n 1, 1) := dk_27 (dk_at dksX2_costAt_4 8 rfl rfl)
theorem dX2_costAt_100 : decode cX2_costAt 100 = .ok (.iconst 2, 1) := dk_5 (dk_at dksX2_costAt_4 9 rfl rfl)
theorem dX2_costAt_101 : decode cX2_costAt 101 = .ok (.isub, 1) := dk_100 (dk_at dksX2_costAt_4 10 rfl rfl)
theorem dX2_costAt_102 : decode cX2_costAt 102 = .ok (.invokevirtual 207, 3) := dk_182 0 207 (dk_at dksX2_costAt_4 11 rfl rfl)
theorem dX2_costAt_105 : decode cX2_costAt 105 = .ok (.ifCond .eq 7, 3) := dk_153 0 7 (dk_at dksX2_costAt_4 14 rfl rfl)
theorem dX2_costAt_108 : decode cX2_costAt 108 = .ok (.iconst 1, 1) := dk_4 (dk_at dksX2_costAt_4 17 rfl rfl)
theorem dX2_costAt_109 : decode cX2_costAt 109 = .ok (.goto 4, 3) := dk_167 0 4 (dk_at dksX2_costAt_4 18 rfl rfl)
theorem dX2_costAt_112 : decode cX2_costAt 112 = .ok (.iconst 0, 1) := dk_3 (dk_at dksX2_costAt_4 21 rfl rfl)
theorem dX2_costAt_113 : decode cX2_costAt 113 = .ok (.istore_n 3, 1) := dk_62 (dk_at dksX2_costAt_4 22 rfl rfl)
theorem dX2_costAt_114 : decode cX2_costAt 114 = .ok (.aload_n 0, 1) := dk_42 (dk_at dksX2_costAt_4 23 rfl rfl)
theorem dX2_costAt_115 : decode cX2_costAt 115 = .ok (.getfield 54, 3) := dk_180 0 54 (dk_at dksX2_costAt_5 0 rfl rfl)
theorem dX2_costAt_118 : decode cX2_costAt 118 = .ok (.iload_n 1, 1) := dk_27 (dk_at dksX2_costAt_5 3 rfl rfl)
theorem dX2_costAt_119 : decode cX2_costAt 119 = .ok (.iaload, 1) := dk_46 (dk_at dksX2_costAt_5 4 rfl rfl)
theorem dX2_costAt_120 : decode cX2_costAt 120 = .ok (.iconst 3, 1) := dk_6 (dk_at dksX2_costAt_5 5 rfl rfl)
theorem dX2_costAt_121 : decode cX2_costAt 121 = .ok (.if_icmp .ne 7, 3) := dk_160 0 7 (dk_at dksX2_costAt_5 6 rfl rfl)
theorem dX2_costAt_124 : decode cX2_costAt 124 = .ok (.iconst 1, 1) := dk_4 (dk_at dksX2_costAt_5 9 rfl rfl)
theorem dX2_costAt_125 : decode cX2_costAt 125 = .ok (.goto 4, 3) := dk_167 0 4 (dk_at dksX2_costAt_5 10 rfl rfl)
theorem dX2_costAt_128 : decode cX2_costAt 128 = .ok (.iconst 2, 1) := dk_5 (dk_at dksX2_costAt_5 13 rfl rfl)
theorem dX2_costAt_129 : decode cX2_costAt 129 = .ok (.iload_n 3, 1) := dk_29 (dk_at dksX2_costAt_5 14 rfl rfl)
theorem dX2_costAt_130 : decode cX2_costAt 130 = .ok (.ifCond .eq 7, 3) := dk_153 0 7 (dk_at dksX2_costAt_5 15 rfl rfl)
theorem dX2_costAt_133 : decode cX2_costAt 133 = .ok (.iconst 1, 1) := dk_4 (dk_at dksX2_costAt_5 18 rfl rfl)
theorem dX2_costAt_134 : decode cX2_costAt 134 = .ok (.goto 4, 3) := dk_167 0 4 (dk_at dksX2_costAt_5 19 rfl rfl)
theorem dX2_costAt_137 : decode cX2_costAt 137 = .ok (.iconst 0, 1) := dk_3 (dk_at dksX2_costAt_5 22 rfl rfl)
theorem dX2_costAt_138 : decode cX2_costAt 138 = .ok (.iadd, 1) := dk_96 (dk_at dksX2_costAt_5 23 rfl rfl)
theorem dX2_costAt_139 : decode cX2_costAt 139 = .ok (.ireturn, 1) := dk_172 (dk_at dksX2_costAt_6 0 rfl rfl)
abbrev cX2_has : ByteArray := prog_19_method_3_code
def yX2_has : MethodName := ⟨RX2, "has", "(II)Z"⟩
def dkwX2_has_0 : List UInt8 := [26, 27, 122, 4, 126, 4, 160, 0, 7, 4, 167, 0, 4, 3, 172]
abbrev dktX2_has_0 : List UInt8 := dkwX2_has_0 ++ []
theorem dksX2_has_0 : cX2_has.data.toList.drop 0 = dktX2_has_0 := by decide +kernel
theorem dX2_has_0 : decode cX2_has 0 = .ok (.iload_n 0, 1) := dk_26 (dk_at dksX2_has_0 0 rfl rfl)
theorem dX2_has_1 : decode cX2_has 1 = .ok (.iload_n 1, 1) := dk_27 (dk_at dksX2_has_0 1 rfl rfl)
theorem dX2_has_2 : decode cX2_has 2 = .ok (.ishr, 1) := dk_122 (dk_at dksX2_has_0 2 rfl rfl)
theorem dX2_has_3 : decode cX2_has 3 = .ok (.iconst 1, 1) := dk_4 (dk_at dksX2_has_0 3 rfl rfl)
theorem dX2_has_4 : decode cX2_has 4 = .ok (.iand, 1) := dk_126 (dk_at dksX2_has_0 4 rfl rfl)
theorem dX2_has_5 : decode cX2_has 5 = .ok (.iconst 1, 1) := dk_4 (dk_at dksX2_has_0 5 rfl rfl)
theorem dX2_has_6 : decode cX2_has 6 = .ok (.if_icmp .ne 7, 3) := dk_160 0 7 (dk_at dksX2_has_0 6 rfl rfl)
theorem dX2_has_9 : decode cX2_has 9 = .ok (.iconst 1, 1) := dk_4 (dk_at dksX2_has_0 9 rfl rfl)
theorem dX2_has_10 : decode cX2_has 10 = .ok (.goto 4, 3) := dk_167 0 4 (dk_at dksX2_has_0 10 rfl rfl)
theorem dX2_has_13 : decode cX2_has 13 = .ok (.iconst 0, 1) := dk_3 (dk_at dksX2_has_0 13 rfl rfl)
theorem dX2_has_14 : decode cX2_has 14 = .ok (.ireturn, 1) := dk_172 (dk_at dksX2_has_0 14 rfl rfl)
abbrev cX2_isAdjective : ByteArray := prog_19_method_31_code
def yX2_isAdjective : MethodName := ⟨RX2, "isAdjective", "(I)Z"⟩
def dkwX2_isAdjective_0 : List UInt8 := [42, 180, 0, 54, 27, 46, 133, 10, 20, 0, 201, 184, 0, 65, 172]
abbrev dktX2_isAdjective_0 : List UInt8 := dkwX2_isAdjective_0 ++ []
theorem dksX2_isAdjective_0 : cX2_isAdjective.data.toList.drop 0 = dktX2_isAdjective_0 := by decide +kernel
theorem dX2_isAdjective_0 : decode cX2_isAdjective 0 = .ok (.aload_n 0, 1) := dk_42 (dk_at dksX2_isAdjective_0 0 rfl rfl)
theorem dX2_isAdjective_1 : decode cX2_isAdjective 1 = .ok (.getfield 54, 3) := dk_180 0 54 (dk_at dksX2_isAdjective_0 1 rfl rfl)
theorem dX2_isAdjective_4 : decode cX2_isAdjective 4 = .ok (.iload_n 1, 1) := dk_27 (dk_at dksX2_isAdjective_0 4 rfl rfl)
theorem dX2_isAdjective_5 : decode cX2_isAdjective 5 = .ok (.iaload, 1) := dk_46 (dk_at dksX2_isAdjective_0 5 rfl rfl)
theorem dX2_isAdjective_6 : decode cX2_isAdjective 6 = .ok (.i2l, 1) := dk_133 (dk_at dksX2_isAdjective_0 6 rfl rfl)
theorem dX2_isAdjective_7 : decode cX2_isAdjective 7 = .ok (.lconst 1, 1) := dk_10 (dk_at dksX2_isAdjective_0 7 rfl rfl)
theorem dX2_isAdjective_8 : decode cX2_isAdjective 8 = .ok (.ldc2_w 201, 3) := dk_20 0 201 (dk_at dksX2_isAdjective_0 8 rfl rfl)
theorem dX2_isAdjective_11 : decode cX2_isAdjective 11 = .ok (.invokestatic 65, 3) := dk_184 0 65 (dk_at dksX2_isAdjective_0 11 rfl rfl)
theorem dX2_isAdjective_14 : decode cX2_isAdjective 14 = .ok (.ireturn, 1) := dk_172 (dk_at dksX2_isAdjective_0 14 rfl rfl)
abbrev cX2_wasAhead : ByteArray := prog_19_method_32_code
def yX2_wasAhead : MethodName := ⟨RX2, "wasAhead", "(I)Z"⟩
def dkwX2_wasAhead_1 : List UInt8 := [46, 160, 0, 7, 4, 167, 0, 4, 3, 61, 132, 3, 1, 167, 255, 223, 28, 172]
abbrev dktX2_wasAhead_1 : List UInt8 := dkwX2_wasAhead_1 ++ []
def dkwX2_wasAhead_0 : List UInt8 := [3, 61, 3, 62, 29, 27, 162, 0, 34, 28, 154, 0, 18, 42, 180, 0, 51, 29, 46, 42, 180, 0, 51, 27]
abbrev dktX2_wasAhead_0 : List UInt8 := dkwX2_wasAhead_0 ++ dktX2_wasAhead_1
theorem dksX2_wasAhead_0 : cX2_wasAhead.data.toList.drop 0 = dktX2_wasAhead_0 := by decide +kernel
theorem dksX2_wasAhead_1 : cX2_wasAhead.data.toList.drop 24 = dktX2_wasAhead_1 := dk_seg dksX2_wasAhead_0 24 rfl rfl
theorem dX2_wasAhead_0 : decode cX2_wasAhead 0 = .ok (.iconst 0, 1) := dk_3 (dk_at dksX2_wasAhead_0 0 rfl rfl)
theorem dX2_wasAhead_1 : decode cX2_wasAhead 1 = .ok (.istore_n 2, 1) := dk_61 (dk_at dksX2_wasAhead_0 1 rfl rfl)
theorem dX2_wasAhead_2 : decode cX2_wasAhead 2 = .ok (.iconst 0, 1) := dk_3 (dk_at dksX2_wasAhead_0 2 rfl rfl)
theorem dX2_wasAhead_3 : decode cX2_wasAhead 3 = .ok (.istore_n 3, 1) := dk_62 (dk_at dksX2_wasAhead_0 3 rfl rfl)
theorem dX2_wasAhead_4 : decode cX2_wasAhead 4 = .ok (.iload_n 3, 1) := dk_29 (dk_at dksX2_wasAhead_0 4 rfl rfl)
theorem dX2_wasAhead_5 : decode cX2_wasAhead 5 = .ok (.iload_n 1, 1) := dk_27 (dk_at dksX2_wasAhead_0 5 rfl rfl)
theorem dX2_wasAhead_6 : decode cX2_wasAhead 6 = .ok (.if_icmp .ge 34, 3) := dk_162 0 34 (dk_at dksX2_wasAhead_0 6 rfl rfl)
theorem dX2_wasAhead_9 : decode cX2_wasAhead 9 = .ok (.iload_n 2, 1) := dk_28 (dk_at dksX2_wasAhead_0 9 rfl rfl)
theorem dX2_wasAhead_10 : decode cX2_wasAhead 10 = .ok (.ifCond .ne 18, 3) := dk_154 0 18 (dk_at dksX2_wasAhead_0 10 rfl rfl)
theorem dX2_wasAhead_13 : decode cX2_wasAhead 13 = .ok (.aload_n 0, 1) := dk_42 (dk_at dksX2_wasAhead_0 13 rfl rfl)
theorem dX2_wasAhead_14 : decode cX2_wasAhead 14 = .ok (.getfield 51, 3) := dk_180 0 51 (dk_at dksX2_wasAhead_0 14 rfl rfl)
theorem dX2_wasAhead_17 : decode cX2_wasAhead 17 = .ok (.iload_n 3, 1) := dk_29 (dk_at dksX2_wasAhead_0 17 rfl rfl)
theorem dX2_wasAhead_18 : decode cX2_wasAhead 18 = .ok (.iaload, 1) := dk_46 (dk_at dksX2_wasAhead_0 18 rfl rfl)
theorem dX2_wasAhead_19 : decode cX2_wasAhead 19 = .ok (.aload_n 0, 1) := dk_42 (dk_at dksX2_wasAhead_0 19 rfl rfl)
theorem dX2_wasAhead_20 : decode cX2_wasAhead 20 = .ok (.getfield 51, 3) := dk_180 0 51 (dk_at dksX2_wasAhead_0 20 rfl rfl)
theorem dX2_wasAhead_23 : decode cX2_wasAhead 23 = .ok (.iload_n 1, 1) := dk_27 (dk_at dksX2_wasAhead_0 23 rfl rfl)
theorem dX2_wasAhead_24 : decode cX2_wasAhead 24 = .ok (.iaload, 1) := dk_46 (dk_at dksX2_wasAhead_1 0 rfl rfl)
theorem dX2_wasAhead_25 : decode cX2_wasAhead 25 = .ok (.if_icmp .ne 7, 3) := dk_160 0 7 (dk_at dksX2_wasAhead_1 1 rfl rfl)
theorem dX2_wasAhead_28 : decode cX2_wasAhead 28 = .ok (.iconst 1, 1) := dk_4 (dk_at dksX2_wasAhead_1 4 rfl rfl)
theorem dX2_wasAhead_29 : decode cX2_wasAhead 29 = .ok (.goto 4, 3) := dk_167 0 4 (dk_at dksX2_wasAhead_1 5 rfl rfl)
theorem dX2_wasAhead_32 : decode cX2_wasAhead 32 = .ok (.iconst 0, 1) := dk_3 (dk_at dksX2_wasAhead_1 8 rfl rfl)
theorem dX2_wasAhead_33 : decode cX2_wasAhead 33 = .ok (.istore_n 2, 1) := dk_61 (dk_at dksX2_wasAhead_1 9 rfl rfl)
theorem dX2_wasAhead_34 : decode cX2_wasAhead 34 = .ok (.iinc 3 1, 3) := dk_132 3 1 (dk_at dksX2_wasAhead_1 10 rfl rfl)
theorem dX2_wasAhead_37 : decode cX2_wasAhead 37 = .ok (.goto (-33), 3) := dk_167 255 223 (dk_at dksX2_wasAhead_1 13 rfl rfl)
theorem dX2_wasAhead_40 : decode cX2_wasAhead 40 = .ok (.iload_n 2, 1) := dk_28 (dk_at dksX2_wasAhead_1 16 rfl rfl)
theorem dX2_wasAhead_41 : decode cX2_wasAhead 41 = .ok (.ireturn, 1) := dk_172 (dk_at dksX2_wasAhead_1 17 rfl rfl)
abbrev cX2_put : ByteArray := prog_19_method_43_code
def yX2_put : MethodName := ⟨RX2, "put", "(I)I"⟩
def dkwX2_put_2 : List UInt8 := [181, 0, 185, 42, 180, 0, 185, 172]
abbrev dktX2_put_2 : List UInt8 := dkwX2_put_2 ++ []
def dkwX2_put_1 : List UInt8 := [160, 0, 6, 16, 251, 172, 42, 180, 0, 42, 42, 180, 0, 185, 27, 79, 42, 89, 180, 0, 185, 4, 96]
abbrev dktX2_put_1 : List UInt8 := dkwX2_put_1 ++ dktX2_put_2
def dkwX2_put_0 : List UInt8 := [27, 2, 159, 0, 14, 42, 27, 182, 0, 225, 154, 0, 6, 16, 254, 172, 42, 180, 0, 185, 16, 8]
abbrev dktX2_put_0 : List UInt8 := dkwX2_put_0 ++ dktX2_put_1
theorem dksX2_put_0 : cX2_put.data.toList.drop 0 = dktX2_put_0 := by decide +kernel
theorem dksX2_put_1 : cX2_put.data.toList.drop 22 = dktX2_put_1 := dk_seg dksX2_put_0 22 rfl rfl
theorem dksX2_put_2 : cX2_put.data.toList.drop 45 = dktX2_put_2 := dk_seg dksX2_put_1 23 rfl rfl
theorem dX2_put_0 : decode cX2_put 0 = .ok (.iload_n 1, 1) := dk_27 (dk_at dksX2_put_0 0 rfl rfl)
theorem dX2_put_1 : decode cX2_put 1 = .ok (.iconst (-1), 1) := dk_2 (dk_at dksX2_put_0 1 rfl rfl)
theorem dX2_put_2 : decode cX2_put 2 = .ok (.if_icmp .eq 14, 3) := dk_159 0 14 (dk_at dksX2_put_0 2 rfl rfl)
theorem dX2_put_5 : decode cX2_put 5 = .ok (.aload_n 0, 1) := dk_42 (dk_at dksX2_put_0 5 rfl rfl)
theorem dX2_put_6 : decode cX2_put 6 = .ok (.iload_n 1, 1) := dk_27 (dk_at dksX2_put_0 6 rfl rfl)
theorem dX2_put_7 : decode cX2_put 7 = .ok (.invokevirtual 225, 3) := dk_182 0 225 (dk_at dksX2_put_0 7 rfl rfl)
theorem dX2_put_10 : decode cX2_put 10 = .ok (.ifCond .ne 6, 3) := dk_154 0 6 (dk_at dksX2_put_0 10 rfl rfl)
theorem dX2_put_13 : decode cX2_put 13 = .ok (.bipush (-2), 2) := dk_16 254 (dk_at dksX2_put_0 13 rfl rfl)
theorem dX2_put_15 : decode cX2_put 15 = .ok (.ireturn, 1) := dk_172 (dk_at dksX2_put_0 15 rfl rfl)
theorem dX2_put_16 : decode cX2_put 16 = .ok (.aload_n 0, 1) := dk_42 (dk_at dksX2_put_0 16 rfl rfl)
theorem dX2_put_17 : decode cX2_put 17 = .ok (.getfield 185, 3) := dk_180 0 185 (dk_at dksX2_put_0 17 rfl rfl)
theorem dX2_put_20 : decode cX2_put 20 = .ok (.bipush 8, 2) := dk_16 8 (dk_at dksX2_put_0 20 rfl rfl)
theorem dX2_put_22 : decode cX2_put 22 = .ok (.if_icmp .ne 6, 3) := dk_160 0 6 (dk_at dksX2_put_1 0 rfl rfl)
theorem dX2_put_25 : decode cX2_put 25 = .ok (.bipush (-5), 2) := dk_16 251 (dk_at dksX2_put_1 3 rfl rfl)
theorem dX2_put_27 : decode cX2_put 27 = .ok (.ireturn, 1) := dk_172 (dk_at dksX2_put_1 5 rfl rfl)
theorem dX2_put_28 : decode cX2_put 28 = .ok (.aload_n 0, 1) := dk_42 (dk_at dksX2_put_1 6 rfl rfl)
theorem dX2_put_29 : decode cX2_put 29 = .ok (.getfield 42, 3) := dk_180 0 42 (dk_at dksX2_put_1 7 rfl rfl)
theorem dX2_put_32 : decode cX2_put 32 = .ok (.aload_n 0, 1) := dk_42 (dk_at dksX2_put_1 10 rfl rfl)
theorem dX2_put_33 : decode cX2_put 33 = .ok (.getfield 185, 3) := dk_180 0 185 (dk_at dksX2_put_1 11 rfl rfl)
theorem dX2_put_36 : decode cX2_put 36 = .ok (.iload_n 1, 1) := dk_27 (dk_at dksX2_put_1 14 rfl rfl)
theorem dX2_put_37 : decode cX2_put 37 = .ok (.iastore, 1) := dk_79 (dk_at dksX2_put_1 15 rfl rfl)
theorem dX2_put_38 : decode cX2_put 38 = .ok (.aload_n 0, 1) := dk_42 (dk_at dksX2_put_1 16 rfl rfl)
theorem dX2_put_39 : decode cX2_put 39 = .ok (.dup, 1) := dk_89 (dk_at dksX2_put_1 17 rfl rfl)
theorem dX2_put_40 : decode cX2_put 40 = .ok (.getfield 185, 3) := dk_180 0 185 (dk_at dksX2_put_1 18 rfl rfl)
theorem dX2_put_43 : decode cX2_put 43 = .ok (.iconst 1, 1) := dk_4 (dk_at dksX2_put_1 21 rfl rfl)
theorem dX2_put_44 : decode cX2_put 44 = .ok (.iadd, 1) := dk_96 (dk_at dksX2_put_1 22 rfl rfl)
theorem dX2_put_45 : decode cX2_put 45 = .ok (.putfield 185, 3) := dk_181 0 185 (dk_at dksX2_put_2 0 rfl rfl)
theorem dX2_put_48 : decode cX2_put 48 = .ok (.aload_n 0, 1) := dk_42 (dk_at dksX2_put_2 3 rfl rfl)
theorem dX2_put_49 : decode cX2_put 49 = .ok (.getfield 185, 3) := dk_180 0 185 (dk_at dksX2_put_2 4 rfl rfl)
theorem dX2_put_52 : decode cX2_put 52 = .ok (.ireturn, 1) := dk_172 (dk_at dksX2_put_2 7 rfl rfl)
abbrev cX2_wipe : ByteArray := prog_19_method_44_code
def yX2_wipe : MethodName := ⟨RX2, "wipe", "()I"⟩
def dkwX2_wipe_0 : List UInt8 := [42, 180, 0, 185, 60, 42, 3, 181, 0, 185, 27, 172]
abbrev dktX2_wipe_0 : List UInt8 := dkwX2_wipe_0 ++ []
theorem dksX2_wipe_0 : cX2_wipe.data.toList.drop 0 = dktX2_wipe_0 := by decide +kernel
theorem dX2_wipe_0 : decode cX2_wipe 0 = .ok (.aload_n 0, 1) := dk_42 (dk_at dksX2_wipe_0 0 rfl rfl)
theorem dX2_wipe_1 : decode cX2_wipe 1 = .ok (.getfield 185, 3) := dk_180 0 185 (dk_at dksX2_wipe_0 1 rfl rfl)
theorem dX2_wipe_4 : decode cX2_wipe 4 = .ok (.istore_n 1, 1) := dk_60 (dk_at dksX2_wipe_0 4 rfl rfl)
theorem dX2_wipe_5 : decode cX2_wipe 5 = .ok (.aload_n 0, 1) := dk_42 (dk_at dksX2_wipe_0 5 rfl rfl)
theorem dX2_wipe_6 : decode cX2_wipe 6 = .ok (.iconst 0, 1) := dk_3 (dk_at dksX2_wipe_0 6 rfl rfl)
theorem dX2_wipe_7 : decode cX2_wipe 7 = .ok (.putfield 185, 3) := dk_181 0 185 (dk_at dksX2_wipe_0 7 rfl rfl)
theorem dX2_wipe_10 : decode cX2_wipe 10 = .ok (.iload_n 1, 1) := dk_27 (dk_at dksX2_wipe_0 10 rfl rfl)
theorem dX2_wipe_11 : decode cX2_wipe 11 = .ok (.ireturn, 1) := dk_172 (dk_at dksX2_wipe_0 11 rfl rfl)
abbrev cX2_line : ByteArray := prog_19_method_45_code
def yX2_line : MethodName := ⟨RX2, "line", "(I)I"⟩
def dkwX2_line_1 : List UInt8 := [167, 0, 5, 16, 253, 172]
abbrev dktX2_line_1 : List UInt8 := dkwX2_line_1 ++ []
def dkwX2_line_0 : List UInt8 := [27, 133, 9, 42, 180, 0, 185, 4, 100, 133, 184, 0, 65, 153, 0, 12, 42, 180, 0, 42, 27, 46]
abbrev dktX2_line_0 : List UInt8 := dkwX2_line_0 ++ dktX2_line_1
theorem dksX2_line_0 : cX2_line.data.toList.drop 0 = dktX2_line_0 := by decide +kernel
theorem dksX2_line_1 : cX2_line.data.toList.drop 22 = dktX2_line_1 := dk_seg dksX2_line_0 22 rfl rfl
theorem dX2_line_0 : decode cX2_line 0 = .ok (.iload_n 1, 1) := dk_27 (dk_at dksX2_line_0 0 rfl rfl)
theorem dX2_line_1 : decode cX2_line 1 = .ok (.i2l, 1) := dk_133 (dk_at dksX2_line_0 1 rfl rfl)
theorem dX2_line_2 : decode cX2_line 2 = .ok (.lconst 0, 1) := dk_9 (dk_at dksX2_line_0 2 rfl rfl)
theorem dX2_line_3 : decode cX2_line 3 = .ok (.aload_n 0, 1) := dk_42 (dk_at dksX2_line_0 3 rfl rfl)
theorem dX2_line_4 : decode cX2_line 4 = .ok (.getfield 185, 3) := dk_180 0 185 (dk_at dksX2_line_0 4 rfl rfl)
theorem dX2_line_7 : decode cX2_line 7 = .ok (.iconst 1, 1) := dk_4 (dk_at dksX2_line_0 7 rfl rfl)
theorem dX2_line_8 : decode cX2_line 8 = .ok (.isub, 1) := dk_100 (dk_at dksX2_line_0 8 rfl rfl)
theorem dX2_line_9 : decode cX2_line 9 = .ok (.i2l, 1) := dk_133 (dk_at dksX2_line_0 9 rfl rfl)
theorem dX2_line_10 : decode cX2_line 10 = .ok (.invokestatic 65, 3) := dk_184 0 65 (dk_at dksX2_line_0 10 rfl rfl)
theorem dX2_line_13 : decode cX2_line 13 = .ok (.ifCond .eq 12, 3) := dk_153 0 12 (dk_at dksX2_line_0 13 rfl rfl)
theorem dX2_line_16 : decode cX2_line 16 = .ok (.aload_n 0, 1) := dk_42 (dk_at dksX2_line_0 16 rfl rfl)
theorem dX2_line_17 : decode cX2_line 17 = .ok (.getfield 42, 3) := dk_180 0 42 (dk_at dksX2_line_0 17 rfl rfl)
theorem dX2_line_20 : decode cX2_line 20 = .ok (.iload_n 1, 1) := dk_27 (dk_at dksX2_line_0 20 rfl rfl)
theorem dX2_line_21 : decode cX2_line 21 = .ok (.iaload, 1) := dk_46 (dk_at dksX2_line_0 21 rfl rfl)
theorem dX2_line_22 : decode cX2_line 22 = .ok (.goto 5, 3) := dk_167 0 5 (dk_at dksX2_line_1 0 rfl rfl)
theorem dX2_line_25 : decode cX2_line 25 = .ok (.bipush (-3), 2) := dk_16 253 (dk_at dksX2_line_1 3 rfl rfl)
theorem dX2_line_27 : decode cX2_line 27 = .ok (.ireturn, 1) := dk_172 (dk_at dksX2_line_1 5 rfl rfl)
abbrev cX2_cost : ByteArray := prog_19_method_46_code
def yX2_cost : MethodName := ⟨RX2, "cost", "(II)I"⟩
def dkwX2_cost_1 : List UInt8 := [153, 0, 17, 42, 42, 180, 0, 32, 27, 46, 28, 182, 0, 219, 167, 0, 5, 16, 253, 172]
abbrev dktX2_cost_1 : List UInt8 := dkwX2_cost_1 ++ []
def dkwX2_cost_0 : List UInt8 := [42, 27, 182, 0, 228, 154, 0, 6, 16, 254, 172, 42, 182, 0, 236, 28, 133, 9, 20, 0, 239, 184, 0, 65]
abbrev dktX2_cost_0 : List UInt8 := dkwX2_cost_0 ++ dktX2_cost_1
theorem dksX2_cost_0 : cX2_cost.data.toList.drop 0 = dktX2_cost_0 := by decide +kernel
theorem dksX2_cost_1 : cX2_cost.data.toList.drop 24 = dktX2_cost_1 := dk_seg dksX2_cost_0 24 rfl rfl
theorem dX2_cost_0 : decode cX2_cost 0 = .ok (.aload_n 0, 1) := dk_42 (dk_at dksX2_cost_0 0 rfl rfl)
theorem dX2_cost_1 : decode cX2_cost 1 = .ok (.iload_n 1, 1) := dk_27 (dk_at dksX2_cost_0 1 rfl rfl)
theorem dX2_cost_2 : decode cX2_cost 2 = .ok (.invokevirtual 228, 3) := dk_182 0 228 (dk_at dksX2_cost_0 2 rfl rfl)
theorem dX2_cost_5 : decode cX2_cost 5 = .ok (.ifCond .ne 6, 3) := dk_154 0 6 (dk_at dksX2_cost_0 5 rfl rfl)
theorem dX2_cost_8 : decode cX2_cost 8 = .ok (.bipush (-2), 2) := dk_16 254 (dk_at dksX2_cost_0 8 rfl rfl)
theorem dX2_cost_10 : decode cX2_cost 10 = .ok (.ireturn, 1) := dk_172 (dk_at dksX2_cost_0 10 rfl rfl)
theorem dX2_cost_11 : decode cX2_cost 11 = .ok (.aload_n 0, 1) := dk_42 (dk_at dksX2_cost_0 11 rfl rfl)
theorem dX2_cost_12 : decode cX2_cost 12 = .ok (.invokevirtual 236, 3) := dk_182 0 236 (dk_at dksX2_cost_0 12 rfl rfl)
theorem dX2_cost_15 : decode cX2_cost 15 = .ok (.iload_n 2, 1) := dk_28 (dk_at dksX2_cost_0 15 rfl rfl)
theorem dX2_cost_16 : decode cX2_cost 16 = .ok (.i2l, 1) := dk_133 (dk_at dksX2_cost_0 16 rfl rfl)
theorem dX2_cost_17 : decode cX2_cost 17 = .ok (.lconst 0, 1) := dk_9 (dk_at dksX2_cost_0 17 rfl rfl)
theorem dX2_cost_18 : decode cX2_cost 18 = .ok (.ldc2_w 239, 3) := dk_20 0 239 (dk_at dksX2_cost_0 18 rfl rfl)
theorem dX2_cost_21 : decode cX2_cost 21 = .ok (.invokestatic 65, 3) := dk_184 0 65 (dk_at dksX2_cost_0 21 rfl rfl)
theorem dX2_cost_24 : decode cX2_cost 24 = .ok (.ifCond .eq 17, 3) := dk_153 0 17 (dk_at dksX2_cost_1 0 rfl rfl)
theorem dX2_cost_27 : decode cX2_cost 27 = .ok (.aload_n 0, 1) := dk_42 (dk_at dksX2_cost_1 3 rfl rfl)
theorem dX2_cost_28 : decode cX2_cost 28 = .ok (.aload_n 0, 1) := dk_42 (dk_at dksX2_cost_1 4 rfl rfl)
theorem dX2_cost_29 : decode cX2_cost 29 = .ok (.getfield 32, 3) := dk_180 0 32 (dk_at dksX2_cost_1 5 rfl rfl)
theorem dX2_cost_32 : decode cX2_cost 32 = .ok (.iload_n 1, 1) := dk_27 (dk_at dksX2_cost_1 8 rfl rfl)
theorem dX2_cost_33 : decode cX2_cost 33 = .ok (.iaload, 1) := dk_46 (dk_at dksX2_cost_1 9 rfl rfl)
theorem dX2_cost_34 : decode cX2_cost 34 = .ok (.iload_n 2, 1) := dk_28 (dk_at dksX2_cost_1 10 rfl rfl)
theorem dX2_cost_35 : decode cX2_cost 35 = .ok (.invokevirtual 219, 3) := dk_182 0 219 (dk_at dksX2_cost_1 11 rfl rfl)
theorem dX2_cost_38 : decode cX2_cost 38 = .ok (.goto 5, 3) := dk_167 0 5 (dk_at dksX2_cost_1 14 rfl rfl)
theorem dX2_cost_41 : decode cX2_cost 41 = .ok (.bipush (-3), 2) := dk_16 253 (dk_at dksX2_cost_1 17 rfl rfl)
theorem dX2_cost_43 : decode cX2_cost 43 = .ok (.ireturn, 1) := dk_172 (dk_at dksX2_cost_1 19 rfl rfl)
abbrev cX2_good : ByteArray := prog_19_method_47_code
def yX2_good : MethodName := ⟨RX2, "good", "()I"⟩
def dkwX2_good_0 : List UInt8 := [42, 182, 0, 236, 42, 182, 0, 241, 153, 0, 7, 4, 167, 0, 4, 3, 172]
abbrev dktX2_good_0 : List UInt8 := dkwX2_good_0 ++ []
theorem dksX2_good_0 : cX2_good.data.toList.drop 0 = dktX2_good_0 := by decide +kernel
theorem dX2_good_0 : decode cX2_good 0 = .ok (.aload_n 0, 1) := dk_42 (dk_at dksX2_good_0 0 rfl rfl)
theorem dX2_good_1 : decode cX2_good 1 = .ok (.invokevirtual 236, 3) := dk_182 0 236 (dk_at dksX2_good_0 1 rfl rfl)
theorem dX2_good_4 : decode cX2_good 4 = .ok (.aload_n 0, 1) := dk_42 (dk_at dksX2_good_0 4 rfl rfl)
theorem dX2_good_5 : decode cX2_good 5 = .ok (.invokevirtual 241, 3) := dk_182 0 241 (dk_at dksX2_good_0 5 rfl rfl)
theorem dX2_good_8 : decode cX2_good 8 = .ok (.ifCond .eq 7, 3) := dk_153 0 7 (dk_at dksX2_good_0 8 rfl rfl)
theorem dX2_good_11 : decode cX2_good 11 = .ok (.iconst 1, 1) := dk_4 (dk_at dksX2_good_0 11 rfl rfl)
theorem dX2_good_12 : decode cX2_good 12 = .ok (.goto 4, 3) := dk_167 0 4 (dk_at dksX2_good_0 12 rfl rfl)
theorem dX2_good_15 : decode cX2_good 15 = .ok (.iconst 0, 1) := dk_3 (dk_at dksX2_good_0 15 rfl rfl)
theorem dX2_good_16 : decode cX2_good 16 = .ok (.ireturn, 1) := dk_172 (dk_at dksX2_good_0 16 rfl rfl)
abbrev cX2_isGood : ByteArray := prog_19_method_37_code
def yX2_isGood : MethodName := ⟨RX2, "isGood", "()Z"⟩
def dkwX2_isGood_3 : List UInt8 := [28, 4, 100, 46, 153, 0, 7, 4, 167, 0, 4, 3, 60, 132, 2, 1, 167, 255, 215, 27, 172]
abbrev dktX2_isGood_3 : List UInt8 := dkwX2_isGood_3 ++ []
def dkwX2_isGood_2 : List UInt8 := [153, 0, 43, 28, 42, 180, 0, 194, 162, 0, 35, 42, 180, 0, 54, 28, 46, 154, 0, 14, 42, 180, 0, 54]
abbrev dktX2_isGood_2 : List UInt8 := dkwX2_isGood_2 ++ dktX2_isGood_3
def dkwX2_isGood_1 : List UInt8 := [42, 42, 180, 0, 194, 4, 100, 182, 0, 207, 154, 0, 7, 4, 167, 0, 4, 3, 60, 4, 61, 27]
abbrev dktX2_isGood_1 : List UInt8 := dkwX2_isGood_1 ++ dktX2_isGood_2
def dkwX2_isGood_0 : List UInt8 := [42, 42, 180, 0, 7, 3, 46, 182, 0, 213, 42, 180, 0, 194, 158, 0, 27, 42, 182, 0, 222, 154, 0, 20]
abbrev dktX2_isGood_0 : List UInt8 := dkwX2_isGood_0 ++ dktX2_isGood_1
theorem dksX2_isGood_0 : cX2_isGood.data.toList.drop 0 = dktX2_isGood_0 := by decide +kernel
theorem dksX2_isGood_1 : cX2_isGood.data.toList.drop 24 = dktX2_isGood_1 := dk_seg dksX2_isGood_0 24 rfl rfl
theorem dksX2_isGood_2 : cX2_isGood.data.toList.drop 46 = dktX2_isGood_2 := dk_seg dksX2_isGood_1 22 rfl rfl
theorem dksX2_isGood_3 : cX2_isGood.data.toList.drop 70 = dktX2_isGood_3 := dk_seg dksX2_isGood_2 24 rfl rfl
theorem dX2_isGood_0 : decode cX2_isGood 0 = .ok (.aload_n 0, 1) := dk_42 (dk_at dksX2_isGood_0 0 rfl rfl)
theorem dX2_isGood_1 : decode cX2_isGood 1 = .ok (.aload_n 0, 1) := dk_42 (dk_at dksX2_isGood_0 1 rfl rfl)
theorem dX2_isGood_2 : decode cX2_isGood 2 = .ok (.getfield 7, 3) := dk_180 0 7 (dk_at dksX2_isGood_0 2 rfl rfl)
theorem dX2_isGood_5 : decode cX2_isGood 5 = .ok (.iconst 0, 1) := dk_3 (dk_at dksX2_isGood_0 5 rfl rfl)
theorem dX2_isGood_6 : decode cX2_isGood 6 = .ok (.iaload, 1) := dk_46 (dk_at dksX2_isGood_0 6 rfl rfl)
theorem dX2_isGood_7 : decode cX2_isGood 7 = .ok (.invokevirtual 213, 3) := dk_182 0 213 (dk_at dksX2_isGood_0 7 rfl rfl)
theorem dX2_isGood_10 : decode cX2_isGood 10 = .ok (.aload_n 0, 1) := dk_42 (dk_at dksX2_isGood_0 10 rfl rfl)
theorem dX2_isGood_11 : decode cX2_isGood 11 = .ok (.getfield 194, 3) := dk_180 0 194 (dk_at dksX2_isGood_0 11 rfl rfl)
theorem dX2_isGood_14 : decode cX2_isGood 14 = .ok (.ifCond .le 27, 3) := dk_158 0 27 (dk_at dksX2_isGood_0 14 rfl rfl)
theorem dX2_isGood_17 : decode cX2_isGood 17 = .ok (.aload_n 0, 1) := dk_42 (dk_at dksX2_isGood_0 17 rfl rfl)
theorem dX2_isGood_18 : decode cX2_isGood 18 = .ok (.invokevirtual 222, 3) := dk_182 0 222 (dk_at dksX2_isGood_0 18 rfl rfl)
theorem dX2_isGood_21 : decode cX2_isGood 21 = .ok (.ifCond .ne 20, 3) := dk_154 0 20 (dk_at dksX2_isGood_0 21 rfl rfl)
theorem dX2_isGood_24 : decode cX2_isGood 24 = .ok (.aload_n 0, 1) := dk_42 (dk_at dksX2_isGood_1 0 rfl rfl)
theorem dX2_isGood_25 : decode cX2_isGood 25 = .ok (.aload_n 0, 1) := dk_42 (dk_at dksX2_isGood_1 1 rfl rfl)
theorem dX2_isGood_26 : decode cX2_isGood 26 = .ok (.getfield 194, 3) := dk_180 0 194 (dk_at dksX2_isGood_1 2 rfl rfl)
theorem dX2_isGood_29 : decode cX2_isGood 29 = .ok (.iconst 1, 1) := dk_4 (dk_at dksX2_isGood_1 5 rfl rfl)
theorem dX2_isGood_30 : decode cX2_isGood 30 = .ok (.isub, 1) := dk_100 (dk_at dksX2_isGood_1 6 rfl rfl)
theorem dX2_isGood_31 : decode cX2_isGood 31 = .ok (.invokevirtual 207, 3) := dk_182 0 207 (dk_at dksX2_isGood_1 7 rfl rfl)
theorem dX2_isGood_34 : decode cX2_isGood 34 = .ok (.ifCond .ne 7, 3) := dk_154 0 7 (dk_at dksX2_isGood_1 10 rfl rfl)
theorem dX2_isGood_37 : decode cX2_isGood 37 = .ok (.iconst 1, 1) := dk_4 (dk_at dksX2_isGood_1 13 rfl rfl)
theorem dX2_isGood_38 : decode cX2_isGood 38 = .ok (.goto 4, 3) := dk_167 0 4 (dk_at dksX2_isGood_1 14 rfl rfl)
theorem dX2_isGood_41 : decode cX2_isGood 41 = .ok (.iconst 0, 1) := dk_3 (dk_at dksX2_isGood_1 17 rfl rfl)
theorem dX2_isGood_42 : decode cX2_isGood 42 = .ok (.istore_n 1, 1) := dk_60 (dk_at dksX2_isGood_1 18 rfl rfl)
theorem dX2_isGood_43 : decode cX2_isGood 43 = .ok (.iconst 1, 1) := dk_4 (dk_at dksX2_isGood_1 19 rfl rfl)
theorem dX2_isGood_44 : decode cX2_isGood 44 = .ok (.istore_n 2, 1) := dk_61 (dk_at dksX2_isGood_1 20 rfl rfl)
theorem dX2_isGood_45 : decode cX2_isGood 45 = .ok (.iload_n 1, 1) := dk_27 (dk_at dksX2_isGood_1 21 rfl rfl)
theorem dX2_isGood_46 : decode cX2_isGood 46 = .ok (.ifCond .eq 43, 3) := dk_153 0 43 (dk_at dksX2_isGood_2 0 rfl rfl)
theorem dX2_isGood_49 : decode cX2_isGood 49 = .ok (.iload_n 2, 1) := dk_28 (dk_at dksX2_isGood_2 3 rfl rfl)
theorem dX2_isGood_50 : decode cX2_isGood 50 = .ok (.aload_n 0, 1) := dk_42 (dk_at dksX2_isGood_2 4 rfl rfl)
theorem dX2_isGood_51 : decode cX2_isGood 51 = .ok (.getfield 194, 3) := dk_180 0 194 (dk_at dksX2_isGood_2 5 rfl rfl)
theorem dX2_isGood_54 : decode cX2_isGood 54 = .ok (.if_icmp .ge 35, 3) := dk_162 0 35 (dk_at dksX2_isGood_2 8 rfl rfl)
theorem dX2_isGood_57 : decode cX2_isGood 57 = .ok (.aload_n 0, 1) := dk_42 (dk_at dksX2_isGood_2 11 rfl rfl)
theorem dX2_isGood_58 : decode cX2_isGood 58 = .ok (.getfield 54, 3) := dk_180 0 54 (dk_at dksX2_isGood_2 12 rfl rfl)
theorem dX2_isGood_61 : decode cX2_isGood 61 = .ok (.iload_n 2, 1) := dk_28 (dk_at dksX2_isGood_2 15 rfl rfl)
theorem dX2_isGood_62 : decode cX2_isGood 62 = .ok (.iaload, 1) := dk_46 (dk_at dksX2_isGood_2 16 rfl rfl)
theorem dX2_isGood_63 : decode cX2_isGood 63 = .ok (.ifCond .ne 14, 3) := dk_154 0 14 (dk_at dksX2_isGood_2 17 rfl rfl)
theorem dX2_isGood_66 : decode cX2_isGood 66 = .ok (.aload_n 0, 1) := dk_42 (dk_at dksX2_isGood_2 20 rfl rfl)
theorem dX2_isGood_67 : decode cX2_isGood 67 = .ok (.getfield 54, 3) := dk_180 0 54 (dk_at dksX2_isGood_2 21 rfl rfl)
theorem dX2_isGood_70 : decode cX2_isGood 70 = .ok (.iload_n 2, 1) := dk_28 (dk_at dksX2_isGood_3 0 rfl rfl)
theorem dX2_isGood_71 : decode cX2_isGood 71 = .ok (.iconst 1, 1) := dk_4 (dk_at dksX2_isGood_3 1 rfl rfl)
theorem dX2_isGood_72 : decode cX2_isGood 72 = .ok (.isub, 1) := dk_100 (dk_at dksX2_isGood_3 2 rfl rfl)
theorem dX2_isGood_73 : decode cX2_isGood 73 = .ok (.iaload, 1) := dk_46 (dk_at dksX2_isGood_3 3 rfl rfl)
theorem dX2_isGood_74 : decode cX2_isGood 74 = .ok (.ifCond .eq 7, 3) := dk_153 0 7 (dk_at dksX2_isGood_3 4 rfl rfl)
theorem dX2_isGood_77 : decode cX2_isGood 77 = .ok (.iconst 1, 1) := dk_4 (dk_at dksX2_isGood_3 7 rfl rfl)
theorem dX2_isGood_78 : decode cX2_isGood 78 = .ok (.goto 4, 3) := dk_167 0 4 (dk_at dksX2_isGood_3 8 rfl rfl)
theorem dX2_isGood_81 : decode cX2_isGood 81 = .ok (.iconst 0, 1) := dk_3 (dk_at dksX2_isGood_3 11 rfl rfl)
theorem dX2_isGood_82 : decode cX2_isGood 82 = .ok (.istore_n 1, 1) := dk_60 (dk_at dksX2_isGood_3 12 rfl rfl)
theorem dX2_isGood_83 : decode cX2_isGood 83 = .ok (.iinc 2 1, 3) := dk_132 2 1 (dk_at dksX2_isGood_3 13 rfl rfl)
theorem dX2_isGood_86 : decode cX2_isGood 86 = .ok (.goto (-41), 3) := dk_167 255 215 (dk_at dksX2_isGood_3 16 rfl rfl)
theorem dX2_isGood_89 : decode cX2_isGood 89 = .ok (.iload_n 1, 1) := dk_27 (dk_at dksX2_isGood_3 19 rfl rfl)
theorem dX2_isGood_90 : decode cX2_isGood 90 = .ok (.ireturn, 1) := dk_172 (dk_at dksX2_isGood_3 20 rfl rfl)
abbrev cX2_hasHole : ByteArray := prog_19_method_36_code
def yX2_hasHole : MethodName := ⟨RX2, "hasHole", "()Z"⟩
def dkwX2_hasHole_1 : List UInt8 := [160, 0, 7, 4, 167, 0, 4, 3, 60, 132, 2, 1, 167, 255, 225, 27, 172]
abbrev dktX2_hasHole_1 : List UInt8 := dkwX2_hasHole_1 ++ []
def dkwX2_hasHole_0 : List UInt8 := [3, 60, 3, 61, 28, 42, 180, 0, 194, 162, 0, 29, 27, 154, 0, 13, 42, 180, 0, 51, 28, 46, 2]
abbrev dktX2_hasHole_0 : List UInt8 := dkwX2_hasHole_0 ++ dktX2_hasHole_1
theorem dksX2_hasHole_0 : cX2_hasHole.data.toList.drop 0 = dktX2_hasHole_0 := by decide +kernel
theorem dksX2_hasHole_1 : cX2_hasHole.data.toList.drop 23 = dktX2_hasHole_1 := dk_seg dksX2_hasHole_0 23 rfl rfl
theorem dX2_hasHole_0 : decode cX2_hasHole 0 = .ok (.iconst 0, 1) := dk_3 (dk_at dksX2_hasHole_0 0 rfl rfl)
theorem dX2_hasHole_1 : decode cX2_hasHole 1 = .ok (.istore_n 1, 1) := dk_60 (dk_at dksX2_hasHole_0 1 rfl rfl)
theorem dX2_hasHole_2 : decode cX2_hasHole 2 = .ok (.iconst 0, 1) := dk_3 (dk_at dksX2_hasHole_0 2 rfl rfl)
theorem dX2_hasHole_3 : decode cX2_hasHole 3 = .ok (.istore_n 2, 1) := dk_61 (dk_at dksX2_hasHole_0 3 rfl rfl)
theorem dX2_hasHole_4 : decode cX2_hasHole 4 = .ok (.iload_n 2, 1) := dk_28 (dk_at dksX2_hasHole_0 4 rfl rfl)
theorem dX2_hasHole_5 : decode cX2_hasHole 5 = .ok (.aload_n 0, 1) := dk_42 (dk_at dksX2_hasHole_0 5 rfl rfl)
theorem dX2_hasHole_6 : decode cX2_hasHole 6 = .ok (.getfield 194, 3) := dk_180 0 194 (dk_at dksX2_hasHole_0 6 rfl rfl)
theorem dX2_hasHole_9 : decode cX2_hasHole 9 = .ok (.if_icmp .ge 29, 3) := dk_162 0 29 (dk_at dksX2_hasHole_0 9 rfl rfl)
theorem dX2_hasHole_12 : decode cX2_hasHole 12 = .ok (.iload_n 1, 1) := dk_27 (dk_at dksX2_hasHole_0 12 rfl rfl)
theorem dX2_hasHole_13 : decode cX2_hasHole 13 = .ok (.ifCond .ne 13, 3) := dk_154 0 13 (dk_at dksX2_hasHole_0 13 rfl rfl)
theorem dX2_hasHole_16 : decode cX2_hasHole 16 = .ok (.aload_n 0, 1) := dk_42 (dk_at dksX2_hasHole_0 16 rfl rfl)
theorem dX2_hasHole_17 : decode cX2_hasHole 17 = .ok (.getfield 51, 3) := dk_180 0 51 (dk_at dksX2_hasHole_0 17 rfl rfl)
theorem dX2_hasHole_20 : decode cX2_hasHole 20 = .ok (.iload_n 2, 1) := dk_28 (dk_at dksX2_hasHole_0 20 rfl rfl)
theorem dX2_hasHole_21 : decode cX2_hasHole 21 = .ok (.iaload, 1) := dk_46 (dk_at dksX2_hasHole_0 21 rfl rfl)
theorem dX2_hasHole_22 : decode cX2_hasHole 22 = .ok (.iconst (-1), 1) := dk_2 (dk_at dksX2_hasHole_0 22 rfl rfl)
theorem dX2_hasHole_23 : decode cX2_hasHole 23 = .ok (.if_icmp .ne 7, 3) := dk_160 0 7 (dk_at dksX2_hasHole_1 0 rfl rfl)
theorem dX2_hasHole_26 : decode cX2_hasHole 26 = .ok (.iconst 1, 1) := dk_4 (dk_at dksX2_hasHole_1 3 rfl rfl)
theorem dX2_hasHole_27 : decode cX2_hasHole 27 = .ok (.goto 4, 3) := dk_167 0 4 (dk_at dksX2_hasHole_1 4 rfl rfl)
theorem dX2_hasHole_30 : decode cX2_hasHole 30 = .ok (.iconst 0, 1) := dk_3 (dk_at dksX2_hasHole_1 7 rfl rfl)
theorem dX2_hasHole_31 : decode cX2_hasHole 31 = .ok (.istore_n 1, 1) := dk_60 (dk_at dksX2_hasHole_1 8 rfl rfl)
theorem dX2_hasHole_32 : decode cX2_hasHole 32 = .ok (.iinc 2 1, 3) := dk_132 2 1 (dk_at dksX2_hasHole_1 9 rfl rfl)
theorem dX2_hasHole_35 : decode cX2_hasHole 35 = .ok (.goto (-31), 3) := dk_167 255 225 (dk_at dksX2_hasHole_1 12 rfl rfl)
theorem dX2_hasHole_38 : decode cX2_hasHole 38 = .ok (.iload_n 1, 1) := dk_27 (dk_at dksX2_hasHole_1 15 rfl rfl)
theorem dX2_hasHole_39 : decode cX2_hasHole 39 = .ok (.ireturn, 1) := dk_172 (dk_at dksX2_hasHole_1 16 rfl rfl)
abbrev cX2_say : ByteArray := prog_19_method_50_code
def yX2_say : MethodName := ⟨RX2, "say", "(I)I"⟩
def dkwX2_say_6 : List UInt8 := [46, 96, 92, 46, 4, 96, 79, 132, 3, 1, 167, 255, 222, 4, 172]
abbrev dktX2_say_6 : List UInt8 := dkwX2_say_6 ++ []
def dkwX2_say_5 : List UInt8 := [29, 42, 180, 0, 194, 162, 0, 32, 42, 180, 0, 7, 16, 17, 16, 10, 27, 104, 96, 42, 180, 0, 51, 29]
abbrev dktX2_say_5 : List UInt8 := dkwX2_say_5 ++ dktX2_say_6
def dkwX2_say_4 : List UInt8 := [96, 92, 46, 28, 100, 79, 42, 180, 0, 7, 16, 13, 27, 96, 92, 46, 42, 182, 0, 250, 96, 79, 3, 62]
abbrev dktX2_say_4 : List UInt8 := dkwX2_say_4 ++ dktX2_say_5
def dkwX2_say_3 : List UInt8 := [27, 96, 92, 46, 4, 96, 79, 42, 180, 0, 7, 4, 27, 96, 3, 79, 3, 172, 42, 180, 0, 7, 4, 27]
abbrev dktX2_say_3 : List UInt8 := dkwX2_say_3 ++ dktX2_say_4
def dkwX2_say_2 : List UInt8 := [3, 46, 182, 0, 219, 61, 28, 42, 180, 0, 7, 4, 27, 96, 46, 164, 0, 27, 42, 180, 0, 7, 16, 9]
abbrev dktX2_say_2 : List UInt8 := dkwX2_say_2 ++ dktX2_say_3
def dkwX2_say_1 : List UInt8 := [182, 0, 222, 153, 0, 6, 16, 252, 172, 42, 182, 0, 247, 42, 42, 180, 0, 32, 27, 46, 42, 180, 0, 7]
abbrev dktX2_say_1 : List UInt8 := dkwX2_say_1 ++ dktX2_say_2
def dkwX2_say_0 : List UInt8 := [42, 27, 182, 0, 228, 154, 0, 6, 16, 254, 172, 42, 182, 0, 236, 42, 180, 0, 194, 153, 0, 10, 42]
abbrev dktX2_say_0 : List UInt8 := dkwX2_say_0 ++ dktX2_say_1
theorem dksX2_say_0 : cX2_say.data.toList.drop 0 = dktX2_say_0 := by decide +kernel
theorem dksX2_say_1 : cX2_say.data.toList.drop 23 = dktX2_say_1 := dk_seg dksX2_say_0 23 rfl rfl
theorem dksX2_say_2 : cX2_say.data.toList.drop 47 = dktX2_say_2 := dk_seg dksX2_say_1 24 rfl rfl
theorem dksX2_say_3 : cX2_say.data.toList.drop 71 = dktX2_say_3 := dk_seg dksX2_say_2 24 rfl rfl
theorem dksX2_say_4 : cX2_say.data.toList.drop 95 = dktX2_say_4 := dk_seg dksX2_say_3 24 rfl rfl
theorem dksX2_say_5 : cX2_say.data.toList.drop 119 = dktX2_say_5 := dk_seg dksX2_say_4 24 rfl rfl
theorem dksX2_say_6 : cX2_say.data.toList.drop 143 = dktX2_say_6 := dk_seg dksX2_say_5 24 rfl rfl
theorem dX2_say_0 : decode cX2_say 0 = .ok (.aload_n 0, 1) := dk_42 (dk_at dksX2_say_0 0 rfl rfl)
theorem dX2_say_1 : decode cX2_say 1 = .ok (.iload_n 1, 1) := dk_27 (dk_at dksX2_say_0 1 rfl rfl)
theorem dX2_say_2 : decode cX2_say 2 = .ok (.invokevirtual 228, 3) := dk_182 0 228 (dk_at dksX2_say_0 2 rfl rfl)
theorem dX2_say_5 : decode cX2_say 5 = .ok (.ifCond .ne 6, 3) := dk_154 0 6 (dk_at dksX2_say_0 5 rfl rfl)
theorem dX2_say_8 : decode cX2_say 8 = .ok (.bipush (-2), 2) := dk_16 254 (dk_at dksX2_say_0 8 rfl rfl)
theorem dX2_say_10 : decode cX2_say 10 = .ok (.ireturn, 1) := dk_172 (dk_at dksX2_say_0 10 rfl rfl)
theorem dX2_say_11 : decode cX2_say 11 = .ok (.aload_n 0, 1) := dk_42 (dk_at dksX2_say_0 11 rfl rfl)
theorem dX2_say_12 : decode cX2_say 12 = .ok (.invokevirtual 236, 3) := dk_182 0 236 (dk_at dksX2_say_0 12 rfl rfl)
theorem dX2_say_15 : decode cX2_say 15 = .ok (.aload_n 0, 1) := dk_42 (dk_at dksX2_say_0 15 rfl rfl)
theorem dX2_say_16 : decode cX2_say 16 = .ok (.getfield 194, 3) := dk_180 0 194 (dk_at dksX2_say_0 16 rfl rfl)
theorem dX2_say_19 : decode cX2_say 19 = .ok (.ifCond .eq 10, 3) := dk_153 0 10 (dk_at dksX2_say_0 19 rfl rfl)
theorem dX2_say_22 : decode cX2_say 22 = .ok (.aload_n 0, 1) := dk_42 (dk_at dksX2_say_0 22 rfl rfl)
theorem dX2_say_23 : decode cX2_say 23 = .ok (.invokevirtual 222, 3) := dk_182 0 222 (dk_at dksX2_say_1 0 rfl rfl)
theorem dX2_say_26 : decode cX2_say 26 = .ok (.ifCond .eq 6, 3) := dk_153 0 6 (dk_at dksX2_say_1 3 rfl rfl)
theorem dX2_say_29 : decode cX2_say 29 = .ok (.bipush (-4), 2) := dk_16 252 (dk_at dksX2_say_1 6 rfl rfl)
theorem dX2_say_31 : decode cX2_say 31 = .ok (.ireturn, 1) := dk_172 (dk_at dksX2_say_1 8 rfl rfl)
theorem dX2_say_32 : decode cX2_say 32 = .ok (.aload_n 0, 1) := dk_42 (dk_at dksX2_say_1 9 rfl rfl)
theorem dX2_say_33 : decode cX2_say 33 = .ok (.invokevirtual 247, 3) := dk_182 0 247 (dk_at dksX2_say_1 10 rfl rfl)
theorem dX2_say_36 : decode cX2_say 36 = .ok (.aload_n 0, 1) := dk_42 (dk_at dksX2_say_1 13 rfl rfl)
theorem dX2_say_37 : decode cX2_say 37 = .ok (.aload_n 0, 1) := dk_42 (dk_at dksX2_say_1 14 rfl rfl)
theorem dX2_say_38 : decode cX2_say 38 = .ok (.getfield 32, 3) := dk_180 0 32 (dk_at dksX2_say_1 15 rfl rfl)
theorem dX2_say_41 : decode cX2_say 41 = .ok (.iload_n 1, 1) := dk_27 (dk_at dksX2_say_1 18 rfl rfl)
theorem dX2_say_42 : decode cX2_say 42 = .ok (.iaload, 1) := dk_46 (dk_at dksX2_say_1 19 rfl rfl)
theorem dX2_say_43 : decode cX2_say 43 = .ok (.aload_n 0, 1) := dk_42 (dk_at dksX2_say_1 20 rfl rfl)
theorem dX2_say_44 : decode cX2_say 44 = .ok (.getfield 7, 3) := dk_180 0 7 (dk_at dksX2_say_1 21 rfl rfl)
theorem dX2_say_47 : decode cX2_say 47 = .ok (.iconst 0, 1) := dk_3 (dk_at dksX2_say_2 0 rfl rfl)
theorem dX2_say_48 : decode cX2_say 48 = .ok (.iaload, 1) := dk_46 (dk_at dksX2_say_2 1 rfl rfl)
theorem dX2_say_49 : decode cX2_say 49 = .ok (.invokevirtual 219, 3) := dk_182 0 219 (dk_at dksX2_say_2 2 rfl rfl)
theorem dX2_say_52 : decode cX2_say 52 = .ok (.istore_n 2, 1) := dk_61 (dk_at dksX2_say_2 5 rfl rfl)
theorem dX2_say_53 : decode cX2_say 53 = .ok (.iload_n 2, 1) := dk_28 (dk_at dksX2_say_2 6 rfl rfl)
theorem dX2_say_54 : decode cX2_say 54 = .ok (.aload_n 0, 1) := dk_42 (dk_at dksX2_say_2 7 rfl rfl)
theorem dX2_say_55 : decode cX2_say 55 = .ok (.getfield 7, 3) := dk_180 0 7 (dk_at dksX2_say_2 8 rfl rfl)
theorem dX2_say_58 : decode cX2_say 58 = .ok (.iconst 1, 1) := dk_4 (dk_at dksX2_say_2 11 rfl rfl)
theorem dX2_say_59 : decode cX2_say 59 = .ok (.iload_n 1, 1) := dk_27 (dk_at dksX2_say_2 12 rfl rfl)
theorem dX2_say_60 : decode cX2_say 60 = .ok (.iadd, 1) := dk_96 (dk_at dksX2_say_2 13 rfl rfl)
theorem dX2_say_61 : decode cX2_say 61 = .ok (.iaload, 1) := dk_46 (dk_at dksX2_say_2 14 rfl rfl)
theorem dX2_say_62 : decode cX2_say 62 = .ok (.if_icmp .le 27, 3) := dk_164 0 27 (dk_at dksX2_say_2 15 rfl rfl)
theorem dX2_say_65 : decode cX2_say 65 = .ok (.aload_n 0, 1) := dk_42 (dk_at dksX2_say_2 18 rfl rfl)
theorem dX2_say_66 : decode cX2_say 66 = .ok (.getfield 7, 3) := dk_180 0 7 (dk_at dksX2_say_2 19 rfl rfl)
theorem dX2_say_69 : decode cX2_say 69 = .ok (.bipush 9, 2) := dk_16 9 (dk_at dksX2_say_2 22 rfl rfl)
theorem dX2_say_71 : decode cX2_say 71 = .ok (.iload_n 1, 1) := dk_27 (dk_at dksX2_say_3 0 rfl rfl)
theorem dX2_say_72 : decode cX2_say 72 = .ok (.iadd, 1) := dk_96 (dk_at dksX2_say_3 1 rfl rfl)
theorem dX2_say_73 : decode cX2_say 73 = .ok (.dup2, 1) := dk_92 (dk_at dksX2_say_3 2 rfl rfl)
theorem dX2_say_74 : decode cX2_say 74 = .ok (.iaload, 1) := dk_46 (dk_at dksX2_say_3 3 rfl rfl)
theorem dX2_say_75 : decode cX2_say 75 = .ok (.iconst 1, 1) := dk_4 (dk_at dksX2_say_3 4 rfl rfl)
theorem dX2_say_76 : decode cX2_say 76 = .ok (.iadd, 1) := dk_96 (dk_at dksX2_say_3 5 rfl rfl)
theorem dX2_say_77 : decode cX2_say 77 = .ok (.iastore, 1) := dk_79 (dk_at dksX2_say_3 6 rfl rfl)
theorem dX2_say_78 : decode cX2_say 78 = .ok (.aload_n 0, 1) := dk_42 (dk_at dksX2_say_3 7 rfl rfl)
theorem dX2_say_79 : decode cX2_say 79 = .ok (.getfield 7, 3) := dk_180 0 7 (dk_at dksX2_say_3 8 rfl rfl)
theorem dX2_say_82 : decode cX2_say 82 = .ok (.iconst 1, 1) := dk_4 (dk_at dksX2_say_3 11 rfl rfl)
theorem dX2_say_83 : decode cX2_say 83 = .ok (.iload_n 1, 1) := dk_27 (dk_at dksX2_say_3 12 rfl rfl)
theorem dX2_say_84 : decode cX2_say 84 = .ok (.iadd, 1) := dk_96 (dk_at dksX2_say_3 13 rfl rfl)
theorem dX2_say_85 : decode cX2_say 85 = .ok (.iconst 0, 1) := dk_3 (dk_at dksX2_say_3 14 rfl rfl)
theorem dX2_say_86 : decode cX2_say 86 = .ok (.iastore, 1) := dk_79 (dk_at dksX2_say_3 15 rfl rfl)
theorem dX2_say_87 : decode cX2_say 87 = .ok (.iconst 0, 1) := dk_3 (dk_at dksX2_say_3 16 rfl rfl)
theorem dX2_say_88 : decode cX2_say 88 = .ok (.ireturn, 1) := dk_172 (dk_at dksX2_say_3 17 rfl rfl)
theorem dX2_say_89 : decode cX2_say 89 = .ok (.aload_n 0, 1) := dk_42 (dk_at dksX2_say_3 18 rfl rfl)
theorem dX2_say_90 : decode cX2_say 90 = .ok (.getfield 7, 3) := dk_180 0 7 (dk_at dksX2_say_3 19 rfl rfl)
theorem dX2_say_93 : decode cX2_say 93 = .ok (.iconst 1, 1) := dk_4 (dk_at dksX2_say_3 22 rfl rfl)
theorem dX2_say_94 : decode cX2_say 94 = .ok (.iload_n 1, 1) := dk_27 (dk_at dksX2_say_3 23 rfl rfl)
theorem dX2_say_95 : decode cX2_say 95 = .ok (.iadd, 1) := dk_96 (dk_at dksX2_say_4 0 rfl rfl)
theorem dX2_say_96 : decode cX2_say 96 = .ok (.dup2, 1) := dk_92 (dk_at dksX2_say_4 1 rfl rfl)
theorem dX2_say_97 : decode cX2_say 97 = .ok (.iaload, 1) := dk_46 (dk_at dksX2_say_4 2 rfl rfl)
theorem dX2_say_98 : decode cX2_say 98 = .ok (.iload_n 2, 1) := dk_28 (dk_at dksX2_say_4 3 rfl rfl)
theorem dX2_say_99 : decode cX2_say 99 = .ok (.isub, 1) := dk_100 (dk_at dksX2_say_4 4 rfl rfl)
theorem dX2_say_100 : decode cX2_say 100 = .ok (.iastore, 1) := dk_79 (dk_at dksX2_say_4 5 rfl rfl)
theorem dX2_say_101 : decode cX2_say 101 = .ok (.aload_n 0, 1) := dk_42 (dk_at dksX2_say_4 6 rfl rfl)
theorem dX2_say_102 : decode cX2_say 102 = .ok (.getfield 7, 3) := dk_180 0 7 (dk_at dksX2_say_4 7 rfl rfl)
theorem dX2_say_105 : decode cX2_say 105 = .ok (.bipush 13, 2) := dk_16 13 (dk_at dksX2_say_4 10 rfl rfl)
theorem dX2_say_107 : decode cX2_say 107 = .ok (.iload_n 1, 1) := dk_27 (dk_at dksX2_say_4 12 rfl rfl)
theorem dX2_say_108 : decode cX2_say 108 = .ok (.iadd, 1) := dk_96 (dk_at dksX2_say_4 13 rfl rfl)
theorem dX2_say_109 : decode cX2_say 109 = .ok (.dup2, 1) := dk_92 (dk_at dksX2_say_4 14 rfl rfl)
theorem dX2_say_110 : decode cX2_say 110 = .ok (.iaload, 1) := dk_46 (dk_at dksX2_say_4 15 rfl rfl)
theorem dX2_say_111 : decode cX2_say 111 = .ok (.aload_n 0, 1) := dk_42 (dk_at dksX2_say_4 16 rfl rfl)
theorem dX2_say_112 : decode cX2_say 112 = .ok (.invokevirtual 250, 3) := dk_182 0 250 (dk_at dksX2_say_4 17 rfl rfl)
theorem dX2_say_115 : decode cX2_say 115 = .ok (.iadd, 1) := dk_96 (dk_at dksX2_say_4 20 rfl rfl)
theorem dX2_say_116 : decode cX2_say 116 = .ok (.iastore, 1) := dk_79 (dk_at dksX2_say_4 21 rfl rfl)
theorem dX2_say_117 : decode cX2_say 117 = .ok (.iconst 0, 1) := dk_3 (dk_at dksX2_say_4 22 rfl rfl)
theorem dX2_say_118 : decode cX2_say 118 = .ok (.istore_n 3, 1) := dk_62 (dk_at dksX2_say_4 23 rfl rfl)
theorem dX2_say_119 : decode cX2_say 119 = .ok (.iload_n 3, 1) := dk_29 (dk_at dksX2_say_5 0 rfl rfl)
theorem dX2_say_120 : decode cX2_say 120 = .ok (.aload_n 0, 1) := dk_42 (dk_at dksX2_say_5 1 rfl rfl)
theorem dX2_say_121 : decode cX2_say 121 = .ok (.getfield 194, 3) := dk_180 0 194 (dk_at dksX2_say_5 2 rfl rfl)
theorem dX2_say_124 : decode cX2_say 124 = .ok (.if_icmp .ge 32, 3) := dk_162 0 32 (dk_at dksX2_say_5 5 rfl rfl)
theorem dX2_say_127 : decode cX2_say 127 = .ok (.aload_n 0, 1) := dk_42 (dk_at dksX2_say_5 8 rfl rfl)
theorem dX2_say_128 : decode cX2_say 128 = .ok (.getfield 7, 3) := dk_180 0 7 (dk_at dksX2_say_5 9 rfl rfl)
theorem dX2_say_131 : decode cX2_say 131 = .ok (.bipush 17, 2) := dk_16 17 (dk_at dksX2_say_5 12 rfl rfl)
theorem dX2_say_133 : decode cX2_say 133 = .ok (.bipush 10, 2) := dk_16 10 (dk_at dksX2_say_5 14 rfl rfl)
theorem dX2_say_135 : decode cX2_say 135 = .ok (.iload_n 1, 1) := dk_27 (dk_at dksX2_say_5 16 rfl rfl)
theorem dX2_say_136 : decode cX2_say 136 = .ok (.imul, 1) := dk_104 (dk_at dksX2_say_5 17 rfl rfl)
theorem dX2_say_137 : decode cX2_say 137 = .ok (.iadd, 1) := dk_96 (dk_at dksX2_say_5 18 rfl rfl)
theorem dX2_say_138 : decode cX2_say 138 = .ok (.aload_n 0, 1) := dk_42 (dk_at dksX2_say_5 19 rfl rfl)
theorem dX2_say_139 : decode cX2_say 139 = .ok (.getfield 51, 3) := dk_180 0 51 (dk_at dksX2_say_5 20 rfl rfl)
theorem dX2_say_142 : decode cX2_say 142 = .ok (.iload_n 3, 1) := dk_29 (dk_at dksX2_say_5 23 rfl rfl)
theorem dX2_say_143 : decode cX2_say 143 = .ok (.iaload, 1) := dk_46 (dk_at dksX2_say_6 0 rfl rfl)
theorem dX2_say_144 : decode cX2_say 144 = .ok (.iadd, 1) := dk_96 (dk_at dksX2_say_6 1 rfl rfl)
theorem dX2_say_145 : decode cX2_say 145 = .ok (.dup2, 1) := dk_92 (dk_at dksX2_say_6 2 rfl rfl)
theorem dX2_say_146 : decode cX2_say 146 = .ok (.iaload, 1) := dk_46 (dk_at dksX2_say_6 3 rfl rfl)
theorem dX2_say_147 : decode cX2_say 147 = .ok (.iconst 1, 1) := dk_4 (dk_at dksX2_say_6 4 rfl rfl)
theorem dX2_say_148 : decode cX2_say 148 = .ok (.iadd, 1) := dk_96 (dk_at dksX2_say_6 5 rfl rfl)
theorem dX2_say_149 : decode cX2_say 149 = .ok (.iastore, 1) := dk_79 (dk_at dksX2_say_6 6 rfl rfl)
theorem dX2_say_150 : decode cX2_say 150 = .ok (.iinc 3 1, 3) := dk_132 3 1 (dk_at dksX2_say_6 7 rfl rfl)
theorem dX2_say_153 : decode cX2_say 153 = .ok (.goto (-34), 3) := dk_167 255 222 (dk_at dksX2_say_6 10 rfl rfl)
theorem dX2_say_156 : decode cX2_say 156 = .ok (.iconst 1, 1) := dk_4 (dk_at dksX2_say_6 13 rfl rfl)
theorem dX2_say_157 : decode cX2_say 157 = .ok (.ireturn, 1) := dk_172 (dk_at dksX2_say_6 14 rfl rfl)
abbrev cX2_keepPast : ByteArray := prog_19_method_49_code
def yX2_keepPast : MethodName := ⟨RX2, "keepPast", "()V"⟩
def dkwX2_keepPast_4 : List UInt8 := [4, 96, 181, 0, 191, 177]
abbrev dktX2_keepPast_4 : List UInt8 := dkwX2_keepPast_4 ++ []
def dkwX2_keepPast_3 : List UInt8 := [181, 0, 191, 42, 3, 17, 0, 219, 16, 73, 42, 180, 0, 191, 104, 96, 182, 0, 244, 42, 89, 180, 0, 191]
abbrev dktX2_keepPast_3 : List UInt8 := dkwX2_keepPast_3 ++ dktX2_keepPast_4
def dkwX2_keepPast_2 : List UInt8 := [167, 255, 214, 42, 89, 180, 0, 191, 42, 180, 0, 191, 16, 8, 160, 0, 7, 4, 167, 0, 4, 3, 100]
abbrev dktX2_keepPast_2 : List UInt8 := dkwX2_keepPast_2 ++ dktX2_keepPast_3
def dkwX2_keepPast_1 : List UInt8 := [17, 0, 219, 27, 96, 42, 180, 0, 7, 17, 0, 219, 27, 96, 16, 73, 96, 46, 79, 132, 1, 1]
abbrev dktX2_keepPast_1 : List UInt8 := dkwX2_keepPast_1 ++ dktX2_keepPast_2
def dkwX2_keepPast_0 : List UInt8 := [3, 60, 27, 17, 1, 255, 162, 0, 41, 42, 180, 0, 191, 16, 8, 160, 0, 32, 42, 180, 0, 7]
abbrev dktX2_keepPast_0 : List UInt8 := dkwX2_keepPast_0 ++ dktX2_keepPast_1
theorem dksX2_keepPast_0 : cX2_keepPast.data.toList.drop 0 = dktX2_keepPast_0 := by decide +kernel
theorem dksX2_keepPast_1 : cX2_keepPast.data.toList.drop 22 = dktX2_keepPast_1 := dk_seg dksX2_keepPast_0 22 rfl rfl
theorem dksX2_keepPast_2 : cX2_keepPast.data.toList.drop 44 = dktX2_keepPast_2 := dk_seg dksX2_keepPast_1 22 rfl rfl
theorem dksX2_keepPast_3 : cX2_keepPast.data.toList.drop 67 = dktX2_keepPast_3 := dk_seg dksX2_keepPast_2 23 rfl rfl
theorem dksX2_keepPast_4 : cX2_keepPast.data.toList.drop 91 = dktX2_keepPast_4 := dk_seg dksX2_keepPast_3 24 rfl rfl
theorem dX2_keepPast_0 : decode cX2_keepPast 0 = .ok (.iconst 0, 1) := dk_3 (dk_at dksX2_keepPast_0 0 rfl rfl)
theorem dX2_keepPast_1 : decode cX2_keepPast 1 = .ok (.istore_n 1, 1) := dk_60 (dk_at dksX2_keepPast_0 1 rfl rfl)
theorem dX2_keepPast_2 : decode cX2_keepPast 2 = .ok (.iload_n 1, 1) := dk_27 (dk_at dksX2_keepPast_0 2 rfl rfl)
theorem dX2_keepPast_3 : decode cX2_keepPast 3 = .ok (.sipush 511, 3) := dk_17 1 255 (dk_at dksX2_keepPast_0 3 rfl rfl)
theorem dX2_keepPast_6 : decode cX2_keepPast 6 = .ok (.if_icmp .ge 41, 3) := dk_162 0 41 (dk_at dksX2_keepPast_0 6 rfl rfl)
theorem dX2_keepPast_9 : decode cX2_keepPast 9 = .ok (.aload_n 0, 1) := dk_42 (dk_at dksX2_keepPast_0 9 rfl rfl)
theorem dX2_keepPast_10 : decode cX2_keepPast 10 = .ok (.getfield 191, 3) := dk_180 0 191 (dk_at dksX2_keepPast_0 10 rfl rfl)
theorem dX2_keepPast_13 : decode cX2_keepPast 13 = .ok (.bipush 8, 2) := dk_16 8 (dk_at dksX2_keepPast_0 13 rfl rfl)
theorem dX2_keepPast_15 : decode cX2_keepPast 15 = .ok (.if_icmp .ne 32, 3) := dk_160 0 32 (dk_at dksX2_keepPast_0 15 rfl rfl)
theorem dX2_keepPast_18 : decode cX2_keepPast 18 = .ok (.aload_n 0, 1) := dk_42 (dk_at dksX2_keepPast_0 18 rfl rfl)
theorem dX2_keepPast_19 : decode cX2_keepPast 19 = .ok (.getfield 7, 3) := dk_180 0 7 (dk_at dksX2_keepPast_0 19 rfl rfl)
theorem dX2_keepPast_22 : decode cX2_keepPast 22 = .ok (.sipush 219, 3) := dk_17 0 219 (dk_at dksX2_keepPast_1 0 rfl rfl)
theorem dX2_keepPast_25 : decode cX2_keepPast 25 = .ok (.iload_n 1, 1) := dk_27 (dk_at dksX2_keepPast_1 3 rfl rfl)
theorem dX2_keepPast_26 : decode cX2_keepPast 26 = .ok (.iadd, 1) := dk_96 (dk_at dksX2_keepPast_1 4 rfl rfl)
theorem dX2_keepPast_27 : decode cX2_keepPast 27 = .ok (.aload_n 0, 1) := dk_42 (dk_at dksX2_keepPast_1 5 rfl rfl)
theorem dX2_keepPast_28 : decode cX2_keepPast 28 = .ok (.getfield 7, 3) := dk_180 0 7 (dk_at dksX2_keepPast_1 6 rfl rfl)
theorem dX2_keepPast_31 : decode cX2_keepPast 31 = .ok (.sipush 219, 3) := dk_17 0 219 (dk_at dksX2_keepPast_1 9 rfl rfl)
theorem dX2_keepPast_34 : decode cX2_keepPast 34 = .ok (.iload_n 1, 1) := dk_27 (dk_at dksX2_keepPast_1 12 rfl rfl)
theorem dX2_keepPast_35 : decode cX2_keepPast 35 = .ok (.iadd, 1) := dk_96 (dk_at dksX2_keepPast_1 13 rfl rfl)
theorem dX2_keepPast_36 : decode cX2_keepPast 36 = .ok (.bipush 73, 2) := dk_16 73 (dk_at dksX2_keepPast_1 14 rfl rfl)
theorem dX2_keepPast_38 : decode cX2_keepPast 38 = .ok (.iadd, 1) := dk_96 (dk_at dksX2_keepPast_1 16 rfl rfl)
theorem dX2_keepPast_39 : decode cX2_keepPast 39 = .ok (.iaload, 1) := dk_46 (dk_at dksX2_keepPast_1 17 rfl rfl)
theorem dX2_keepPast_40 : decode cX2_keepPast 40 = .ok (.iastore, 1) := dk_79 (dk_at dksX2_keepPast_1 18 rfl rfl)
theorem dX2_keepPast_41 : decode cX2_keepPast 41 = .ok (.iinc 1 1, 3) := dk_132 1 1 (dk_at dksX2_keepPast_1 19 rfl rfl)
theorem dX2_keepPast_44 : decode cX2_keepPast 44 = .ok (.goto (-42), 3) := dk_167 255 214 (dk_at dksX2_keepPast_2 0 rfl rfl)
theorem dX2_keepPast_47 : decode cX2_keepPast 47 = .ok (.aload_n 0, 1) := dk_42 (dk_at dksX2_keepPast_2 3 rfl rfl)
theorem dX2_keepPast_48 : decode cX2_keepPast 48 = .ok (.dup, 1) := dk_89 (dk_at dksX2_keepPast_2 4 rfl rfl)
theorem dX2_keepPast_49 : decode cX2_keepPast 49 = .ok (.getfield 191, 3) := dk_180 0 191 (dk_at dksX2_keepPast_2 5 rfl rfl)
theorem dX2_keepPast_52 : decode cX2_keepPast 52 = .ok (.aload_n 0, 1) := dk_42 (dk_at dksX2_keepPast_2 8 rfl rfl)
theorem dX2_keepPast_53 : decode cX2_keepPast 53 = .ok (.getfield 191, 3) := dk_180 0 191 (dk_at dksX2_keepPast_2 9 rfl rfl)
theorem dX2_keepPast_56 : decode cX2_keepPast 56 = .ok (.bipush 8, 2) := dk_16 8 (dk_at dksX2_keepPast_2 12 rfl rfl)
theorem dX2_keepPast_58 : decode cX2_keepPast 58 = .ok (.if_icmp .ne 7, 3) := dk_160 0 7 (dk_at dksX2_keepPast_2 14 rfl rfl)
theorem dX2_keepPast_61 : decode cX2_keepPast 61 = .ok (.iconst 1, 1) := dk_4 (dk_at dksX2_keepPast_2 17 rfl rfl)
theorem dX2_keepPast_62 : decode cX2_keepPast 62 = .ok (.goto 4, 3) := dk_167 0 4 (dk_at dksX2_keepPast_2 18 rfl rfl)
theorem dX2_keepPast_65 : decode cX2_keepPast 65 = .ok (.iconst 0, 1) := dk_3 (dk_at dksX2_keepPast_2 21 rfl rfl)
theorem dX2_keepPast_66 : decode cX2_keepPast 66 = .ok (.isub, 1) := dk_100 (dk_at dksX2_keepPast_2 22 rfl rfl)
theorem dX2_keepPast_67 : decode cX2_keepPast 67 = .ok (.putfield 191, 3) := dk_181 0 191 (dk_at dksX2_keepPast_3 0 rfl rfl)
theorem dX2_keepPast_70 : decode cX2_keepPast 70 = .ok (.aload_n 0, 1) := dk_42 (dk_at dksX2_keepPast_3 3 rfl rfl)
theorem dX2_keepPast_71 : decode cX2_keepPast 71 = .ok (.iconst 0, 1) := dk_3 (dk_at dksX2_keepPast_3 4 rfl rfl)
theorem dX2_keepPast_72 : decode cX2_keepPast 72 = .ok (.sipush 219, 3) := dk_17 0 219 (dk_at dksX2_keepPast_3 5 rfl rfl)
theorem dX2_keepPast_75 : decode cX2_keepPast 75 = .ok (.bipush 73, 2) := dk_16 73 (dk_at dksX2_keepPast_3 8 rfl rfl)
theorem dX2_keepPast_77 : decode cX2_keepPast 77 = .ok (.aload_n 0, 1) := dk_42 (dk_at dksX2_keepPast_3 10 rfl rfl)
theorem dX2_keepPast_78 : decode cX2_keepPast 78 = .ok (.getfield 191, 3) := dk_180 0 191 (dk_at dksX2_keepPast_3 11 rfl rfl)
theorem dX2_keepPast_81 : decode cX2_keepPast 81 = .ok (.imul, 1) := dk_104 (dk_at dksX2_keepPast_3 14 rfl rfl)
theorem dX2_keepPast_82 : decode cX2_keepPast 82 = .ok (.iadd, 1) := dk_96 (dk_at dksX2_keepPast_3 15 rfl rfl)
theorem dX2_keepPast_83 : decode cX2_keepPast 83 = .ok (.invokevirtual 244, 3) := dk_182 0 244 (dk_at dksX2_keepPast_3 16 rfl rfl)
theorem dX2_keepPast_86 : decode cX2_keepPast 86 = .ok (.aload_n 0, 1) := dk_42 (dk_at dksX2_keepPast_3 19 rfl rfl)
theorem dX2_keepPast_87 : decode cX2_keepPast 87 = .ok (.dup, 1) := dk_89 (dk_at dksX2_keepPast_3 20 rfl rfl)
theorem dX2_keepPast_88 : decode cX2_keepPast 88 = .ok (.getfield 191, 3) := dk_180 0 191 (dk_at dksX2_keepPast_3 21 rfl rfl)
theorem dX2_keepPast_91 : decode cX2_keepPast 91 = .ok (.iconst 1, 1) := dk_4 (dk_at dksX2_keepPast_4 0 rfl rfl)
theorem dX2_keepPast_92 : decode cX2_keepPast 92 = .ok (.iadd, 1) := dk_96 (dk_at dksX2_keepPast_4 1 rfl rfl)
theorem dX2_keepPast_93 : decode cX2_keepPast 93 = .ok (.putfield 191, 3) := dk_181 0 191 (dk_at dksX2_keepPast_4 2 rfl rfl)
theorem dX2_keepPast_96 : decode cX2_keepPast 96 = .ok (.return_, 1) := dk_177 (dk_at dksX2_keepPast_4 5 rfl rfl)
abbrev cX2_copy : ByteArray := prog_19_method_48_code
def yX2_copy : MethodName := ⟨RX2, "copy", "(II)V"⟩
def dkwX2_copy_1 : List UInt8 := [132, 3, 1, 167, 255, 231, 177]
abbrev dktX2_copy_1 : List UInt8 := dkwX2_copy_1 ++ []
def dkwX2_copy_0 : List UInt8 := [3, 62, 29, 16, 73, 162, 0, 25, 42, 180, 0, 7, 28, 29, 96, 42, 180, 0, 7, 27, 29, 96, 46, 79]
abbrev dktX2_copy_0 : List UInt8 := dkwX2_copy_0 ++ dktX2_copy_1
theorem dksX2_copy_0 : cX2_copy.data.toList.drop 0 = dktX2_copy_0 := by decide +kernel
theorem dksX2_copy_1 : cX2_copy.data.toList.drop 24 = dktX2_copy_1 := dk_seg dksX2_copy_0 24 rfl rfl
theorem dX2_copy_0 : decode cX2_copy 0 = .ok (.iconst 0, 1) := dk_3 (dk_at dksX2_copy_0 0 rfl rfl)
theorem dX2_copy_1 : decode cX2_copy 1 = .ok (.istore_n 3, 1) := dk_62 (dk_at dksX2_copy_0 1 rfl rfl)
theorem dX2_copy_2 : decode cX2_copy 2 = .ok (.iload_n 3, 1) := dk_29 (dk_at dksX2_copy_0 2 rfl rfl)
theorem dX2_copy_3 : decode cX2_copy 3 = .ok (.bipush 73, 2) := dk_16 73 (dk_at dksX2_copy_0 3 rfl rfl)
theorem dX2_copy_5 : decode cX2_copy 5 = .ok (.if_icmp .ge 25, 3) := dk_162 0 25 (dk_at dksX2_copy_0 5 rfl rfl)
theorem dX2_copy_8 : decode cX2_copy 8 = .ok (.aload_n 0, 1) := dk_42 (dk_at dksX2_copy_0 8 rfl rfl)
theorem dX2_copy_9 : decode cX2_copy 9 = .ok (.getfield 7, 3) := dk_180 0 7 (dk_at dksX2_copy_0 9 rfl rfl)
theorem dX2_copy_12 : decode cX2_copy 12 = .ok (.iload_n 2, 1) := dk_28 (dk_at dksX2_copy_0 12 rfl rfl)
theorem dX2_copy_13 : decode cX2_copy 13 = .ok (.iload_n 3, 1) := dk_29 (dk_at dksX2_copy_0 13 rfl rfl)
theorem dX2_copy_14 : decode cX2_copy 14 = .ok (.iadd, 1) := dk_96 (dk_at dksX2_copy_0 14 rfl rfl)
theorem dX2_copy_15 : decode cX2_copy 15 = .ok (.aload_n 0, 1) := dk_42 (dk_at dksX2_copy_0 15 rfl rfl)
theorem dX2_copy_16 : decode cX2_copy 16 = .ok (.getfield 7, 3) := dk_180 0 7 (dk_at dksX2_copy_0 16 rfl rfl)
theorem dX2_copy_19 : decode cX2_copy 19 = .ok (.iload_n 1, 1) := dk_27 (dk_at dksX2_copy_0 19 rfl rfl)
theorem dX2_copy_20 : decode cX2_copy 20 = .ok (.iload_n 3, 1) := dk_29 (dk_at dksX2_copy_0 20 rfl rfl)
theorem dX2_copy_21 : decode cX2_copy 21 = .ok (.iadd, 1) := dk_96 (dk_at dksX2_copy_0 21 rfl rfl)
theorem dX2_copy_22 : decode cX2_copy 22 = .ok (.iaload, 1) := dk_46 (dk_at dksX2_copy_0 22 rfl rfl)
theorem dX2_copy_23 : decode cX2_copy 23 = .ok (.iastore, 1) := dk_79 (dk_at dksX2_copy_0 23 rfl rfl)
theorem dX2_copy_24 : decode cX2_copy 24 = .ok (.iinc 3 1, 3) := dk_132 3 1 (dk_at dksX2_copy_1 0 rfl rfl)
theorem dX2_copy_27 : decode cX2_copy 27 = .ok (.goto (-25), 3) := dk_167 255 231 (dk_at dksX2_copy_1 3 rfl rfl)
theorem dX2_copy_30 : decode cX2_copy 30 = .ok (.return_, 1) := dk_177 (dk_at dksX2_copy_1 6 rfl rfl)
abbrev cX2_worthOf : ByteArray := prog_19_method_38_code
def yX2_worthOf : MethodName := ⟨RX2, "worthOf", "()I"⟩
def dkwX2_worthOf_1 : List UInt8 := [167, 0, 14, 42, 180, 0, 26, 42, 180, 0, 51, 28, 46, 46, 96, 60, 132, 2, 1, 167, 255, 217, 27, 172]
abbrev dktX2_worthOf_1 : List UInt8 := dkwX2_worthOf_1 ++ []
def dkwX2_worthOf_0 : List UInt8 := [3, 60, 3, 61, 28, 42, 180, 0, 194, 162, 0, 37, 27, 42, 180, 0, 51, 28, 46, 2, 160, 0, 7, 3]
abbrev dktX2_worthOf_0 : List UInt8 := dkwX2_worthOf_0 ++ dktX2_worthOf_1
theorem dksX2_worthOf_0 : cX2_worthOf.data.toList.drop 0 = dktX2_worthOf_0 := by decide +kernel
theorem dksX2_worthOf_1 : cX2_worthOf.data.toList.drop 24 = dktX2_worthOf_1 := dk_seg dksX2_worthOf_0 24 rfl rfl
theorem dX2_worthOf_0 : decode cX2_worthOf 0 = .ok (.iconst 0, 1) := dk_3 (dk_at dksX2_worthOf_0 0 rfl rfl)
theorem dX2_worthOf_1 : decode cX2_worthOf 1 = .ok (.istore_n 1, 1) := dk_60 (dk_at dksX2_worthOf_0 1 rfl rfl)
theorem dX2_worthOf_2 : decode cX2_worthOf 2 = .ok (.iconst 0, 1) := dk_3 (dk_at dksX2_worthOf_0 2 rfl rfl)
theorem dX2_worthOf_3 : decode cX2_worthOf 3 = .ok (.istore_n 2, 1) := dk_61 (dk_at dksX2_worthOf_0 3 rfl rfl)
theorem dX2_worthOf_4 : decode cX2_worthOf 4 = .ok (.iload_n 2, 1) := dk_28 (dk_at dksX2_worthOf_0 4 rfl rfl)
theorem dX2_worthOf_5 : decode cX2_worthOf 5 = .ok (.aload_n 0, 1) := dk_42 (dk_at dksX2_worthOf_0 5 rfl rfl)
theorem dX2_worthOf_6 : decode cX2_worthOf 6 = .ok (.getfield 194, 3) := dk_180 0 194 (dk_at dksX2_worthOf_0 6 rfl rfl)
theorem dX2_worthOf_9 : decode cX2_worthOf 9 = .ok (.if_icmp .ge 37, 3) := dk_162 0 37 (dk_at dksX2_worthOf_0 9 rfl rfl)
theorem dX2_worthOf_12 : decode cX2_worthOf 12 = .ok (.iload_n 1, 1) := dk_27 (dk_at dksX2_worthOf_0 12 rfl rfl)
theorem dX2_worthOf_13 : decode cX2_worthOf 13 = .ok (.aload_n 0, 1) := dk_42 (dk_at dksX2_worthOf_0 13 rfl rfl)
theorem dX2_worthOf_14 : decode cX2_worthOf 14 = .ok (.getfield 51, 3) := dk_180 0 51 (dk_at dksX2_worthOf_0 14 rfl rfl)
theorem dX2_worthOf_17 : decode cX2_worthOf 17 = .ok (.iload_n 2, 1) := dk_28 (dk_at dksX2_worthOf_0 17 rfl rfl)
theorem dX2_worthOf_18 : decode cX2_worthOf 18 = .ok (.iaload, 1) := dk_46 (dk_at dksX2_worthOf_0 18 rfl rfl)
theorem dX2_worthOf_19 : decode cX2_worthOf 19 = .ok (.iconst (-1), 1) := dk_2 (dk_at dksX2_worthOf_0 19 rfl rfl)
theorem dX2_worthOf_20 : decode cX2_worthOf 20 = .ok (.if_icmp .ne 7, 3) := dk_160 0 7 (dk_at dksX2_worthOf_0 20 rfl rfl)
theorem dX2_worthOf_23 : decode cX2_worthOf 23 = .ok (.iconst 0, 1) := dk_3 (dk_at dksX2_worthOf_0 23 rfl rfl)
theorem dX2_worthOf_24 : decode cX2_worthOf 24 = .ok (.goto 14, 3) := dk_167 0 14 (dk_at dksX2_worthOf_1 0 rfl rfl)
theorem dX2_worthOf_27 : decode cX2_worthOf 27 = .ok (.aload_n 0, 1) := dk_42 (dk_at dksX2_worthOf_1 3 rfl rfl)
theorem dX2_worthOf_28 : decode cX2_worthOf 28 = .ok (.getfield 26, 3) := dk_180 0 26 (dk_at dksX2_worthOf_1 4 rfl rfl)
theorem dX2_worthOf_31 : decode cX2_worthOf 31 = .ok (.aload_n 0, 1) := dk_42 (dk_at dksX2_worthOf_1 7 rfl rfl)
theorem dX2_worthOf_32 : decode cX2_worthOf 32 = .ok (.getfield 51, 3) := dk_180 0 51 (dk_at dksX2_worthOf_1 8 rfl rfl)
theorem dX2_worthOf_35 : decode cX2_worthOf 35 = .ok (.iload_n 2, 1) := dk_28 (dk_at dksX2_worthOf_1 11 rfl rfl)
theorem dX2_worthOf_36 : decode cX2_worthOf 36 = .ok (.iaload, 1) := dk_46 (dk_at dksX2_worthOf_1 12 rfl rfl)
theorem dX2_worthOf_37 : decode cX2_worthOf 37 = .ok (.iaload, 1) := dk_46 (dk_at dksX2_worthOf_1 13 rfl rfl)
theorem dX2_worthOf_38 : decode cX2_worthOf 38 = .ok (.iadd, 1) := dk_96 (dk_at dksX2_worthOf_1 14 rfl rfl)
theorem dX2_worthOf_39 : decode cX2_worthOf 39 = .ok (.istore_n 1, 1) := dk_60 (dk_at dksX2_worthOf_1 15 rfl rfl)
theorem dX2_worthOf_40 : decode cX2_worthOf 40 = .ok (.iinc 2 1, 3) := dk_132 2 1 (dk_at dksX2_worthOf_1 16 rfl rfl)
theorem dX2_worthOf_43 : decode cX2_worthOf 43 = .ok (.goto (-39), 3) := dk_167 255 217 (dk_at dksX2_worthOf_1 19 rfl rfl)
theorem dX2_worthOf_46 : decode cX2_worthOf 46 = .ok (.iload_n 1, 1) := dk_27 (dk_at dksX2_worthOf_1 22 rfl rfl)
theorem dX2_worthOf_47 : decode cX2_worthOf 47 = .ok (.ireturn, 1) := dk_172 (dk_at dksX2_worthOf_1 23 rfl rfl)
abbrev cX2_week : ByteArray := prog_19_method_52_code
def yX2_week : MethodName := ⟨RX2, "week", "()I"⟩
def dkwX2_week_3 : List UInt8 := [3, 46, 172]
abbrev dktX2_week_3 : List UInt8 := dkwX2_week_3 ++ []
def dkwX2_week_2 : List UInt8 := [182, 0, 253, 79, 132, 1, 1, 167, 255, 224, 42, 180, 0, 7, 3, 92, 46, 4, 96, 79, 42, 180, 0, 7]
abbrev dktX2_week_2 : List UInt8 := dkwX2_week_2 ++ dktX2_week_3
def dkwX2_week_1 : List UInt8 := [180, 0, 155, 162, 0, 30, 42, 180, 0, 7, 4, 27, 96, 42, 27, 42, 180, 0, 7, 4, 27, 96, 46]
abbrev dktX2_week_1 : List UInt8 := dkwX2_week_1 ++ dktX2_week_2
def dkwX2_week_0 : List UInt8 := [42, 180, 0, 7, 3, 46, 17, 3, 231, 160, 0, 6, 16, 251, 172, 42, 182, 0, 247, 3, 60, 27, 42]
abbrev dktX2_week_0 : List UInt8 := dkwX2_week_0 ++ dktX2_week_1
theorem dksX2_week_0 : cX2_week.data.toList.drop 0 = dktX2_week_0 := by decide +kernel
theorem dksX2_week_1 : cX2_week.data.toList.drop 23 = dktX2_week_1 := dk_seg dksX2_week_0 23 rfl rfl
theorem dksX2_week_2 : cX2_week.data.toList.drop 46 = dktX2_week_2 := dk_seg dksX2_week_1 23 rfl rfl
theorem dksX2_week_3 : cX2_week.data.toList.drop 70 = dktX2_week_3 := dk_seg dksX2_week_2 24 rfl rfl
theorem dX2_week_0 : decode cX2_week 0 = .ok (.aload_n 0, 1) := dk_42 (dk_at dksX2_week_0 0 rfl rfl)
theorem dX2_week_1 : decode cX2_week 1 = .ok (.getfield 7, 3) := dk_180 0 7 (dk_at dksX2_week_0 1 rfl rfl)
theorem dX2_week_4 : decode cX2_week 4 = .ok (.iconst 0, 1) := dk_3 (dk_at dksX2_week_0 4 rfl rfl)
theorem dX2_week_5 : decode cX2_week 5 = .ok (.iaload, 1) := dk_46 (dk_at dksX2_week_0 5 rfl rfl)
theorem dX2_week_6 : decode cX2_week 6 = .ok (.sipush 999, 3) := dk_17 3 231 (dk_at dksX2_week_0 6 rfl rfl)
theorem dX2_week_9 : decode cX2_week 9 = .ok (.if_icmp .ne 6, 3) := dk_160 0 6 (dk_at dksX2_week_0 9 rfl rfl)
theorem dX2_week_12 : decode cX2_week 12 = .ok (.bipush (-5), 2) := dk_16 251 (dk_at dksX2_week_0 12 rfl rfl)
theorem dX2_week_14 : decode cX2_week 14 = .ok (.ireturn, 1) := dk_172 (dk_at dksX2_week_0 14 rfl rfl)
theorem dX2_week_15 : decode cX2_week 15 = .ok (.aload_n 0, 1) := dk_42 (dk_at dksX2_week_0 15 rfl rfl)
theorem dX2_week_16 : decode cX2_week 16 = .ok (.invokevirtual 247, 3) := dk_182 0 247 (dk_at dksX2_week_0 16 rfl rfl)
theorem dX2_week_19 : decode cX2_week 19 = .ok (.iconst 0, 1) := dk_3 (dk_at dksX2_week_0 19 rfl rfl)
theorem dX2_week_20 : decode cX2_week 20 = .ok (.istore_n 1, 1) := dk_60 (dk_at dksX2_week_0 20 rfl rfl)
theorem dX2_week_21 : decode cX2_week 21 = .ok (.iload_n 1, 1) := dk_27 (dk_at dksX2_week_0 21 rfl rfl)
theorem dX2_week_22 : decode cX2_week 22 = .ok (.aload_n 0, 1) := dk_42 (dk_at dksX2_week_0 22 rfl rfl)
theorem dX2_week_23 : decode cX2_week 23 = .ok (.getfield 155, 3) := dk_180 0 155 (dk_at dksX2_week_1 0 rfl rfl)
theorem dX2_week_26 : decode cX2_week 26 = .ok (.if_icmp .ge 30, 3) := dk_162 0 30 (dk_at dksX2_week_1 3 rfl rfl)
theorem dX2_week_29 : decode cX2_week 29 = .ok (.aload_n 0, 1) := dk_42 (dk_at dksX2_week_1 6 rfl rfl)
theorem dX2_week_30 : decode cX2_week 30 = .ok (.getfield 7, 3) := dk_180 0 7 (dk_at dksX2_week_1 7 rfl rfl)
theorem dX2_week_33 : decode cX2_week 33 = .ok (.iconst 1, 1) := dk_4 (dk_at dksX2_week_1 10 rfl rfl)
theorem dX2_week_34 : decode cX2_week 34 = .ok (.iload_n 1, 1) := dk_27 (dk_at dksX2_week_1 11 rfl rfl)
theorem dX2_week_35 : decode cX2_week 35 = .ok (.iadd, 1) := dk_96 (dk_at dksX2_week_1 12 rfl rfl)
theorem dX2_week_36 : decode cX2_week 36 = .ok (.aload_n 0, 1) := dk_42 (dk_at dksX2_week_1 13 rfl rfl)
theorem dX2_week_37 : decode cX2_week 37 = .ok (.iload_n 1, 1) := dk_27 (dk_at dksX2_week_1 14 rfl rfl)
theorem dX2_week_38 : decode cX2_week 38 = .ok (.aload_n 0, 1) := dk_42 (dk_at dksX2_week_1 15 rfl rfl)
theorem dX2_week_39 : decode cX2_week 39 = .ok (.getfield 7, 3) := dk_180 0 7 (dk_at dksX2_week_1 16 rfl rfl)
theorem dX2_week_42 : decode cX2_week 42 = .ok (.iconst 1, 1) := dk_4 (dk_at dksX2_week_1 19 rfl rfl)
theorem dX2_week_43 : decode cX2_week 43 = .ok (.iload_n 1, 1) := dk_27 (dk_at dksX2_week_1 20 rfl rfl)
theorem dX2_week_44 : decode cX2_week 44 = .ok (.iadd, 1) := dk_96 (dk_at dksX2_week_1 21 rfl rfl)
theorem dX2_week_45 : decode cX2_week 45 = .ok (.iaload, 1) := dk_46 (dk_at dksX2_week_1 22 rfl rfl)
theorem dX2_week_46 : decode cX2_week 46 = .ok (.invokevirtual 253, 3) := dk_182 0 253 (dk_at dksX2_week_2 0 rfl rfl)
theorem dX2_week_49 : decode cX2_week 49 = .ok (.iastore, 1) := dk_79 (dk_at dksX2_week_2 3 rfl rfl)
theorem dX2_week_50 : decode cX2_week 50 = .ok (.iinc 1 1, 3) := dk_132 1 1 (dk_at dksX2_week_2 4 rfl rfl)
theorem dX2_week_53 : decode cX2_week 53 = .ok (.goto (-32), 3) := dk_167 255 224 (dk_at dksX2_week_2 7 rfl rfl)
theorem dX2_week_56 : decode cX2_week 56 = .ok (.aload_n 0, 1) := dk_42 (dk_at dksX2_week_2 10 rfl rfl)
theorem dX2_week_57 : decode cX2_week 57 = .ok (.getfield 7, 3) := dk_180 0 7 (dk_at dksX2_week_2 11 rfl rfl)
theorem dX2_week_60 : decode cX2_week 60 = .ok (.iconst 0, 1) := dk_3 (dk_at dksX2_week_2 14 rfl rfl)
theorem dX2_week_61 : decode cX2_week 61 = .ok (.dup2, 1) := dk_92 (dk_at dksX2_week_2 15 rfl rfl)
theorem dX2_week_62 : decode cX2_week 62 = .ok (.iaload, 1) := dk_46 (dk_at dksX2_week_2 16 rfl rfl)
theorem dX2_week_63 : decode cX2_week 63 = .ok (.iconst 1, 1) := dk_4 (dk_at dksX2_week_2 17 rfl rfl)
theorem dX2_week_64 : decode cX2_week 64 = .ok (.iadd, 1) := dk_96 (dk_at dksX2_week_2 18 rfl rfl)
theorem dX2_week_65 : decode cX2_week 65 = .ok (.iastore, 1) := dk_79 (dk_at dksX2_week_2 19 rfl rfl)
theorem dX2_week_66 : decode cX2_week 66 = .ok (.aload_n 0, 1) := dk_42 (dk_at dksX2_week_2 20 rfl rfl)
theorem dX2_week_67 : decode cX2_week 67 = .ok (.getfield 7, 3) := dk_180 0 7 (dk_at dksX2_week_2 21 rfl rfl)
theorem dX2_week_70 : decode cX2_week 70 = .ok (.iconst 0, 1) := dk_3 (dk_at dksX2_week_3 0 rfl rfl)
theorem dX2_week_71 : decode cX2_week 71 = .ok (.iaload, 1) := dk_46 (dk_at dksX2_week_3 1 rfl rfl)
theorem dX2_week_72 : decode cX2_week 72 = .ok (.ireturn, 1) := dk_172 (dk_at dksX2_week_3 2 rfl rfl)
abbrev cX2_rationed : ByteArray := prog_19_method_51_code
def yX2_rationed : MethodName := ⟨RX2, "rationed", "(II)I"⟩
def dkwX2_rationed_1 : List UInt8 := [16, 60, 164, 0, 8, 16, 60, 167, 0, 4, 29, 172]
abbrev dktX2_rationed_1 : List UInt8 := dkwX2_rationed_1 ++ []
def dkwX2_rationed_0 : List UInt8 := [42, 180, 0, 32, 27, 46, 4, 160, 0, 7, 28, 167, 0, 4, 3, 5, 42, 180, 0, 38, 104, 96, 62, 29]
abbrev dktX2_rationed_0 : List UInt8 := dkwX2_rationed_0 ++ dktX2_rationed_1
theorem dksX2_rationed_0 : cX2_rationed.data.toList.drop 0 = dktX2_rationed_0 := by decide +kernel
theorem dksX2_rationed_1 : cX2_rationed.data.toList.drop 24 = dktX2_rationed_1 := dk_seg dksX2_rationed_0 24 rfl rfl
theorem dX2_rationed_0 : decode cX2_rationed 0 = .ok (.aload_n 0, 1) := dk_42 (dk_at dksX2_rationed_0 0 rfl rfl)
theorem dX2_rationed_1 : decode cX2_rationed 1 = .ok (.getfield 32, 3) := dk_180 0 32 (dk_at dksX2_rationed_0 1 rfl rfl)
theorem dX2_rationed_4 : decode cX2_rationed 4 = .ok (.iload_n 1, 1) := dk_27 (dk_at dksX2_rationed_0 4 rfl rfl)
theorem dX2_rationed_5 : decode cX2_rationed 5 = .ok (.iaload, 1) := dk_46 (dk_at dksX2_rationed_0 5 rfl rfl)
theorem dX2_rationed_6 : decode cX2_rationed 6 = .ok (.iconst 1, 1) := dk_4 (dk_at dksX2_rationed_0 6 rfl rfl)
theorem dX2_rationed_7 : decode cX2_rationed 7 = .ok (.if_icmp .ne 7, 3) := dk_160 0 7 (dk_at dksX2_rationed_0 7 rfl rfl)
theorem dX2_rationed_10 : decode cX2_rationed 10 = .ok (.iload_n 2, 1) := dk_28 (dk_at dksX2_rationed_0 10 rfl rfl)
theorem dX2_rationed_11 : decode cX2_rationed 11 = .ok (.goto 4, 3) := dk_167 0 4 (dk_at dksX2_rationed_0 11 rfl rfl)
theorem dX2_rationed_14 : decode cX2_rationed 14 = .ok (.iconst 0, 1) := dk_3 (dk_at dksX2_rationed_0 14 rfl rfl)
theorem dX2_rationed_15 : decode cX2_rationed 15 = .ok (.iconst 2, 1) := dk_5 (dk_at dksX2_rationed_0 15 rfl rfl)
theorem dX2_rationed_16 : decode cX2_rationed 16 = .ok (.aload_n 0, 1) := dk_42 (dk_at dksX2_rationed_0 16 rfl rfl)
theorem dX2_rationed_17 : decode cX2_rationed 17 = .ok (.getfield 38, 3) := dk_180 0 38 (dk_at dksX2_rationed_0 17 rfl rfl)
theorem dX2_rationed_20 : decode cX2_rationed 20 = .ok (.imul, 1) := dk_104 (dk_at dksX2_rationed_0 20 rfl rfl)
theorem dX2_rationed_21 : decode cX2_rationed 21 = .ok (.iadd, 1) := dk_96 (dk_at dksX2_rationed_0 21 rfl rfl)
theorem dX2_rationed_22 : decode cX2_rationed 22 = .ok (.istore_n 3, 1) := dk_62 (dk_at dksX2_rationed_0 22 rfl rfl)
theorem dX2_rationed_23 : decode cX2_rationed 23 = .ok (.iload_n 3, 1) := dk_29 (dk_at dksX2_rationed_0 23 rfl rfl)
theorem dX2_rationed_24 : decode cX2_rationed 24 = .ok (.bipush 60, 2) := dk_16 60 (dk_at dksX2_rationed_1 0 rfl rfl)
theorem dX2_rationed_26 : decode cX2_rationed 26 = .ok (.if_icmp .le 8, 3) := dk_164 0 8 (dk_at dksX2_rationed_1 2 rfl rfl)
theorem dX2_rationed_29 : decode cX2_rationed 29 = .ok (.bipush 60, 2) := dk_16 60 (dk_at dksX2_rationed_1 5 rfl rfl)
theorem dX2_rationed_31 : decode cX2_rationed 31 = .ok (.goto 4, 3) := dk_167 0 4 (dk_at dksX2_rationed_1 7 rfl rfl)
theorem dX2_rationed_34 : decode cX2_rationed 34 = .ok (.iload_n 3, 1) := dk_29 (dk_at dksX2_rationed_1 10 rfl rfl)
theorem dX2_rationed_35 : decode cX2_rationed 35 = .ok (.ireturn, 1) := dk_172 (dk_at dksX2_rationed_1 11 rfl rfl)
abbrev cX2_trade : ByteArray := prog_19_method_54_code
def yX2_trade : MethodName := ⟨RX2, "trade", "(IIII)I"⟩
def dkwX2_trade_6 : List UInt8 := [4, 28, 96, 46, 172]
abbrev dktX2_trade_6 : List UInt8 := dkwX2_trade_6 ++ []
def dkwX2_trade_5 : List UInt8 := [96, 92, 46, 21, 4, 96, 79, 42, 180, 0, 7, 8, 28, 96, 92, 46, 21, 4, 100, 79, 42, 180, 0, 7]
abbrev dktX2_trade_5 : List UInt8 := dkwX2_trade_5 ++ dktX2_trade_6
def dkwX2_trade_4 : List UInt8 := [96, 92, 46, 29, 100, 79, 42, 180, 0, 7, 4, 28, 96, 92, 46, 29, 96, 79, 42, 180, 0, 7, 8, 27]
abbrev dktX2_trade_4 : List UInt8 := dkwX2_trade_4 ++ dktX2_trade_5
def dkwX2_trade_3 : List UInt8 := [4, 28, 96, 46, 29, 96, 16, 60, 164, 0, 6, 16, 251, 172, 42, 182, 0, 247, 42, 180, 0, 7, 4, 27]
abbrev dktX2_trade_3 : List UInt8 := dkwX2_trade_3 ++ dktX2_trade_4
def dkwX2_trade_2 : List UInt8 := [29, 161, 0, 16, 42, 180, 0, 7, 8, 28, 96, 46, 21, 4, 162, 0, 6, 16, 252, 172, 42, 180, 0, 7]
abbrev dktX2_trade_2 : List UInt8 := dkwX2_trade_2 ++ dktX2_trade_3
def dkwX2_trade_1 : List UInt8 := [21, 4, 133, 9, 20, 1, 5, 184, 0, 65, 154, 0, 6, 16, 253, 172, 42, 180, 0, 7, 4, 27, 96, 46]
abbrev dktX2_trade_1 : List UInt8 := dkwX2_trade_1 ++ dktX2_trade_2
def dkwX2_trade_0 : List UInt8 := [42, 27, 28, 182, 1, 0, 154, 0, 6, 16, 254, 172, 29, 133, 10, 20, 1, 3, 184, 0, 65, 153, 0, 16]
abbrev dktX2_trade_0 : List UInt8 := dkwX2_trade_0 ++ dktX2_trade_1
theorem dksX2_trade_0 : cX2_trade.data.toList.drop 0 = dktX2_trade_0 := by decide +kernel
theorem dksX2_trade_1 : cX2_trade.data.toList.drop 24 = dktX2_trade_1 := dk_seg dksX2_trade_0 24 rfl rfl
theorem dksX2_trade_2 : cX2_trade.data.toList.drop 48 = dktX2_trade_2 := dk_seg dksX2_trade_1 24 rfl rfl
theorem dksX2_trade_3 : cX2_trade.data.toList.drop 72 = dktX2_trade_3 := dk_seg dksX2_trade_2 24 rfl rfl
theorem dksX2_trade_4 : cX2_trade.data.toList.drop 96 = dktX2_trade_4 := dk_seg dksX2_trade_3 24 rfl rfl
theorem dksX2_trade_5 : cX2_trade.data.toList.drop 120 = dktX2_trade_5 := dk_seg dksX2_trade_4 24 rfl rfl
theorem dksX2_trade_6 : cX2_trade.data.toList.drop 144 = dktX2_trade_6 := dk_seg dksX2_trade_5 24 rfl rfl
theorem dX2_trade_0 : decode cX2_trade 0 = .ok (.aload_n 0, 1) := dk_42 (dk_at dksX2_trade_0 0 rfl rfl)
theorem dX2_trade_1 : decode cX2_trade 1 = .ok (.iload_n 1, 1) := dk_27 (dk_at dksX2_trade_0 1 rfl rfl)
theorem dX2_trade_2 : decode cX2_trade 2 = .ok (.iload_n 2, 1) := dk_28 (dk_at dksX2_trade_0 2 rfl rfl)
theorem dX2_trade_3 : decode cX2_trade 3 = .ok (.invokevirtual 256, 3) := dk_182 1 0 (dk_at dksX2_trade_0 3 rfl rfl)
theorem dX2_trade_6 : decode cX2_trade 6 = .ok (.ifCond .ne 6, 3) := dk_154 0 6 (dk_at dksX2_trade_0 6 rfl rfl)
theorem dX2_trade_9 : decode cX2_trade 9 = .ok (.bipush (-2), 2) := dk_16 254 (dk_at dksX2_trade_0 9 rfl rfl)
theorem dX2_trade_11 : decode cX2_trade 11 = .ok (.ireturn, 1) := dk_172 (dk_at dksX2_trade_0 11 rfl rfl)
theorem dX2_trade_12 : decode cX2_trade 12 = .ok (.iload_n 3, 1) := dk_29 (dk_at dksX2_trade_0 12 rfl rfl)
theorem dX2_trade_13 : decode cX2_trade 13 = .ok (.i2l, 1) := dk_133 (dk_at dksX2_trade_0 13 rfl rfl)
theorem dX2_trade_14 : decode cX2_trade 14 = .ok (.lconst 1, 1) := dk_10 (dk_at dksX2_trade_0 14 rfl rfl)
theorem dX2_trade_15 : decode cX2_trade 15 = .ok (.ldc2_w 259, 3) := dk_20 1 3 (dk_at dksX2_trade_0 15 rfl rfl)
theorem dX2_trade_18 : decode cX2_trade 18 = .ok (.invokestatic 65, 3) := dk_184 0 65 (dk_at dksX2_trade_0 18 rfl rfl)
theorem dX2_trade_21 : decode cX2_trade 21 = .ok (.ifCond .eq 16, 3) := dk_153 0 16 (dk_at dksX2_trade_0 21 rfl rfl)
theorem dX2_trade_24 : decode cX2_trade 24 = .ok (.iload 4, 2) := dk_21 4 (dk_at dksX2_trade_1 0 rfl rfl)
theorem dX2_trade_26 : decode cX2_trade 26 = .ok (.i2l, 1) := dk_133 (dk_at dksX2_trade_1 2 rfl rfl)
theorem dX2_trade_27 : decode cX2_trade 27 = .ok (.lconst 0, 1) := dk_9 (dk_at dksX2_trade_1 3 rfl rfl)
theorem dX2_trade_28 : decode cX2_trade 28 = .ok (.ldc2_w 261, 3) := dk_20 1 5 (dk_at dksX2_trade_1 4 rfl rfl)
theorem dX2_trade_31 : decode cX2_trade 31 = .ok (.invokestatic 65, 3) := dk_184 0 65 (dk_at dksX2_trade_1 7 rfl rfl)
theorem dX2_trade_34 : decode cX2_trade 34 = .ok (.ifCond .ne 6, 3) := dk_154 0 6 (dk_at dksX2_trade_1 10 rfl rfl)
theorem dX2_trade_37 : decode cX2_trade 37 = .ok (.bipush (-3), 2) := dk_16 253 (dk_at dksX2_trade_1 13 rfl rfl)
theorem dX2_trade_39 : decode cX2_trade 39 = .ok (.ireturn, 1) := dk_172 (dk_at dksX2_trade_1 15 rfl rfl)
theorem dX2_trade_40 : decode cX2_trade 40 = .ok (.aload_n 0, 1) := dk_42 (dk_at dksX2_trade_1 16 rfl rfl)
theorem dX2_trade_41 : decode cX2_trade 41 = .ok (.getfield 7, 3) := dk_180 0 7 (dk_at dksX2_trade_1 17 rfl rfl)
theorem dX2_trade_44 : decode cX2_trade 44 = .ok (.iconst 1, 1) := dk_4 (dk_at dksX2_trade_1 20 rfl rfl)
theorem dX2_trade_45 : decode cX2_trade 45 = .ok (.iload_n 1, 1) := dk_27 (dk_at dksX2_trade_1 21 rfl rfl)
theorem dX2_trade_46 : decode cX2_trade 46 = .ok (.iadd, 1) := dk_96 (dk_at dksX2_trade_1 22 rfl rfl)
theorem dX2_trade_47 : decode cX2_trade 47 = .ok (.iaload, 1) := dk_46 (dk_at dksX2_trade_1 23 rfl rfl)
theorem dX2_trade_48 : decode cX2_trade 48 = .ok (.iload_n 3, 1) := dk_29 (dk_at dksX2_trade_2 0 rfl rfl)
theorem dX2_trade_49 : decode cX2_trade 49 = .ok (.if_icmp .lt 16, 3) := dk_161 0 16 (dk_at dksX2_trade_2 1 rfl rfl)
theorem dX2_trade_52 : decode cX2_trade 52 = .ok (.aload_n 0, 1) := dk_42 (dk_at dksX2_trade_2 4 rfl rfl)
theorem dX2_trade_53 : decode cX2_trade 53 = .ok (.getfield 7, 3) := dk_180 0 7 (dk_at dksX2_trade_2 5 rfl rfl)
theorem dX2_trade_56 : decode cX2_trade 56 = .ok (.iconst 5, 1) := dk_8 (dk_at dksX2_trade_2 8 rfl rfl)
theorem dX2_trade_57 : decode cX2_trade 57 = .ok (.iload_n 2, 1) := dk_28 (dk_at dksX2_trade_2 9 rfl rfl)
theorem dX2_trade_58 : decode cX2_trade 58 = .ok (.iadd, 1) := dk_96 (dk_at dksX2_trade_2 10 rfl rfl)
theorem dX2_trade_59 : decode cX2_trade 59 = .ok (.iaload, 1) := dk_46 (dk_at dksX2_trade_2 11 rfl rfl)
theorem dX2_trade_60 : decode cX2_trade 60 = .ok (.iload 4, 2) := dk_21 4 (dk_at dksX2_trade_2 12 rfl rfl)
theorem dX2_trade_62 : decode cX2_trade 62 = .ok (.if_icmp .ge 6, 3) := dk_162 0 6 (dk_at dksX2_trade_2 14 rfl rfl)
theorem dX2_trade_65 : decode cX2_trade 65 = .ok (.bipush (-4), 2) := dk_16 252 (dk_at dksX2_trade_2 17 rfl rfl)
theorem dX2_trade_67 : decode cX2_trade 67 = .ok (.ireturn, 1) := dk_172 (dk_at dksX2_trade_2 19 rfl rfl)
theorem dX2_trade_68 : decode cX2_trade 68 = .ok (.aload_n 0, 1) := dk_42 (dk_at dksX2_trade_2 20 rfl rfl)
theorem dX2_trade_69 : decode cX2_trade 69 = .ok (.getfield 7, 3) := dk_180 0 7 (dk_at dksX2_trade_2 21 rfl rfl)
theorem dX2_trade_72 : decode cX2_trade 72 = .ok (.iconst 1, 1) := dk_4 (dk_at dksX2_trade_3 0 rfl rfl)
theorem dX2_trade_73 : decode cX2_trade 73 = .ok (.iload_n 2, 1) := dk_28 (dk_at dksX2_trade_3 1 rfl rfl)
theorem dX2_trade_74 : decode cX2_trade 74 = .ok (.iadd, 1) := dk_96 (dk_at dksX2_trade_3 2 rfl rfl)
theorem dX2_trade_75 : decode cX2_trade 75 = .ok (.iaload, 1) := dk_46 (dk_at dksX2_trade_3 3 rfl rfl)
theorem dX2_trade_76 : decode cX2_trade 76 = .ok (.iload_n 3, 1) := dk_29 (dk_at dksX2_trade_3 4 rfl rfl)
theorem dX2_trade_77 : decode cX2_trade 77 = .ok (.iadd, 1) := dk_96 (dk_at dksX2_trade_3 5 rfl rfl)
theorem dX2_trade_78 : decode cX2_trade 78 = .ok (.bipush 60, 2) := dk_16 60 (dk_at dksX2_trade_3 6 rfl rfl)
theorem dX2_trade_80 : decode cX2_trade 80 = .ok (.if_icmp .le 6, 3) := dk_164 0 6 (dk_at dksX2_trade_3 8 rfl rfl)
theorem dX2_trade_83 : decode cX2_trade 83 = .ok (.bipush (-5), 2) := dk_16 251 (dk_at dksX2_trade_3 11 rfl rfl)
theorem dX2_trade_85 : decode cX2_trade 85 = .ok (.ireturn, 1) := dk_172 (dk_at dksX2_trade_3 13 rfl rfl)
theorem dX2_trade_86 : decode cX2_trade 86 = .ok (.aload_n 0, 1) := dk_42 (dk_at dksX2_trade_3 14 rfl rfl)
theorem dX2_trade_87 : decode cX2_trade 87 = .ok (.invokevirtual 247, 3) := dk_182 0 247 (dk_at dksX2_trade_3 15 rfl rfl)
theorem dX2_trade_90 : decode cX2_trade 90 = .ok (.aload_n 0, 1) := dk_42 (dk_at dksX2_trade_3 18 rfl rfl)
theorem dX2_trade_91 : decode cX2_trade 91 = .ok (.getfield 7, 3) := dk_180 0 7 (dk_at dksX2_trade_3 19 rfl rfl)
theorem dX2_trade_94 : decode cX2_trade 94 = .ok (.iconst 1, 1) := dk_4 (dk_at dksX2_trade_3 22 rfl rfl)
theorem dX2_trade_95 : decode cX2_trade 95 = .ok (.iload_n 1, 1) := dk_27 (dk_at dksX2_trade_3 23 rfl rfl)
theorem dX2_trade_96 : decode cX2_trade 96 = .ok (.iadd, 1) := dk_96 (dk_at dksX2_trade_4 0 rfl rfl)
theorem dX2_trade_97 : decode cX2_trade 97 = .ok (.dup2, 1) := dk_92 (dk_at dksX2_trade_4 1 rfl rfl)
theorem dX2_trade_98 : decode cX2_trade 98 = .ok (.iaload, 1) := dk_46 (dk_at dksX2_trade_4 2 rfl rfl)
theorem dX2_trade_99 : decode cX2_trade 99 = .ok (.iload_n 3, 1) := dk_29 (dk_at dksX2_trade_4 3 rfl rfl)
theorem dX2_trade_100 : decode cX2_trade 100 = .ok (.isub, 1) := dk_100 (dk_at dksX2_trade_4 4 rfl rfl)
theorem dX2_trade_101 : decode cX2_trade 101 = .ok (.iastore, 1) := dk_79 (dk_at dksX2_trade_4 5 rfl rfl)
theorem dX2_trade_102 : decode cX2_trade 102 = .ok (.aload_n 0, 1) := dk_42 (dk_at dksX2_trade_4 6 rfl rfl)
theorem dX2_trade_103 : decode cX2_trade 103 = .ok (.getfield 7, 3) := dk_180 0 7 (dk_at dksX2_trade_4 7 rfl rfl)
theorem dX2_trade_106 : decode cX2_trade 106 = .ok (.iconst 1, 1) := dk_4 (dk_at dksX2_trade_4 10 rfl rfl)
theorem dX2_trade_107 : decode cX2_trade 107 = .ok (.iload_n 2, 1) := dk_28 (dk_at dksX2_trade_4 11 rfl rfl)
theorem dX2_trade_108 : decode cX2_trade 108 = .ok (.iadd, 1) := dk_96 (dk_at dksX2_trade_4 12 rfl rfl)
theorem dX2_trade_109 : decode cX2_trade 109 = .ok (.dup2, 1) := dk_92 (dk_at dksX2_trade_4 13 rfl rfl)
theorem dX2_trade_110 : decode cX2_trade 110 = .ok (.iaload, 1) := dk_46 (dk_at dksX2_trade_4 14 rfl rfl)
theorem dX2_trade_111 : decode cX2_trade 111 = .ok (.iload_n 3, 1) := dk_29 (dk_at dksX2_trade_4 15 rfl rfl)
theorem dX2_trade_112 : decode cX2_trade 112 = .ok (.iadd, 1) := dk_96 (dk_at dksX2_trade_4 16 rfl rfl)
theorem dX2_trade_113 : decode cX2_trade 113 = .ok (.iastore, 1) := dk_79 (dk_at dksX2_trade_4 17 rfl rfl)
theorem dX2_trade_114 : decode cX2_trade 114 = .ok (.aload_n 0, 1) := dk_42 (dk_at dksX2_trade_4 18 rfl rfl)
theorem dX2_trade_115 : decode cX2_trade 115 = .ok (.getfield 7, 3) := dk_180 0 7 (dk_at dksX2_trade_4 19 rfl rfl)
theorem dX2_trade_118 : decode cX2_trade 118 = .ok (.iconst 5, 1) := dk_8 (dk_at dksX2_trade_4 22 rfl rfl)
theorem dX2_trade_119 : decode cX2_trade 119 = .ok (.iload_n 1, 1) := dk_27 (dk_at dksX2_trade_4 23 rfl rfl)
theorem dX2_trade_120 : decode cX2_trade 120 = .ok (.iadd, 1) := dk_96 (dk_at dksX2_trade_5 0 rfl rfl)
theorem dX2_trade_121 : decode cX2_trade 121 = .ok (.dup2, 1) := dk_92 (dk_at dksX2_trade_5 1 rfl rfl)
theorem dX2_trade_122 : decode cX2_trade 122 = .ok (.iaload, 1) := dk_46 (dk_at dksX2_trade_5 2 rfl rfl)
theorem dX2_trade_123 : decode cX2_trade 123 = .ok (.iload 4, 2) := dk_21 4 (dk_at dksX2_trade_5 3 rfl rfl)
theorem dX2_trade_125 : decode cX2_trade 125 = .ok (.iadd, 1) := dk_96 (dk_at dksX2_trade_5 5 rfl rfl)
theorem dX2_trade_126 : decode cX2_trade 126 = .ok (.iastore, 1) := dk_79 (dk_at dksX2_trade_5 6 rfl rfl)
theorem dX2_trade_127 : decode cX2_trade 127 = .ok (.aload_n 0, 1) := dk_42 (dk_at dksX2_trade_5 7 rfl rfl)
theorem dX2_trade_128 : decode cX2_trade 128 = .ok (.getfield 7, 3) := dk_180 0 7 (dk_at dksX2_trade_5 8 rfl rfl)
theorem dX2_trade_131 : decode cX2_trade 131 = .ok (.iconst 5, 1) := dk_8 (dk_at dksX2_trade_5 11 rfl rfl)
theorem dX2_trade_132 : decode cX2_trade 132 = .ok (.iload_n 2, 1) := dk_28 (dk_at dksX2_trade_5 12 rfl rfl)
theorem dX2_trade_133 : decode cX2_trade 133 = .ok (.iadd, 1) := dk_96 (dk_at dksX2_trade_5 13 rfl rfl)
theorem dX2_trade_134 : decode cX2_trade 134 = .ok (.dup2, 1) := dk_92 (dk_at dksX2_trade_5 14 rfl rfl)
theorem dX2_trade_135 : decode cX2_trade 135 = .ok (.iaload, 1) := dk_46 (dk_at dksX2_trade_5 15 rfl rfl)
theorem dX2_trade_136 : decode cX2_trade 136 = .ok (.iload 4, 2) := dk_21 4 (dk_at dksX2_trade_5 16 rfl rfl)
theorem dX2_trade_138 : decode cX2_trade 138 = .ok (.isub, 1) := dk_100 (dk_at dksX2_trade_5 18 rfl rfl)
theorem dX2_trade_139 : decode cX2_trade 139 = .ok (.iastore, 1) := dk_79 (dk_at dksX2_trade_5 19 rfl rfl)
theorem dX2_trade_140 : decode cX2_trade 140 = .ok (.aload_n 0, 1) := dk_42 (dk_at dksX2_trade_5 20 rfl rfl)
theorem dX2_trade_141 : decode cX2_trade 141 = .ok (.getfield 7, 3) := dk_180 0 7 (dk_at dksX2_trade_5 21 rfl rfl)
theorem dX2_trade_144 : decode cX2_trade 144 = .ok (.iconst 1, 1) := dk_4 (dk_at dksX2_trade_6 0 rfl rfl)
theorem dX2_trade_145 : decode cX2_trade 145 = .ok (.iload_n 2, 1) := dk_28 (dk_at dksX2_trade_6 1 rfl rfl)
theorem dX2_trade_146 : decode cX2_trade 146 = .ok (.iadd, 1) := dk_96 (dk_at dksX2_trade_6 2 rfl rfl)
theorem dX2_trade_147 : decode cX2_trade 147 = .ok (.iaload, 1) := dk_46 (dk_at dksX2_trade_6 3 rfl rfl)
theorem dX2_trade_148 : decode cX2_trade 148 = .ok (.ireturn, 1) := dk_172 (dk_at dksX2_trade_6 4 rfl rfl)
abbrev cX2_areTwo : ByteArray := prog_19_method_53_code
def yX2_areTwo : MethodName := ⟨RX2, "areTwo", "(II)Z"⟩
def dkwX2_areTwo_1 : List UInt8 := [167, 0, 4, 3, 172]
abbrev dktX2_areTwo_1 : List UInt8 := dkwX2_areTwo_1 ++ []
def dkwX2_areTwo_0 : List UInt8 := [42, 27, 182, 0, 228, 153, 0, 20, 42, 28, 182, 0, 228, 153, 0, 12, 27, 28, 159, 0, 7, 4]
abbrev dktX2_areTwo_0 : List UInt8 := dkwX2_areTwo_0 ++ dktX2_areTwo_1
theorem dksX2_areTwo_0 : cX2_areTwo.data.toList.drop 0 = dktX2_areTwo_0 := by decide +kernel
theorem dksX2_areTwo_1 : cX2_areTwo.data.toList.drop 22 = dktX2_areTwo_1 := dk_seg dksX2_areTwo_0 22 rfl rfl
theorem dX2_areTwo_0 : decode cX2_areTwo 0 = .ok (.aload_n 0, 1) := dk_42 (dk_at dksX2_areTwo_0 0 rfl rfl)
theorem dX2_areTwo_1 : decode cX2_areTwo 1 = .ok (.iload_n 1, 1) := dk_27 (dk_at dksX2_areTwo_0 1 rfl rfl)
theorem dX2_areTwo_2 : decode cX2_areTwo 2 = .ok (.invokevirtual 228, 3) := dk_182 0 228 (dk_at dksX2_areTwo_0 2 rfl rfl)
theorem dX2_areTwo_5 : decode cX2_areTwo 5 = .ok (.ifCond .eq 20, 3) := dk_153 0 20 (dk_at dksX2_areTwo_0 5 rfl rfl)
theorem dX2_areTwo_8 : decode cX2_areTwo 8 = .ok (.aload_n 0, 1) := dk_42 (dk_at dksX2_areTwo_0 8 rfl rfl)
theorem dX2_areTwo_9 : decode cX2_areTwo 9 = .ok (.iload_n 2, 1) := dk_28 (dk_at dksX2_areTwo_0 9 rfl rfl)
theorem dX2_areTwo_10 : decode cX2_areTwo 10 = .ok (.invokevirtual 228, 3) := dk_182 0 228 (dk_at dksX2_areTwo_0 10 rfl rfl)
theorem dX2_areTwo_13 : decode cX2_areTwo 13 = .ok (.ifCond .eq 12, 3) := dk_153 0 12 (dk_at dksX2_areTwo_0 13 rfl rfl)
theorem dX2_areTwo_16 : decode cX2_areTwo 16 = .ok (.iload_n 1, 1) := dk_27 (dk_at dksX2_areTwo_0 16 rfl rfl)
theorem dX2_areTwo_17 : decode cX2_areTwo 17 = .ok (.iload_n 2, 1) := dk_28 (dk_at dksX2_areTwo_0 17 rfl rfl)
theorem dX2_areTwo_18 : decode cX2_areTwo 18 = .ok (.if_icmp .eq 7, 3) := dk_159 0 7 (dk_at dksX2_areTwo_0 18 rfl rfl)
theorem dX2_areTwo_21 : decode cX2_areTwo 21 = .ok (.iconst 1, 1) := dk_4 (dk_at dksX2_areTwo_0 21 rfl rfl)
theorem dX2_areTwo_22 : decode cX2_areTwo 22 = .ok (.goto 4, 3) := dk_167 0 4 (dk_at dksX2_areTwo_1 0 rfl rfl)
theorem dX2_areTwo_25 : decode cX2_areTwo 25 = .ok (.iconst 0, 1) := dk_3 (dk_at dksX2_areTwo_1 3 rfl rfl)
theorem dX2_areTwo_26 : decode cX2_areTwo 26 = .ok (.ireturn, 1) := dk_172 (dk_at dksX2_areTwo_1 4 rfl rfl)
abbrev cX2_owe : ByteArray := prog_19_method_55_code
def yX2_owe : MethodName := ⟨RX2, "owe", "(III)I"⟩
def dkwX2_owe_3 : List UInt8 := [42, 180, 0, 7, 16, 57, 7, 27, 104, 96, 28, 96, 46, 172]
abbrev dktX2_owe_3 : List UInt8 := dkwX2_owe_3 ++ []
def dkwX2_owe_2 : List UInt8 := [16, 251, 172, 42, 182, 0, 247, 42, 180, 0, 7, 16, 57, 7, 27, 104, 96, 28, 96, 92, 46, 29, 96, 79]
abbrev dktX2_owe_2 : List UInt8 := dkwX2_owe_2 ++ dktX2_owe_3
def dkwX2_owe_1 : List UInt8 := [16, 253, 172, 42, 180, 0, 7, 16, 57, 7, 27, 104, 96, 28, 96, 46, 29, 96, 17, 3, 231, 164, 0, 6]
abbrev dktX2_owe_1 : List UInt8 := dkwX2_owe_1 ++ dktX2_owe_2
def dkwX2_owe_0 : List UInt8 := [42, 27, 28, 182, 1, 0, 154, 0, 6, 16, 254, 172, 29, 133, 10, 20, 1, 5, 184, 0, 65, 154, 0, 6]
abbrev dktX2_owe_0 : List UInt8 := dkwX2_owe_0 ++ dktX2_owe_1
theorem dksX2_owe_0 : cX2_owe.data.toList.drop 0 = dktX2_owe_0 := by decide +kernel
theorem dksX2_owe_1 : cX2_owe.data.toList.drop 24 = dktX2_owe_1 := dk_seg dksX2_owe_0 24 rfl rfl
theorem dksX2_owe_2 : cX2_owe.data.toList.drop 48 = dktX2_owe_2 := dk_seg dksX2_owe_1 24 rfl rfl
theorem dksX2_owe_3 : cX2_owe.data.toList.drop 72 = dktX2_owe_3 := dk_seg dksX2_owe_2 24 rfl rfl
theorem dX2_owe_0 : decode cX2_owe 0 = .ok (.aload_n 0, 1) := dk_42 (dk_at dksX2_owe_0 0 rfl rfl)
theorem dX2_owe_1 : decode cX2_owe 1 = .ok (.iload_n 1, 1) := dk_27 (dk_at dksX2_owe_0 1 rfl rfl)
theorem dX2_owe_2 : decode cX2_owe 2 = .ok (.iload_n 2, 1) := dk_28 (dk_at dksX2_owe_0 2 rfl rfl)
theorem dX2_owe_3 : decode cX2_owe 3 = .ok (.invokevirtual 256, 3) := dk_182 1 0 (dk_at dksX2_owe_0 3 rfl rfl)
theorem dX2_owe_6 : decode cX2_owe 6 = .ok (.ifCond .ne 6, 3) := dk_154 0 6 (dk_at dksX2_owe_0 6 rfl rfl)
theorem dX2_owe_9 : decode cX2_owe 9 = .ok (.bipush (-2), 2) := dk_16 254 (dk_at dksX2_owe_0 9 rfl rfl)
theorem dX2_owe_11 : decode cX2_owe 11 = .ok (.ireturn, 1) := dk_172 (dk_at dksX2_owe_0 11 rfl rfl)
theorem dX2_owe_12 : decode cX2_owe 12 = .ok (.iload_n 3, 1) := dk_29 (dk_at dksX2_owe_0 12 rfl rfl)
theorem dX2_owe_13 : decode cX2_owe 13 = .ok (.i2l, 1) := dk_133 (dk_at dksX2_owe_0 13 rfl rfl)
theorem dX2_owe_14 : decode cX2_owe 14 = .ok (.lconst 1, 1) := dk_10 (dk_at dksX2_owe_0 14 rfl rfl)
theorem dX2_owe_15 : decode cX2_owe 15 = .ok (.ldc2_w 261, 3) := dk_20 1 5 (dk_at dksX2_owe_0 15 rfl rfl)
theorem dX2_owe_18 : decode cX2_owe 18 = .ok (.invokestatic 65, 3) := dk_184 0 65 (dk_at dksX2_owe_0 18 rfl rfl)
theorem dX2_owe_21 : decode cX2_owe 21 = .ok (.ifCond .ne 6, 3) := dk_154 0 6 (dk_at dksX2_owe_0 21 rfl rfl)
theorem dX2_owe_24 : decode cX2_owe 24 = .ok (.bipush (-3), 2) := dk_16 253 (dk_at dksX2_owe_1 0 rfl rfl)
theorem dX2_owe_26 : decode cX2_owe 26 = .ok (.ireturn, 1) := dk_172 (dk_at dksX2_owe_1 2 rfl rfl)
theorem dX2_owe_27 : decode cX2_owe 27 = .ok (.aload_n 0, 1) := dk_42 (dk_at dksX2_owe_1 3 rfl rfl)
theorem dX2_owe_28 : decode cX2_owe 28 = .ok (.getfield 7, 3) := dk_180 0 7 (dk_at dksX2_owe_1 4 rfl rfl)
theorem dX2_owe_31 : decode cX2_owe 31 = .ok (.bipush 57, 2) := dk_16 57 (dk_at dksX2_owe_1 7 rfl rfl)
theorem dX2_owe_33 : decode cX2_owe 33 = .ok (.iconst 4, 1) := dk_7 (dk_at dksX2_owe_1 9 rfl rfl)
theorem dX2_owe_34 : decode cX2_owe 34 = .ok (.iload_n 1, 1) := dk_27 (dk_at dksX2_owe_1 10 rfl rfl)
theorem dX2_owe_35 : decode cX2_owe 35 = .ok (.imul, 1) := dk_104 (dk_at dksX2_owe_1 11 rfl rfl)
theorem dX2_owe_36 : decode cX2_owe 36 = .ok (.iadd, 1) := dk_96 (dk_at dksX2_owe_1 12 rfl rfl)
theorem dX2_owe_37 : decode cX2_owe 37 = .ok (.iload_n 2, 1) := dk_28 (dk_at dksX2_owe_1 13 rfl rfl)
theorem dX2_owe_38 : decode cX2_owe 38 = .ok (.iadd, 1) := dk_96 (dk_at dksX2_owe_1 14 rfl rfl)
theorem dX2_owe_39 : decode cX2_owe 39 = .ok (.iaload, 1) := dk_46 (dk_at dksX2_owe_1 15 rfl rfl)
theorem dX2_owe_40 : decode cX2_owe 40 = .ok (.iload_n 3, 1) := dk_29 (dk_at dksX2_owe_1 16 rfl rfl)
theorem dX2_owe_41 : decode cX2_owe 41 = .ok (.iadd, 1) := dk_96 (dk_at dksX2_owe_1 17 rfl rfl)
theorem dX2_owe_42 : decode cX2_owe 42 = .ok (.sipush 999, 3) := dk_17 3 231 (dk_at dksX2_owe_1 18 rfl rfl)
theorem dX2_owe_45 : decode cX2_owe 45 = .ok (.if_icmp .le 6, 3) := dk_164 0 6 (dk_at dksX2_owe_1 21 rfl rfl)
theorem dX2_owe_48 : decode cX2_owe 48 = .ok (.bipush (-5), 2) := dk_16 251 (dk_at dksX2_owe_2 0 rfl rfl)
theorem dX2_owe_50 : decode cX2_owe 50 = .ok (.ireturn, 1) := dk_172 (dk_at dksX2_owe_2 2 rfl rfl)
theorem dX2_owe_51 : decode cX2_owe 51 = .ok (.aload_n 0, 1) := dk_42 (dk_at dksX2_owe_2 3 rfl rfl)
theorem dX2_owe_52 : decode cX2_owe 52 = .ok (.invokevirtual 247, 3) := dk_182 0 247 (dk_at dksX2_owe_2 4 rfl rfl)
theorem dX2_owe_55 : decode cX2_owe 55 = .ok (.aload_n 0, 1) := dk_42 (dk_at dksX2_owe_2 7 rfl rfl)
theorem dX2_owe_56 : decode cX2_owe 56 = .ok (.getfield 7, 3) := dk_180 0 7 (dk_at dksX2_owe_2 8 rfl rfl)
theorem dX2_owe_59 : decode cX2_owe 59 = .ok (.bipush 57, 2) := dk_16 57 (dk_at dksX2_owe_2 11 rfl rfl)
theorem dX2_owe_61 : decode cX2_owe 61 = .ok (.iconst 4, 1) := dk_7 (dk_at dksX2_owe_2 13 rfl rfl)
theorem dX2_owe_62 : decode cX2_owe 62 = .ok (.iload_n 1, 1) := dk_27 (dk_at dksX2_owe_2 14 rfl rfl)
theorem dX2_owe_63 : decode cX2_owe 63 = .ok (.imul, 1) := dk_104 (dk_at dksX2_owe_2 15 rfl rfl)
theorem dX2_owe_64 : decode cX2_owe 64 = .ok (.iadd, 1) := dk_96 (dk_at dksX2_owe_2 16 rfl rfl)
theorem dX2_owe_65 : decode cX2_owe 65 = .ok (.iload_n 2, 1) := dk_28 (dk_at dksX2_owe_2 17 rfl rfl)
theorem dX2_owe_66 : decode cX2_owe 66 = .ok (.iadd, 1) := dk_96 (dk_at dksX2_owe_2 18 rfl rfl)
theorem dX2_owe_67 : decode cX2_owe 67 = .ok (.dup2, 1) := dk_92 (dk_at dksX2_owe_2 19 rfl rfl)
theorem dX2_owe_68 : decode cX2_owe 68 = .ok (.iaload, 1) := dk_46 (dk_at dksX2_owe_2 20 rfl rfl)
theorem dX2_owe_69 : decode cX2_owe 69 = .ok (.iload_n 3, 1) := dk_29 (dk_at dksX2_owe_2 21 rfl rfl)
theorem dX2_owe_70 : decode cX2_owe 70 = .ok (.iadd, 1) := dk_96 (dk_at dksX2_owe_2 22 rfl rfl)
theorem dX2_owe_71 : decode cX2_owe 71 = .ok (.iastore, 1) := dk_79 (dk_at dksX2_owe_2 23 rfl rfl)
theorem dX2_owe_72 : decode cX2_owe 72 = .ok (.aload_n 0, 1) := dk_42 (dk_at dksX2_owe_3 0 rfl rfl)
theorem dX2_owe_73 : decode cX2_owe 73 = .ok (.getfield 7, 3) := dk_180 0 7 (dk_at dksX2_owe_3 1 rfl rfl)
theorem dX2_owe_76 : decode cX2_owe 76 = .ok (.bipush 57, 2) := dk_16 57 (dk_at dksX2_owe_3 4 rfl rfl)
theorem dX2_owe_78 : decode cX2_owe 78 = .ok (.iconst 4, 1) := dk_7 (dk_at dksX2_owe_3 6 rfl rfl)
theorem dX2_owe_79 : decode cX2_owe 79 = .ok (.iload_n 1, 1) := dk_27 (dk_at dksX2_owe_3 7 rfl rfl)
theorem dX2_owe_80 : decode cX2_owe 80 = .ok (.imul, 1) := dk_104 (dk_at dksX2_owe_3 8 rfl rfl)
theorem dX2_owe_81 : decode cX2_owe 81 = .ok (.iadd, 1) := dk_96 (dk_at dksX2_owe_3 9 rfl rfl)
theorem dX2_owe_82 : decode cX2_owe 82 = .ok (.iload_n 2, 1) := dk_28 (dk_at dksX2_owe_3 10 rfl rfl)
theorem dX2_owe_83 : decode cX2_owe 83 = .ok (.iadd, 1) := dk_96 (dk_at dksX2_owe_3 11 rfl rfl)
theorem dX2_owe_84 : decode cX2_owe 84 = .ok (.iaload, 1) := dk_46 (dk_at dksX2_owe_3 12 rfl rfl)
theorem dX2_owe_85 : decode cX2_owe 85 = .ok (.ireturn, 1) := dk_172 (dk_at dksX2_owe_3 13 rfl rfl)
abbrev cX2_owes : ByteArray := prog_19_method_56_code
def yX2_owes : MethodName := ⟨RX2, "owes", "(II)I"⟩
def dkwX2_owes_1 : List UInt8 := [167, 0, 5, 16, 254, 172]
abbrev dktX2_owes_1 : List UInt8 := dkwX2_owes_1 ++ []
def dkwX2_owes_0 : List UInt8 := [42, 27, 28, 182, 1, 0, 153, 0, 19, 42, 180, 0, 7, 16, 57, 7, 27, 104, 96, 28, 96, 46]
abbrev dktX2_owes_0 : List UInt8 := dkwX2_owes_0 ++ dktX2_owes_1
theorem dksX2_owes_0 : cX2_owes.data.toList.drop 0 = dktX2_owes_0 := by decide +kernel
theorem dksX2_owes_1 : cX2_owes.data.toList.drop 22 = dktX2_owes_1 := dk_seg dksX2_owes_0 22 rfl rfl
theorem dX2_owes_0 : decode cX2_owes 0 = .ok (.aload_n 0, 1) := dk_42 (dk_at dksX2_owes_0 0 rfl rfl)
theorem dX2_owes_1 : decode cX2_owes 1 = .ok (.iload_n 1, 1) := dk_27 (dk_at dksX2_owes_0 1 rfl rfl)
theorem dX2_owes_2 : decode cX2_owes 2 = .ok (.iload_n 2, 1) := dk_28 (dk_at dksX2_owes_0 2 rfl rfl)
theorem dX2_owes_3 : decode cX2_owes 3 = .ok (.invokevirtual 256, 3) := dk_182 1 0 (dk_at dksX2_owes_0 3 rfl rfl)
theorem dX2_owes_6 : decode cX2_owes 6 = .ok (.ifCond .eq 19, 3) := dk_153 0 19 (dk_at dksX2_owes_0 6 rfl rfl)
theorem dX2_owes_9 : decode cX2_owes 9 = .ok (.aload_n 0, 1) := dk_42 (dk_at dksX2_owes_0 9 rfl rfl)
theorem dX2_owes_10 : decode cX2_owes 10 = .ok (.getfield 7, 3) := dk_180 0 7 (dk_at dksX2_owes_0 10 rfl rfl)
theorem dX2_owes_13 : decode cX2_owes 13 = .ok (.bipush 57, 2) := dk_16 57 (dk_at dksX2_owes_0 13 rfl rfl)
theorem dX2_owes_15 : decode cX2_owes 15 = .ok (.iconst 4, 1) := dk_7 (dk_at dksX2_owes_0 15 rfl rfl)
theorem dX2_owes_16 : decode cX2_owes 16 = .ok (.iload_n 1, 1) := dk_27 (dk_at dksX2_owes_0 16 rfl rfl)
theorem dX2_owes_17 : decode cX2_owes 17 = .ok (.imul, 1) := dk_104 (dk_at dksX2_owes_0 17 rfl rfl)
theorem dX2_owes_18 : decode cX2_owes 18 = .ok (.iadd, 1) := dk_96 (dk_at dksX2_owes_0 18 rfl rfl)
theorem dX2_owes_19 : decode cX2_owes 19 = .ok (.iload_n 2, 1) := dk_28 (dk_at dksX2_owes_0 19 rfl rfl)
theorem dX2_owes_20 : decode cX2_owes 20 = .ok (.iadd, 1) := dk_96 (dk_at dksX2_owes_0 20 rfl rfl)
theorem dX2_owes_21 : decode cX2_owes 21 = .ok (.iaload, 1) := dk_46 (dk_at dksX2_owes_0 21 rfl rfl)
theorem dX2_owes_22 : decode cX2_owes 22 = .ok (.goto 5, 3) := dk_167 0 5 (dk_at dksX2_owes_1 0 rfl rfl)
theorem dX2_owes_25 : decode cX2_owes 25 = .ok (.bipush (-2), 2) := dk_16 254 (dk_at dksX2_owes_1 3 rfl rfl)
theorem dX2_owes_27 : decode cX2_owes 27 = .ok (.ireturn, 1) := dk_172 (dk_at dksX2_owes_1 5 rfl rfl)
abbrev cX2_undo : ByteArray := prog_19_method_57_code
def yX2_undo : MethodName := ⟨RX2, "undo", "()I"⟩
def dkwX2_undo_1 : List UInt8 := [16, 73, 42, 180, 0, 191, 104, 96, 3, 182, 0, 244, 42, 180, 0, 191, 172]
abbrev dktX2_undo_1 : List UInt8 := dkwX2_undo_1 ++ []
def dkwX2_undo_0 : List UInt8 := [42, 180, 0, 191, 154, 0, 6, 16, 252, 172, 42, 89, 180, 0, 191, 4, 100, 181, 0, 191, 42, 17, 0, 219]
abbrev dktX2_undo_0 : List UInt8 := dkwX2_undo_0 ++ dktX2_undo_1
theorem dksX2_undo_0 : cX2_undo.data.toList.drop 0 = dktX2_undo_0 := by decide +kernel
theorem dksX2_undo_1 : cX2_undo.data.toList.drop 24 = dktX2_undo_1 := dk_seg dksX2_undo_0 24 rfl rfl
theorem dX2_undo_0 : decode cX2_undo 0 = .ok (.aload_n 0, 1) := dk_42 (dk_at dksX2_undo_0 0 rfl rfl)
theorem dX2_undo_1 : decode cX2_undo 1 = .ok (.getfield 191, 3) := dk_180 0 191 (dk_at dksX2_undo_0 1 rfl rfl)
theorem dX2_undo_4 : decode cX2_undo 4 = .ok (.ifCond .ne 6, 3) := dk_154 0 6 (dk_at dksX2_undo_0 4 rfl rfl)
theorem dX2_undo_7 : decode cX2_undo 7 = .ok (.bipush (-4), 2) := dk_16 252 (dk_at dksX2_undo_0 7 rfl rfl)
theorem dX2_undo_9 : decode cX2_undo 9 = .ok (.ireturn, 1) := dk_172 (dk_at dksX2_undo_0 9 rfl rfl)
theorem dX2_undo_10 : decode cX2_undo 10 = .ok (.aload_n 0, 1) := dk_42 (dk_at dksX2_undo_0 10 rfl rfl)
theorem dX2_undo_11 : decode cX2_undo 11 = .ok (.dup, 1) := dk_89 (dk_at dksX2_undo_0 11 rfl rfl)
theorem dX2_undo_12 : decode cX2_undo 12 = .ok (.getfield 191, 3) := dk_180 0 191 (dk_at dksX2_undo_0 12 rfl rfl)
theorem dX2_undo_15 : decode cX2_undo 15 = .ok (.iconst 1, 1) := dk_4 (dk_at dksX2_undo_0 15 rfl rfl)
theorem dX2_undo_16 : decode cX2_undo 16 = .ok (.isub, 1) := dk_100 (dk_at dksX2_undo_0 16 rfl rfl)
theorem dX2_undo_17 : decode cX2_undo 17 = .ok (.putfield 191, 3) := dk_181 0 191 (dk_at dksX2_undo_0 17 rfl rfl)
theorem dX2_undo_20 : decode cX2_undo 20 = .ok (.aload_n 0, 1) := dk_42 (dk_at dksX2_undo_0 20 rfl rfl)
theorem dX2_undo_21 : decode cX2_undo 21 = .ok (.sipush 219, 3) := dk_17 0 219 (dk_at dksX2_undo_0 21 rfl rfl)
theorem dX2_undo_24 : decode cX2_undo 24 = .ok (.bipush 73, 2) := dk_16 73 (dk_at dksX2_undo_1 0 rfl rfl)
theorem dX2_undo_26 : decode cX2_undo 26 = .ok (.aload_n 0, 1) := dk_42 (dk_at dksX2_undo_1 2 rfl rfl)
theorem dX2_undo_27 : decode cX2_undo 27 = .ok (.getfield 191, 3) := dk_180 0 191 (dk_at dksX2_undo_1 3 rfl rfl)
theorem dX2_undo_30 : decode cX2_undo 30 = .ok (.imul, 1) := dk_104 (dk_at dksX2_undo_1 6 rfl rfl)
theorem dX2_undo_31 : decode cX2_undo 31 = .ok (.iadd, 1) := dk_96 (dk_at dksX2_undo_1 7 rfl rfl)
theorem dX2_undo_32 : decode cX2_undo 32 = .ok (.iconst 0, 1) := dk_3 (dk_at dksX2_undo_1 8 rfl rfl)
theorem dX2_undo_33 : decode cX2_undo 33 = .ok (.invokevirtual 244, 3) := dk_182 0 244 (dk_at dksX2_undo_1 9 rfl rfl)
theorem dX2_undo_36 : decode cX2_undo 36 = .ok (.aload_n 0, 1) := dk_42 (dk_at dksX2_undo_1 12 rfl rfl)
theorem dX2_undo_37 : decode cX2_undo 37 = .ok (.getfield 191, 3) := dk_180 0 191 (dk_at dksX2_undo_1 13 rfl rfl)
theorem dX2_undo_40 : decode cX2_undo 40 = .ok (.ireturn, 1) := dk_172 (dk_at dksX2_undo_1 16 rfl rfl)
abbrev cX2_keep : ByteArray := prog_19_method_58_code
def yX2_keep : MethodName := ⟨RX2, "keep", "(I)I"⟩
def dkwX2_keep_1 : List UInt8 := [42, 180, 0, 13, 27, 4, 84, 42, 180, 0, 7, 3, 46, 172]
abbrev dktX2_keep_1 : List UInt8 := dkwX2_keep_1 ++ []
def dkwX2_keep_0 : List UInt8 := [27, 133, 9, 10, 184, 0, 65, 154, 0, 6, 16, 254, 172, 42, 3, 16, 73, 4, 27, 96, 104, 182, 0, 244]
abbrev dktX2_keep_0 : List UInt8 := dkwX2_keep_0 ++ dktX2_keep_1
theorem dksX2_keep_0 : cX2_keep.data.toList.drop 0 = dktX2_keep_0 := by decide +kernel
theorem dksX2_keep_1 : cX2_keep.data.toList.drop 24 = dktX2_keep_1 := dk_seg dksX2_keep_0 24 rfl rfl
theorem dX2_keep_0 : decode cX2_keep 0 = .ok (.iload_n 1, 1) := dk_27 (dk_at dksX2_keep_0 0 rfl rfl)
theorem dX2_keep_1 : decode cX2_keep 1 = .ok (.i2l, 1) := dk_133 (dk_at dksX2_keep_0 1 rfl rfl)
theorem dX2_keep_2 : decode cX2_keep 2 = .ok (.lconst 0, 1) := dk_9 (dk_at dksX2_keep_0 2 rfl rfl)
theorem dX2_keep_3 : decode cX2_keep 3 = .ok (.lconst 1, 1) := dk_10 (dk_at dksX2_keep_0 3 rfl rfl)
theorem dX2_keep_4 : decode cX2_keep 4 = .ok (.invokestatic 65, 3) := dk_184 0 65 (dk_at dksX2_keep_0 4 rfl rfl)
theorem dX2_keep_7 : decode cX2_keep 7 = .ok (.ifCond .ne 6, 3) := dk_154 0 6 (dk_at dksX2_keep_0 7 rfl rfl)
theorem dX2_keep_10 : decode cX2_keep 10 = .ok (.bipush (-2), 2) := dk_16 254 (dk_at dksX2_keep_0 10 rfl rfl)
theorem dX2_keep_12 : decode cX2_keep 12 = .ok (.ireturn, 1) := dk_172 (dk_at dksX2_keep_0 12 rfl rfl)
theorem dX2_keep_13 : decode cX2_keep 13 = .ok (.aload_n 0, 1) := dk_42 (dk_at dksX2_keep_0 13 rfl rfl)
theorem dX2_keep_14 : decode cX2_keep 14 = .ok (.iconst 0, 1) := dk_3 (dk_at dksX2_keep_0 14 rfl rfl)
theorem dX2_keep_15 : decode cX2_keep 15 = .ok (.bipush 73, 2) := dk_16 73 (dk_at dksX2_keep_0 15 rfl rfl)
theorem dX2_keep_17 : decode cX2_keep 17 = .ok (.iconst 1, 1) := dk_4 (dk_at dksX2_keep_0 17 rfl rfl)
theorem dX2_keep_18 : decode cX2_keep 18 = .ok (.iload_n 1, 1) := dk_27 (dk_at dksX2_keep_0 18 rfl rfl)
theorem dX2_keep_19 : decode cX2_keep 19 = .ok (.iadd, 1) := dk_96 (dk_at dksX2_keep_0 19 rfl rfl)
theorem dX2_keep_20 : decode cX2_keep 20 = .ok (.imul, 1) := dk_104 (dk_at dksX2_keep_0 20 rfl rfl)
theorem dX2_keep_21 : decode cX2_keep 21 = .ok (.invokevirtual 244, 3) := dk_182 0 244 (dk_at dksX2_keep_0 21 rfl rfl)
theorem dX2_keep_24 : decode cX2_keep 24 = .ok (.aload_n 0, 1) := dk_42 (dk_at dksX2_keep_1 0 rfl rfl)
theorem dX2_keep_25 : decode cX2_keep 25 = .ok (.getfield 13, 3) := dk_180 0 13 (dk_at dksX2_keep_1 1 rfl rfl)
theorem dX2_keep_28 : decode cX2_keep 28 = .ok (.iload_n 1, 1) := dk_27 (dk_at dksX2_keep_1 4 rfl rfl)
theorem dX2_keep_29 : decode cX2_keep 29 = .ok (.iconst 1, 1) := dk_4 (dk_at dksX2_keep_1 5 rfl rfl)
theorem dX2_keep_30 : decode cX2_keep 30 = .ok (.bastore, 1) := dk_84 (dk_at dksX2_keep_1 6 rfl rfl)
theorem dX2_keep_31 : decode cX2_keep 31 = .ok (.aload_n 0, 1) := dk_42 (dk_at dksX2_keep_1 7 rfl rfl)
theorem dX2_keep_32 : decode cX2_keep 32 = .ok (.getfield 7, 3) := dk_180 0 7 (dk_at dksX2_keep_1 8 rfl rfl)
theorem dX2_keep_35 : decode cX2_keep 35 = .ok (.iconst 0, 1) := dk_3 (dk_at dksX2_keep_1 11 rfl rfl)
theorem dX2_keep_36 : decode cX2_keep 36 = .ok (.iaload, 1) := dk_46 (dk_at dksX2_keep_1 12 rfl rfl)
theorem dX2_keep_37 : decode cX2_keep 37 = .ok (.ireturn, 1) := dk_172 (dk_at dksX2_keep_1 13 rfl rfl)
abbrev cX2_back : ByteArray := prog_19_method_59_code
def yX2_back : MethodName := ⟨RX2, "back", "(I)I"⟩
def dkwX2_back_1 : List UInt8 := [172, 42, 16, 73, 4, 27, 96, 104, 3, 182, 0, 244, 42, 3, 181, 0, 191, 42, 180, 0, 7, 3, 46, 172]
abbrev dktX2_back_1 : List UInt8 := dkwX2_back_1 ++ []
def dkwX2_back_0 : List UInt8 := [27, 133, 9, 10, 184, 0, 65, 154, 0, 6, 16, 254, 172, 42, 180, 0, 13, 27, 51, 154, 0, 6, 16, 252]
abbrev dktX2_back_0 : List UInt8 := dkwX2_back_0 ++ dktX2_back_1
theorem dksX2_back_0 : cX2_back.data.toList.drop 0 = dktX2_back_0 := by decide +kernel
theorem dksX2_back_1 : cX2_back.data.toList.drop 24 = dktX2_back_1 := dk_seg dksX2_back_0 24 rfl rfl
theorem dX2_back_0 : decode cX2_back 0 = .ok (.iload_n 1, 1) := dk_27 (dk_at dksX2_back_0 0 rfl rfl)
theorem dX2_back_1 : decode cX2_back 1 = .ok (.i2l, 1) := dk_133 (dk_at dksX2_back_0 1 rfl rfl)
theorem dX2_back_2 : decode cX2_back 2 = .ok (.lconst 0, 1) := dk_9 (dk_at dksX2_back_0 2 rfl rfl)
theorem dX2_back_3 : decode cX2_back 3 = .ok (.lconst 1, 1) := dk_10 (dk_at dksX2_back_0 3 rfl rfl)
theorem dX2_back_4 : decode cX2_back 4 = .ok (.invokestatic 65, 3) := dk_184 0 65 (dk_at dksX2_back_0 4 rfl rfl)
theorem dX2_back_7 : decode cX2_back 7 = .ok (.ifCond .ne 6, 3) := dk_154 0 6 (dk_at dksX2_back_0 7 rfl rfl)
theorem dX2_back_10 : decode cX2_back 10 = .ok (.bipush (-2), 2) := dk_16 254 (dk_at dksX2_back_0 10 rfl rfl)
theorem dX2_back_12 : decode cX2_back 12 = .ok (.ireturn, 1) := dk_172 (dk_at dksX2_back_0 12 rfl rfl)
theorem dX2_back_13 : decode cX2_back 13 = .ok (.aload_n 0, 1) := dk_42 (dk_at dksX2_back_0 13 rfl rfl)
theorem dX2_back_14 : decode cX2_back 14 = .ok (.getfield 13, 3) := dk_180 0 13 (dk_at dksX2_back_0 14 rfl rfl)
theorem dX2_back_17 : decode cX2_back 17 = .ok (.iload_n 1, 1) := dk_27 (dk_at dksX2_back_0 17 rfl rfl)
theorem dX2_back_18 : decode cX2_back 18 = .ok (.baload, 1) := dk_51 (dk_at dksX2_back_0 18 rfl rfl)
theorem dX2_back_19 : decode cX2_back 19 = .ok (.ifCond .ne 6, 3) := dk_154 0 6 (dk_at dksX2_back_0 19 rfl rfl)
theorem dX2_back_22 : decode cX2_back 22 = .ok (.bipush (-4), 2) := dk_16 252 (dk_at dksX2_back_0 22 rfl rfl)
theorem dX2_back_24 : decode cX2_back 24 = .ok (.ireturn, 1) := dk_172 (dk_at dksX2_back_1 0 rfl rfl)
theorem dX2_back_25 : decode cX2_back 25 = .ok (.aload_n 0, 1) := dk_42 (dk_at dksX2_back_1 1 rfl rfl)
theorem dX2_back_26 : decode cX2_back 26 = .ok (.bipush 73, 2) := dk_16 73 (dk_at dksX2_back_1 2 rfl rfl)
theorem dX2_back_28 : decode cX2_back 28 = .ok (.iconst 1, 1) := dk_4 (dk_at dksX2_back_1 4 rfl rfl)
theorem dX2_back_29 : decode cX2_back 29 = .ok (.iload_n 1, 1) := dk_27 (dk_at dksX2_back_1 5 rfl rfl)
theorem dX2_back_30 : decode cX2_back 30 = .ok (.iadd, 1) := dk_96 (dk_at dksX2_back_1 6 rfl rfl)
theorem dX2_back_31 : decode cX2_back 31 = .ok (.imul, 1) := dk_104 (dk_at dksX2_back_1 7 rfl rfl)
theorem dX2_back_32 : decode cX2_back 32 = .ok (.iconst 0, 1) := dk_3 (dk_at dksX2_back_1 8 rfl rfl)
theorem dX2_back_33 : decode cX2_back 33 = .ok (.invokevirtual 244, 3) := dk_182 0 244 (dk_at dksX2_back_1 9 rfl rfl)
theorem dX2_back_36 : decode cX2_back 36 = .ok (.aload_n 0, 1) := dk_42 (dk_at dksX2_back_1 12 rfl rfl)
theorem dX2_back_37 : decode cX2_back 37 = .ok (.iconst 0, 1) := dk_3 (dk_at dksX2_back_1 13 rfl rfl)
theorem dX2_back_38 : decode cX2_back 38 = .ok (.putfield 191, 3) := dk_181 0 191 (dk_at dksX2_back_1 14 rfl rfl)
theorem dX2_back_41 : decode cX2_back 41 = .ok (.aload_n 0, 1) := dk_42 (dk_at dksX2_back_1 17 rfl rfl)
theorem dX2_back_42 : decode cX2_back 42 = .ok (.getfield 7, 3) := dk_180 0 7 (dk_at dksX2_back_1 18 rfl rfl)
theorem dX2_back_45 : decode cX2_back 45 = .ok (.iconst 0, 1) := dk_3 (dk_at dksX2_back_1 21 rfl rfl)
theorem dX2_back_46 : decode cX2_back 46 = .ok (.iaload, 1) := dk_46 (dk_at dksX2_back_1 22 rfl rfl)
theorem dX2_back_47 : decode cX2_back 47 = .ok (.ireturn, 1) := dk_172 (dk_at dksX2_back_1 23 rfl rfl)
abbrev cX2_cheapest : ByteArray := prog_19_method_65_code
def yX2_cheapest : MethodName := ⟨RX2, "cheapest", "(I)I"⟩
def dkwX2_cheapest_2 : List UInt8 := [162, 0, 12, 42, 180, 0, 57, 27, 46, 167, 0, 4, 2, 172]
abbrev dktX2_cheapest_2 : List UInt8 := dkwX2_cheapest_2 ++ []
def dkwX2_cheapest_1 : List UInt8 := [180, 1, 10, 2, 159, 0, 8, 27, 2, 160, 0, 10, 42, 180, 1, 10, 167, 0, 21, 27, 42, 180, 0, 185]
abbrev dktX2_cheapest_1 : List UInt8 := dkwX2_cheapest_1 ++ dktX2_cheapest_2
def dkwX2_cheapest_0 : List UInt8 := [27, 2, 162, 0, 6, 16, 253, 172, 42, 182, 1, 25, 154, 0, 6, 16, 252, 172, 42, 182, 1, 28, 42]
abbrev dktX2_cheapest_0 : List UInt8 := dkwX2_cheapest_0 ++ dktX2_cheapest_1
theorem dksX2_cheapest_0 : cX2_cheapest.data.toList.drop 0 = dktX2_cheapest_0 := by decide +kernel
theorem dksX2_cheapest_1 : cX2_cheapest.data.toList.drop 23 = dktX2_cheapest_1 := dk_seg dksX2_cheapest_0 23 rfl rfl
theorem dksX2_cheapest_2 : cX2_cheapest.data.toList.drop 47 = dktX2_cheapest_2 := dk_seg dksX2_cheapest_1 24 rfl rfl
theorem dX2_cheapest_0 : decode cX2_cheapest 0 = .ok (.iload_n 1, 1) := dk_27 (dk_at dksX2_cheapest_0 0 rfl rfl)
theorem dX2_cheapest_1 : decode cX2_cheapest 1 = .ok (.iconst (-1), 1) := dk_2 (dk_at dksX2_cheapest_0 1 rfl rfl)
theorem dX2_cheapest_2 : decode cX2_cheapest 2 = .ok (.if_icmp .ge 6, 3) := dk_162 0 6 (dk_at dksX2_cheapest_0 2 rfl rfl)
theorem dX2_cheapest_5 : decode cX2_cheapest 5 = .ok (.bipush (-3), 2) := dk_16 253 (dk_at dksX2_cheapest_0 5 rfl rfl)
theorem dX2_cheapest_7 : decode cX2_cheapest 7 = .ok (.ireturn, 1) := dk_172 (dk_at dksX2_cheapest_0 7 rfl rfl)
theorem dX2_cheapest_8 : decode cX2_cheapest 8 = .ok (.aload_n 0, 1) := dk_42 (dk_at dksX2_cheapest_0 8 rfl rfl)
theorem dX2_cheapest_9 : decode cX2_cheapest 9 = .ok (.invokevirtual 281, 3) := dk_182 1 25 (dk_at dksX2_cheapest_0 9 rfl rfl)
theorem dX2_cheapest_12 : decode cX2_cheapest 12 = .ok (.ifCond .ne 6, 3) := dk_154 0 6 (dk_at dksX2_cheapest_0 12 rfl rfl)
theorem dX2_cheapest_15 : decode cX2_cheapest 15 = .ok (.bipush (-4), 2) := dk_16 252 (dk_at dksX2_cheapest_0 15 rfl rfl)
theorem dX2_cheapest_17 : decode cX2_cheapest 17 = .ok (.ireturn, 1) := dk_172 (dk_at dksX2_cheapest_0 17 rfl rfl)
theorem dX2_cheapest_18 : decode cX2_cheapest 18 = .ok (.aload_n 0, 1) := dk_42 (dk_at dksX2_cheapest_0 18 rfl rfl)
theorem dX2_cheapest_19 : decode cX2_cheapest 19 = .ok (.invokevirtual 284, 3) := dk_182 1 28 (dk_at dksX2_cheapest_0 19 rfl rfl)
theorem dX2_cheapest_22 : decode cX2_cheapest 22 = .ok (.aload_n 0, 1) := dk_42 (dk_at dksX2_cheapest_0 22 rfl rfl)
theorem dX2_cheapest_23 : decode cX2_cheapest 23 = .ok (.getfield 266, 3) := dk_180 1 10 (dk_at dksX2_cheapest_1 0 rfl rfl)
theorem dX2_cheapest_26 : decode cX2_cheapest 26 = .ok (.iconst (-1), 1) := dk_2 (dk_at dksX2_cheapest_1 3 rfl rfl)
theorem dX2_cheapest_27 : decode cX2_cheapest 27 = .ok (.if_icmp .eq 8, 3) := dk_159 0 8 (dk_at dksX2_cheapest_1 4 rfl rfl)
theorem dX2_cheapest_30 : decode cX2_cheapest 30 = .ok (.iload_n 1, 1) := dk_27 (dk_at dksX2_cheapest_1 7 rfl rfl)
theorem dX2_cheapest_31 : decode cX2_cheapest 31 = .ok (.iconst (-1), 1) := dk_2 (dk_at dksX2_cheapest_1 8 rfl rfl)
theorem dX2_cheapest_32 : decode cX2_cheapest 32 = .ok (.if_icmp .ne 10, 3) := dk_160 0 10 (dk_at dksX2_cheapest_1 9 rfl rfl)
theorem dX2_cheapest_35 : decode cX2_cheapest 35 = .ok (.aload_n 0, 1) := dk_42 (dk_at dksX2_cheapest_1 12 rfl rfl)
theorem dX2_cheapest_36 : decode cX2_cheapest 36 = .ok (.getfield 266, 3) := dk_180 1 10 (dk_at dksX2_cheapest_1 13 rfl rfl)
theorem dX2_cheapest_39 : decode cX2_cheapest 39 = .ok (.goto 21, 3) := dk_167 0 21 (dk_at dksX2_cheapest_1 16 rfl rfl)
theorem dX2_cheapest_42 : decode cX2_cheapest 42 = .ok (.iload_n 1, 1) := dk_27 (dk_at dksX2_cheapest_1 19 rfl rfl)
theorem dX2_cheapest_43 : decode cX2_cheapest 43 = .ok (.aload_n 0, 1) := dk_42 (dk_at dksX2_cheapest_1 20 rfl rfl)
theorem dX2_cheapest_44 : decode cX2_cheapest 44 = .ok (.getfield 185, 3) := dk_180 0 185 (dk_at dksX2_cheapest_1 21 rfl rfl)
theorem dX2_cheapest_47 : decode cX2_cheapest 47 = .ok (.if_icmp .ge 12, 3) := dk_162 0 12 (dk_at dksX2_cheapest_2 0 rfl rfl)
theorem dX2_cheapest_50 : decode cX2_cheapest 50 = .ok (.aload_n 0, 1) := dk_42 (dk_at dksX2_cheapest_2 3 rfl rfl)
theorem dX2_cheapest_51 : decode cX2_cheapest 51 = .ok (.getfield 57, 3) := dk_180 0 57 (dk_at dksX2_cheapest_2 4 rfl rfl)
theorem dX2_cheapest_54 : decode cX2_cheapest 54 = .ok (.iload_n 1, 1) := dk_27 (dk_at dksX2_cheapest_2 7 rfl rfl)
theorem dX2_cheapest_55 : decode cX2_cheapest 55 = .ok (.iaload, 1) := dk_46 (dk_at dksX2_cheapest_2 8 rfl rfl)
theorem dX2_cheapest_56 : decode cX2_cheapest 56 = .ok (.goto 4, 3) := dk_167 0 4 (dk_at dksX2_cheapest_2 9 rfl rfl)
theorem dX2_cheapest_59 : decode cX2_cheapest 59 = .ok (.iconst (-1), 1) := dk_2 (dk_at dksX2_cheapest_2 12 rfl rfl)
theorem dX2_cheapest_60 : decode cX2_cheapest 60 = .ok (.ireturn, 1) := dk_172 (dk_at dksX2_cheapest_2 13 rfl rfl)
abbrev cX2_canBeOrdered : ByteArray := prog_19_method_64_code
def yX2_canBeOrdered : MethodName := ⟨RX2, "canBeOrdered", "()Z"⟩
def dkwX2_canBeOrdered_1 : List UInt8 := [3, 172]
abbrev dktX2_canBeOrdered_1 : List UInt8 := dkwX2_canBeOrdered_1 ++ []
def dkwX2_canBeOrdered_0 : List UInt8 := [42, 182, 0, 236, 42, 180, 0, 185, 16, 6, 163, 0, 14, 42, 182, 0, 222, 154, 0, 7, 4, 167, 0, 4]
abbrev dktX2_canBeOrdered_0 : List UInt8 := dkwX2_canBeOrdered_0 ++ dktX2_canBeOrdered_1
theorem dksX2_canBeOrdered_0 : cX2_canBeOrdered.data.toList.drop 0 = dktX2_canBeOrdered_0 := by decide +kernel
theorem dksX2_canBeOrdered_1 : cX2_canBeOrdered.data.toList.drop 24 = dktX2_canBeOrdered_1 := dk_seg dksX2_canBeOrdered_0 24 rfl rfl
theorem dX2_canBeOrdered_0 : decode cX2_canBeOrdered 0 = .ok (.aload_n 0, 1) := dk_42 (dk_at dksX2_canBeOrdered_0 0 rfl rfl)
theorem dX2_canBeOrdered_1 : decode cX2_canBeOrdered 1 = .ok (.invokevirtual 236, 3) := dk_182 0 236 (dk_at dksX2_canBeOrdered_0 1 rfl rfl)
theorem dX2_canBeOrdered_4 : decode cX2_canBeOrdered 4 = .ok (.aload_n 0, 1) := dk_42 (dk_at dksX2_canBeOrdered_0 4 rfl rfl)
theorem dX2_canBeOrdered_5 : decode cX2_canBeOrdered 5 = .ok (.getfield 185, 3) := dk_180 0 185 (dk_at dksX2_canBeOrdered_0 5 rfl rfl)
theorem dX2_canBeOrdered_8 : decode cX2_canBeOrdered 8 = .ok (.bipush 6, 2) := dk_16 6 (dk_at dksX2_canBeOrdered_0 8 rfl rfl)
theorem dX2_canBeOrdered_10 : decode cX2_canBeOrdered 10 = .ok (.if_icmp .gt 14, 3) := dk_163 0 14 (dk_at dksX2_canBeOrdered_0 10 rfl rfl)
theorem dX2_canBeOrdered_13 : decode cX2_canBeOrdered 13 = .ok (.aload_n 0, 1) := dk_42 (dk_at dksX2_canBeOrdered_0 13 rfl rfl)
theorem dX2_canBeOrdered_14 : decode cX2_canBeOrdered 14 = .ok (.invokevirtual 222, 3) := dk_182 0 222 (dk_at dksX2_canBeOrdered_0 14 rfl rfl)
theorem dX2_canBeOrdered_17 : decode cX2_canBeOrdered 17 = .ok (.ifCond .ne 7, 3) := dk_154 0 7 (dk_at dksX2_canBeOrdered_0 17 rfl rfl)
theorem dX2_canBeOrdered_20 : decode cX2_canBeOrdered 20 = .ok (.iconst 1, 1) := dk_4 (dk_at dksX2_canBeOrdered_0 20 rfl rfl)
theorem dX2_canBeOrdered_21 : decode cX2_canBeOrdered 21 = .ok (.goto 4, 3) := dk_167 0 4 (dk_at dksX2_canBeOrdered_0 21 rfl rfl)
theorem dX2_canBeOrdered_24 : decode cX2_canBeOrdered 24 = .ok (.iconst 0, 1) := dk_3 (dk_at dksX2_canBeOrdered_1 0 rfl rfl)
theorem dX2_canBeOrdered_25 : decode cX2_canBeOrdered 25 = .ok (.ireturn, 1) := dk_172 (dk_at dksX2_canBeOrdered_1 1 rfl rfl)
abbrev cX2_layOrders : ByteArray := prog_19_method_63_code
def yX2_layOrders : MethodName := ⟨RX2, "layOrders", "()V"⟩
def dkwX2_layOrders_6 : List UInt8 := [42, 180, 1, 13, 181, 1, 13, 132, 1, 1, 167, 255, 116, 177]
abbrev dktX2_layOrders_6 : List UInt8 := dkwX2_layOrders_6 ++ []
def dkwX2_layOrders_5 : List UInt8 := [28, 167, 0, 7, 42, 180, 1, 10, 181, 1, 10, 42, 28, 42, 180, 1, 13, 164, 0, 7, 28, 167, 0, 7]
abbrev dktX2_layOrders_5 : List UInt8 := dkwX2_layOrders_5 ++ dktX2_layOrders_6
def dkwX2_layOrders_4 : List UInt8 := [180, 0, 57, 21, 4, 42, 180, 0, 51, 21, 4, 46, 79, 132, 4, 1, 167, 255, 226, 42, 29, 153, 0, 7]
abbrev dktX2_layOrders_4 : List UInt8 := dkwX2_layOrders_4 ++ dktX2_layOrders_5
def dkwX2_layOrders_3 : List UInt8 := [167, 0, 4, 3, 62, 3, 54, 4, 21, 4, 42, 180, 0, 194, 162, 0, 27, 29, 153, 0, 23, 42]
abbrev dktX2_layOrders_3 : List UInt8 := dkwX2_layOrders_3 ++ dktX2_layOrders_4
def dkwX2_layOrders_2 : List UInt8 := [28, 42, 180, 1, 10, 161, 0, 18, 28, 42, 180, 1, 10, 160, 0, 14, 42, 182, 1, 22, 153, 0, 7, 4]
abbrev dktX2_layOrders_2 : List UInt8 := dkwX2_layOrders_2 ++ dktX2_layOrders_3
def dkwX2_layOrders_1 : List UInt8 := [27, 182, 1, 16, 42, 182, 0, 241, 153, 0, 117, 42, 182, 1, 19, 61, 42, 180, 1, 10, 2, 159, 0, 26]
abbrev dktX2_layOrders_1 : List UInt8 := dkwX2_layOrders_1 ++ dktX2_layOrders_2
def dkwX2_layOrders_0 : List UInt8 := [42, 2, 181, 1, 10, 42, 2, 181, 1, 13, 3, 60, 27, 42, 180, 0, 185, 184, 1, 7, 162, 0, 135, 42]
abbrev dktX2_layOrders_0 : List UInt8 := dkwX2_layOrders_0 ++ dktX2_layOrders_1
theorem dksX2_layOrders_0 : cX2_layOrders.data.toList.drop 0 = dktX2_layOrders_0 := by decide +kernel
theorem dksX2_layOrders_1 : cX2_layOrders.data.toList.drop 24 = dktX2_layOrders_1 := dk_seg dksX2_layOrders_0 24 rfl rfl
theorem dksX2_layOrders_2 : cX2_layOrders.data.toList.drop 48 = dktX2_layOrders_2 := dk_seg dksX2_layOrders_1 24 rfl rfl
theorem dksX2_layOrders_3 : cX2_layOrders.data.toList.drop 72 = dktX2_layOrders_3 := dk_seg dksX2_layOrders_2 24 rfl rfl
theorem dksX2_layOrders_4 : cX2_layOrders.data.toList.drop 94 = dktX2_layOrders_4 := dk_seg dksX2_layOrders_3 22 rfl rfl
theorem dksX2_layOrders_5 : cX2_layOrders.data.toList.drop 118 = dktX2_layOrders_5 := dk_seg dksX2_layOrders_4 24 rfl rfl
theorem dksX2_layOrders_6 : cX2_layOrders.data.toList.drop 142 = dktX2_layOrders_6 := dk_seg dksX2_layOrders_5 24 rfl rfl
theorem dX2_layOrders_0 : decode cX2_layOrders 0 = .ok (.aload_n 0, 1) := dk_42 (dk_at dksX2_layOrders_0 0 rfl rfl)
theorem dX2_layOrders_1 : decode cX2_layOrders 1 = .ok (.iconst (-1), 1) := dk_2 (dk_at dksX2_layOrders_0 1 rfl rfl)
theorem dX2_layOrders_2 : decode cX2_layOrders 2 = .ok (.putfield 266, 3) := dk_181 1 10 (dk_at dksX2_layOrders_0 2 rfl rfl)
theorem dX2_layOrders_5 : decode cX2_layOrders 5 = .ok (.aload_n 0, 1) := dk_42 (dk_at dksX2_layOrders_0 5 rfl rfl)
theorem dX2_layOrders_6 : decode cX2_layOrders 6 = .ok (.iconst (-1), 1) := dk_2 (dk_at dksX2_layOrders_0 6 rfl rfl)
theorem dX2_layOrders_7 : decode cX2_layOrders 7 = .ok (.putfield 269, 3) := dk_181 1 13 (dk_at dksX2_layOrders_0 7 rfl rfl)
theorem dX2_layOrders_10 : decode cX2_layOrders 10 = .ok (.iconst 0, 1) := dk_3 (dk_at dksX2_layOrders_0 10 rfl rfl)
theorem dX2_layOrders_11 : decode cX2_layOrders 11 = .ok (.istore_n 1, 1) := dk_60 (dk_at dksX2_layOrders_0 11 rfl rfl)
theorem dX2_layOrders_12 : decode cX2_layOrders 12 = .ok (.iload_n 1, 1) := dk_27 (dk_at dksX2_layOrders_0 12 rfl rfl)
theorem dX2_layOrders_13 : decode cX2_layOrders 13 = .ok (.aload_n 0, 1) := dk_42 (dk_at dksX2_layOrders_0 13 rfl rfl)
theorem dX2_layOrders_14 : decode cX2_layOrders 14 = .ok (.getfield 185, 3) := dk_180 0 185 (dk_at dksX2_layOrders_0 14 rfl rfl)
theorem dX2_layOrders_17 : decode cX2_layOrders 17 = .ok (.invokestatic 263, 3) := dk_184 1 7 (dk_at dksX2_layOrders_0 17 rfl rfl)
theorem dX2_layOrders_20 : decode cX2_layOrders 20 = .ok (.if_icmp .ge 135, 3) := dk_162 0 135 (dk_at dksX2_layOrders_0 20 rfl rfl)
theorem dX2_layOrders_23 : decode cX2_layOrders 23 = .ok (.aload_n 0, 1) := dk_42 (dk_at dksX2_layOrders_0 23 rfl rfl)
theorem dX2_layOrders_24 : decode cX2_layOrders 24 = .ok (.iload_n 1, 1) := dk_27 (dk_at dksX2_layOrders_1 0 rfl rfl)
theorem dX2_layOrders_25 : decode cX2_layOrders 25 = .ok (.invokevirtual 272, 3) := dk_182 1 16 (dk_at dksX2_layOrders_1 1 rfl rfl)
theorem dX2_layOrders_28 : decode cX2_layOrders 28 = .ok (.aload_n 0, 1) := dk_42 (dk_at dksX2_layOrders_1 4 rfl rfl)
theorem dX2_layOrders_29 : decode cX2_layOrders 29 = .ok (.invokevirtual 241, 3) := dk_182 0 241 (dk_at dksX2_layOrders_1 5 rfl rfl)
theorem dX2_layOrders_32 : decode cX2_layOrders 32 = .ok (.ifCond .eq 117, 3) := dk_153 0 117 (dk_at dksX2_layOrders_1 8 rfl rfl)
theorem dX2_layOrders_35 : decode cX2_layOrders 35 = .ok (.aload_n 0, 1) := dk_42 (dk_at dksX2_layOrders_1 11 rfl rfl)
theorem dX2_layOrders_36 : decode cX2_layOrders 36 = .ok (.invokevirtual 275, 3) := dk_182 1 19 (dk_at dksX2_layOrders_1 12 rfl rfl)
theorem dX2_layOrders_39 : decode cX2_layOrders 39 = .ok (.istore_n 2, 1) := dk_61 (dk_at dksX2_layOrders_1 15 rfl rfl)
theorem dX2_layOrders_40 : decode cX2_layOrders 40 = .ok (.aload_n 0, 1) := dk_42 (dk_at dksX2_layOrders_1 16 rfl rfl)
theorem dX2_layOrders_41 : decode cX2_layOrders 41 = .ok (.getfield 266, 3) := dk_180 1 10 (dk_at dksX2_layOrders_1 17 rfl rfl)
theorem dX2_layOrders_44 : decode cX2_layOrders 44 = .ok (.iconst (-1), 1) := dk_2 (dk_at dksX2_layOrders_1 20 rfl rfl)
theorem dX2_layOrders_45 : decode cX2_layOrders 45 = .ok (.if_icmp .eq 26, 3) := dk_159 0 26 (dk_at dksX2_layOrders_1 21 rfl rfl)
theorem dX2_layOrders_48 : decode cX2_layOrders 48 = .ok (.iload_n 2, 1) := dk_28 (dk_at dksX2_layOrders_2 0 rfl rfl)
theorem dX2_layOrders_49 : decode cX2_layOrders 49 = .ok (.aload_n 0, 1) := dk_42 (dk_at dksX2_layOrders_2 1 rfl rfl)
theorem dX2_layOrders_50 : decode cX2_layOrders 50 = .ok (.getfield 266, 3) := dk_180 1 10 (dk_at dksX2_layOrders_2 2 rfl rfl)
theorem dX2_layOrders_53 : decode cX2_layOrders 53 = .ok (.if_icmp .lt 18, 3) := dk_161 0 18 (dk_at dksX2_layOrders_2 5 rfl rfl)
theorem dX2_layOrders_56 : decode cX2_layOrders 56 = .ok (.iload_n 2, 1) := dk_28 (dk_at dksX2_layOrders_2 8 rfl rfl)
theorem dX2_layOrders_57 : decode cX2_layOrders 57 = .ok (.aload_n 0, 1) := dk_42 (dk_at dksX2_layOrders_2 9 rfl rfl)
theorem dX2_layOrders_58 : decode cX2_layOrders 58 = .ok (.getfield 266, 3) := dk_180 1 10 (dk_at dksX2_layOrders_2 10 rfl rfl)
theorem dX2_layOrders_61 : decode cX2_layOrders 61 = .ok (.if_icmp .ne 14, 3) := dk_160 0 14 (dk_at dksX2_layOrders_2 13 rfl rfl)
theorem dX2_layOrders_64 : decode cX2_layOrders 64 = .ok (.aload_n 0, 1) := dk_42 (dk_at dksX2_layOrders_2 16 rfl rfl)
theorem dX2_layOrders_65 : decode cX2_layOrders 65 = .ok (.invokevirtual 278, 3) := dk_182 1 22 (dk_at dksX2_layOrders_2 17 rfl rfl)
theorem dX2_layOrders_68 : decode cX2_layOrders 68 = .ok (.ifCond .eq 7, 3) := dk_153 0 7 (dk_at dksX2_layOrders_2 20 rfl rfl)
theorem dX2_layOrders_71 : decode cX2_layOrders 71 = .ok (.iconst 1, 1) := dk_4 (dk_at dksX2_layOrders_2 23 rfl rfl)
theorem dX2_layOrders_72 : decode cX2_layOrders 72 = .ok (.goto 4, 3) := dk_167 0 4 (dk_at dksX2_layOrders_3 0 rfl rfl)
theorem dX2_layOrders_75 : decode cX2_layOrders 75 = .ok (.iconst 0, 1) := dk_3 (dk_at dksX2_layOrders_3 3 rfl rfl)
theorem dX2_layOrders_76 : decode cX2_layOrders 76 = .ok (.istore_n 3, 1) := dk_62 (dk_at dksX2_layOrders_3 4 rfl rfl)
theorem dX2_layOrders_77 : decode cX2_layOrders 77 = .ok (.iconst 0, 1) := dk_3 (dk_at dksX2_layOrders_3 5 rfl rfl)
theorem dX2_layOrders_78 : decode cX2_layOrders 78 = .ok (.istore 4, 2) := dk_54 4 (dk_at dksX2_layOrders_3 6 rfl rfl)
theorem dX2_layOrders_80 : decode cX2_layOrders 80 = .ok (.iload 4, 2) := dk_21 4 (dk_at dksX2_layOrders_3 8 rfl rfl)
theorem dX2_layOrders_82 : decode cX2_layOrders 82 = .ok (.aload_n 0, 1) := dk_42 (dk_at dksX2_layOrders_3 10 rfl rfl)
theorem dX2_layOrders_83 : decode cX2_layOrders 83 = .ok (.getfield 194, 3) := dk_180 0 194 (dk_at dksX2_layOrders_3 11 rfl rfl)
theorem dX2_layOrders_86 : decode cX2_layOrders 86 = .ok (.if_icmp .ge 27, 3) := dk_162 0 27 (dk_at dksX2_layOrders_3 14 rfl rfl)
theorem dX2_layOrders_89 : decode cX2_layOrders 89 = .ok (.iload_n 3, 1) := dk_29 (dk_at dksX2_layOrders_3 17 rfl rfl)
theorem dX2_layOrders_90 : decode cX2_layOrders 90 = .ok (.ifCond .eq 23, 3) := dk_153 0 23 (dk_at dksX2_layOrders_3 18 rfl rfl)
theorem dX2_layOrders_93 : decode cX2_layOrders 93 = .ok (.aload_n 0, 1) := dk_42 (dk_at dksX2_layOrders_3 21 rfl rfl)
theorem dX2_layOrders_94 : decode cX2_layOrders 94 = .ok (.getfield 57, 3) := dk_180 0 57 (dk_at dksX2_layOrders_4 0 rfl rfl)
theorem dX2_layOrders_97 : decode cX2_layOrders 97 = .ok (.iload 4, 2) := dk_21 4 (dk_at dksX2_layOrders_4 3 rfl rfl)
theorem dX2_layOrders_99 : decode cX2_layOrders 99 = .ok (.aload_n 0, 1) := dk_42 (dk_at dksX2_layOrders_4 5 rfl rfl)
theorem dX2_layOrders_100 : decode cX2_layOrders 100 = .ok (.getfield 51, 3) := dk_180 0 51 (dk_at dksX2_layOrders_4 6 rfl rfl)
theorem dX2_layOrders_103 : decode cX2_layOrders 103 = .ok (.iload 4, 2) := dk_21 4 (dk_at dksX2_layOrders_4 9 rfl rfl)
theorem dX2_layOrders_105 : decode cX2_layOrders 105 = .ok (.iaload, 1) := dk_46 (dk_at dksX2_layOrders_4 11 rfl rfl)
theorem dX2_layOrders_106 : decode cX2_layOrders 106 = .ok (.iastore, 1) := dk_79 (dk_at dksX2_layOrders_4 12 rfl rfl)
theorem dX2_layOrders_107 : decode cX2_layOrders 107 = .ok (.iinc 4 1, 3) := dk_132 4 1 (dk_at dksX2_layOrders_4 13 rfl rfl)
theorem dX2_layOrders_110 : decode cX2_layOrders 110 = .ok (.goto (-30), 3) := dk_167 255 226 (dk_at dksX2_layOrders_4 16 rfl rfl)
theorem dX2_layOrders_113 : decode cX2_layOrders 113 = .ok (.aload_n 0, 1) := dk_42 (dk_at dksX2_layOrders_4 19 rfl rfl)
theorem dX2_layOrders_114 : decode cX2_layOrders 114 = .ok (.iload_n 3, 1) := dk_29 (dk_at dksX2_layOrders_4 20 rfl rfl)
theorem dX2_layOrders_115 : decode cX2_layOrders 115 = .ok (.ifCond .eq 7, 3) := dk_153 0 7 (dk_at dksX2_layOrders_4 21 rfl rfl)
theorem dX2_layOrders_118 : decode cX2_layOrders 118 = .ok (.iload_n 2, 1) := dk_28 (dk_at dksX2_layOrders_5 0 rfl rfl)
theorem dX2_layOrders_119 : decode cX2_layOrders 119 = .ok (.goto 7, 3) := dk_167 0 7 (dk_at dksX2_layOrders_5 1 rfl rfl)
theorem dX2_layOrders_122 : decode cX2_layOrders 122 = .ok (.aload_n 0, 1) := dk_42 (dk_at dksX2_layOrders_5 4 rfl rfl)
theorem dX2_layOrders_123 : decode cX2_layOrders 123 = .ok (.getfield 266, 3) := dk_180 1 10 (dk_at dksX2_layOrders_5 5 rfl rfl)
theorem dX2_layOrders_126 : decode cX2_layOrders 126 = .ok (.putfield 266, 3) := dk_181 1 10 (dk_at dksX2_layOrders_5 8 rfl rfl)
theorem dX2_layOrders_129 : decode cX2_layOrders 129 = .ok (.aload_n 0, 1) := dk_42 (dk_at dksX2_layOrders_5 11 rfl rfl)
theorem dX2_layOrders_130 : decode cX2_layOrders 130 = .ok (.iload_n 2, 1) := dk_28 (dk_at dksX2_layOrders_5 12 rfl rfl)
theorem dX2_layOrders_131 : decode cX2_layOrders 131 = .ok (.aload_n 0, 1) := dk_42 (dk_at dksX2_layOrders_5 13 rfl rfl)
theorem dX2_layOrders_132 : decode cX2_layOrders 132 = .ok (.getfield 269, 3) := dk_180 1 13 (dk_at dksX2_layOrders_5 14 rfl rfl)
theorem dX2_layOrders_135 : decode cX2_layOrders 135 = .ok (.if_icmp .le 7, 3) := dk_164 0 7 (dk_at dksX2_layOrders_5 17 rfl rfl)
theorem dX2_layOrders_138 : decode cX2_layOrders 138 = .ok (.iload_n 2, 1) := dk_28 (dk_at dksX2_layOrders_5 20 rfl rfl)
theorem dX2_layOrders_139 : decode cX2_layOrders 139 = .ok (.goto 7, 3) := dk_167 0 7 (dk_at dksX2_layOrders_5 21 rfl rfl)
theorem dX2_layOrders_142 : decode cX2_layOrders 142 = .ok (.aload_n 0, 1) := dk_42 (dk_at dksX2_layOrders_6 0 rfl rfl)
theorem dX2_layOrders_143 : decode cX2_layOrders 143 = .ok (.getfield 269, 3) := dk_180 1 13 (dk_at dksX2_layOrders_6 1 rfl rfl)
theorem dX2_layOrders_146 : decode cX2_layOrders 146 = .ok (.putfield 269, 3) := dk_181 1 13 (dk_at dksX2_layOrders_6 4 rfl rfl)
theorem dX2_layOrders_149 : decode cX2_layOrders 149 = .ok (.iinc 1 1, 3) := dk_132 1 1 (dk_at dksX2_layOrders_6 7 rfl rfl)
theorem dX2_layOrders_152 : decode cX2_layOrders 152 = .ok (.goto (-140), 3) := dk_167 255 116 (dk_at dksX2_layOrders_6 10 rfl rfl)
theorem dX2_layOrders_155 : decode cX2_layOrders 155 = .ok (.return_, 1) := dk_177 (dk_at dksX2_layOrders_6 13 rfl rfl)
abbrev cX2_factorial : ByteArray := prog_19_method_60_code
def yX2_factorial : MethodName := ⟨RX2, "factorial", "(I)I"⟩
def dkwX2_factorial_0 : List UInt8 := [4, 60, 5, 61, 28, 26, 163, 0, 13, 27, 28, 104, 60, 132, 2, 1, 167, 255, 244, 27, 172]
abbrev dktX2_factorial_0 : List UInt8 := dkwX2_factorial_0 ++ []
theorem dksX2_factorial_0 : cX2_factorial.data.toList.drop 0 = dktX2_factorial_0 := by decide +kernel
theorem dX2_factorial_0 : decode cX2_factorial 0 = .ok (.iconst 1, 1) := dk_4 (dk_at dksX2_factorial_0 0 rfl rfl)
theorem dX2_factorial_1 : decode cX2_factorial 1 = .ok (.istore_n 1, 1) := dk_60 (dk_at dksX2_factorial_0 1 rfl rfl)
theorem dX2_factorial_2 : decode cX2_factorial 2 = .ok (.iconst 2, 1) := dk_5 (dk_at dksX2_factorial_0 2 rfl rfl)
theorem dX2_factorial_3 : decode cX2_factorial 3 = .ok (.istore_n 2, 1) := dk_61 (dk_at dksX2_factorial_0 3 rfl rfl)
theorem dX2_factorial_4 : decode cX2_factorial 4 = .ok (.iload_n 2, 1) := dk_28 (dk_at dksX2_factorial_0 4 rfl rfl)
theorem dX2_factorial_5 : decode cX2_factorial 5 = .ok (.iload_n 0, 1) := dk_26 (dk_at dksX2_factorial_0 5 rfl rfl)
theorem dX2_factorial_6 : decode cX2_factorial 6 = .ok (.if_icmp .gt 13, 3) := dk_163 0 13 (dk_at dksX2_factorial_0 6 rfl rfl)
theorem dX2_factorial_9 : decode cX2_factorial 9 = .ok (.iload_n 1, 1) := dk_27 (dk_at dksX2_factorial_0 9 rfl rfl)
theorem dX2_factorial_10 : decode cX2_factorial 10 = .ok (.iload_n 2, 1) := dk_28 (dk_at dksX2_factorial_0 10 rfl rfl)
theorem dX2_factorial_11 : decode cX2_factorial 11 = .ok (.imul, 1) := dk_104 (dk_at dksX2_factorial_0 11 rfl rfl)
theorem dX2_factorial_12 : decode cX2_factorial 12 = .ok (.istore_n 1, 1) := dk_60 (dk_at dksX2_factorial_0 12 rfl rfl)
theorem dX2_factorial_13 : decode cX2_factorial 13 = .ok (.iinc 2 1, 3) := dk_132 2 1 (dk_at dksX2_factorial_0 13 rfl rfl)
theorem dX2_factorial_16 : decode cX2_factorial 16 = .ok (.goto (-12), 3) := dk_167 255 244 (dk_at dksX2_factorial_0 16 rfl rfl)
theorem dX2_factorial_19 : decode cX2_factorial 19 = .ok (.iload_n 1, 1) := dk_27 (dk_at dksX2_factorial_0 19 rfl rfl)
theorem dX2_factorial_20 : decode cX2_factorial 20 = .ok (.ireturn, 1) := dk_172 (dk_at dksX2_factorial_0 20 rfl rfl)
abbrev cX2_layOrder : ByteArray := prog_19_method_61_code
def yX2_layOrder : MethodName := ⟨RX2, "layOrder", "(I)V"⟩
def dkwX2_layOrder_5 : List UInt8 := [42, 42, 180, 0, 185, 181, 0, 194, 177]
abbrev dktX2_layOrder_5 : List UInt8 := dkwX2_layOrder_5 ++ []
def dkwX2_layOrder_4 : List UInt8 := [180, 0, 42, 21, 7, 46, 79, 21, 4, 4, 21, 7, 120, 2, 130, 126, 54, 4, 132, 5, 1, 167, 255, 164]
abbrev dktX2_layOrder_4 : List UInt8 := dkwX2_layOrder_4 ++ dktX2_layOrder_5
def dkwX2_layOrder_3 : List UInt8 := [21, 4, 21, 7, 122, 4, 126, 100, 54, 6, 132, 7, 1, 167, 255, 226, 42, 180, 0, 51, 21, 5, 42]
abbrev dktX2_layOrder_3 : List UInt8 := dkwX2_layOrder_3 ++ dktX2_layOrder_4
def dkwX2_layOrder_2 : List UInt8 := [29, 28, 112, 62, 3, 54, 7, 21, 4, 21, 7, 184, 0, 203, 153, 0, 8, 21, 6, 158, 0, 21, 21, 6]
abbrev dktX2_layOrder_2 : List UInt8 := dkwX2_layOrder_2 ++ dktX2_layOrder_3
def dkwX2_layOrder_1 : List UInt8 := [21, 5, 42, 180, 0, 185, 162, 0, 89, 28, 42, 180, 0, 185, 21, 5, 100, 108, 61, 29, 28, 108, 54, 6]
abbrev dktX2_layOrder_1 : List UInt8 := dkwX2_layOrder_1 ++ dktX2_layOrder_2
def dkwX2_layOrder_0 : List UInt8 := [42, 180, 0, 185, 184, 1, 7, 61, 27, 62, 4, 42, 180, 0, 185, 120, 4, 100, 54, 4, 3, 54, 5]
abbrev dktX2_layOrder_0 : List UInt8 := dkwX2_layOrder_0 ++ dktX2_layOrder_1
theorem dksX2_layOrder_0 : cX2_layOrder.data.toList.drop 0 = dktX2_layOrder_0 := by decide +kernel
theorem dksX2_layOrder_1 : cX2_layOrder.data.toList.drop 23 = dktX2_layOrder_1 := dk_seg dksX2_layOrder_0 23 rfl rfl
theorem dksX2_layOrder_2 : cX2_layOrder.data.toList.drop 47 = dktX2_layOrder_2 := dk_seg dksX2_layOrder_1 24 rfl rfl
theorem dksX2_layOrder_3 : cX2_layOrder.data.toList.drop 71 = dktX2_layOrder_3 := dk_seg dksX2_layOrder_2 24 rfl rfl
theorem dksX2_layOrder_4 : cX2_layOrder.data.toList.drop 94 = dktX2_layOrder_4 := dk_seg dksX2_layOrder_3 23 rfl rfl
theorem dksX2_layOrder_5 : cX2_layOrder.data.toList.drop 118 = dktX2_layOrder_5 := dk_seg dksX2_layOrder_4 24 rfl rfl
theorem dX2_layOrder_0 : decode cX2_layOrder 0 = .ok (.aload_n 0, 1) := dk_42 (dk_at dksX2_layOrder_0 0 rfl rfl)
theorem dX2_layOrder_1 : decode cX2_layOrder 1 = .ok (.getfield 185, 3) := dk_180 0 185 (dk_at dksX2_layOrder_0 1 rfl rfl)
theorem dX2_layOrder_4 : decode cX2_layOrder 4 = .ok (.invokestatic 263, 3) := dk_184 1 7 (dk_at dksX2_layOrder_0 4 rfl rfl)
theorem dX2_layOrder_7 : decode cX2_layOrder 7 = .ok (.istore_n 2, 1) := dk_61 (dk_at dksX2_layOrder_0 7 rfl rfl)
theorem dX2_layOrder_8 : decode cX2_layOrder 8 = .ok (.iload_n 1, 1) := dk_27 (dk_at dksX2_layOrder_0 8 rfl rfl)
theorem dX2_layOrder_9 : decode cX2_layOrder 9 = .ok (.istore_n 3, 1) := dk_62 (dk_at dksX2_layOrder_0 9 rfl rfl)
theorem dX2_layOrder_10 : decode cX2_layOrder 10 = .ok (.iconst 1, 1) := dk_4 (dk_at dksX2_layOrder_0 10 rfl rfl)
theorem dX2_layOrder_11 : decode cX2_layOrder 11 = .ok (.aload_n 0, 1) := dk_42 (dk_at dksX2_layOrder_0 11 rfl rfl)
theorem dX2_layOrder_12 : decode cX2_layOrder 12 = .ok (.getfield 185, 3) := dk_180 0 185 (dk_at dksX2_layOrder_0 12 rfl rfl)
theorem dX2_layOrder_15 : decode cX2_layOrder 15 = .ok (.ishl, 1) := dk_120 (dk_at dksX2_layOrder_0 15 rfl rfl)
theorem dX2_layOrder_16 : decode cX2_layOrder 16 = .ok (.iconst 1, 1) := dk_4 (dk_at dksX2_layOrder_0 16 rfl rfl)
theorem dX2_layOrder_17 : decode cX2_layOrder 17 = .ok (.isub, 1) := dk_100 (dk_at dksX2_layOrder_0 17 rfl rfl)
theorem dX2_layOrder_18 : decode cX2_layOrder 18 = .ok (.istore 4, 2) := dk_54 4 (dk_at dksX2_layOrder_0 18 rfl rfl)
theorem dX2_layOrder_20 : decode cX2_layOrder 20 = .ok (.iconst 0, 1) := dk_3 (dk_at dksX2_layOrder_0 20 rfl rfl)
theorem dX2_layOrder_21 : decode cX2_layOrder 21 = .ok (.istore 5, 2) := dk_54 5 (dk_at dksX2_layOrder_0 21 rfl rfl)
theorem dX2_layOrder_23 : decode cX2_layOrder 23 = .ok (.iload 5, 2) := dk_21 5 (dk_at dksX2_layOrder_1 0 rfl rfl)
theorem dX2_layOrder_25 : decode cX2_layOrder 25 = .ok (.aload_n 0, 1) := dk_42 (dk_at dksX2_layOrder_1 2 rfl rfl)
theorem dX2_layOrder_26 : decode cX2_layOrder 26 = .ok (.getfield 185, 3) := dk_180 0 185 (dk_at dksX2_layOrder_1 3 rfl rfl)
theorem dX2_layOrder_29 : decode cX2_layOrder 29 = .ok (.if_icmp .ge 89, 3) := dk_162 0 89 (dk_at dksX2_layOrder_1 6 rfl rfl)
theorem dX2_layOrder_32 : decode cX2_layOrder 32 = .ok (.iload_n 2, 1) := dk_28 (dk_at dksX2_layOrder_1 9 rfl rfl)
theorem dX2_layOrder_33 : decode cX2_layOrder 33 = .ok (.aload_n 0, 1) := dk_42 (dk_at dksX2_layOrder_1 10 rfl rfl)
theorem dX2_layOrder_34 : decode cX2_layOrder 34 = .ok (.getfield 185, 3) := dk_180 0 185 (dk_at dksX2_layOrder_1 11 rfl rfl)
theorem dX2_layOrder_37 : decode cX2_layOrder 37 = .ok (.iload 5, 2) := dk_21 5 (dk_at dksX2_layOrder_1 14 rfl rfl)
theorem dX2_layOrder_39 : decode cX2_layOrder 39 = .ok (.isub, 1) := dk_100 (dk_at dksX2_layOrder_1 16 rfl rfl)
theorem dX2_layOrder_40 : decode cX2_layOrder 40 = .ok (.idiv, 1) := dk_108 (dk_at dksX2_layOrder_1 17 rfl rfl)
theorem dX2_layOrder_41 : decode cX2_layOrder 41 = .ok (.istore_n 2, 1) := dk_61 (dk_at dksX2_layOrder_1 18 rfl rfl)
theorem dX2_layOrder_42 : decode cX2_layOrder 42 = .ok (.iload_n 3, 1) := dk_29 (dk_at dksX2_layOrder_1 19 rfl rfl)
theorem dX2_layOrder_43 : decode cX2_layOrder 43 = .ok (.iload_n 2, 1) := dk_28 (dk_at dksX2_layOrder_1 20 rfl rfl)
theorem dX2_layOrder_44 : decode cX2_layOrder 44 = .ok (.idiv, 1) := dk_108 (dk_at dksX2_layOrder_1 21 rfl rfl)
theorem dX2_layOrder_45 : decode cX2_layOrder 45 = .ok (.istore 6, 2) := dk_54 6 (dk_at dksX2_layOrder_1 22 rfl rfl)
theorem dX2_layOrder_47 : decode cX2_layOrder 47 = .ok (.iload_n 3, 1) := dk_29 (dk_at dksX2_layOrder_2 0 rfl rfl)
theorem dX2_layOrder_48 : decode cX2_layOrder 48 = .ok (.iload_n 2, 1) := dk_28 (dk_at dksX2_layOrder_2 1 rfl rfl)
theorem dX2_layOrder_49 : decode cX2_layOrder 49 = .ok (.irem, 1) := dk_112 (dk_at dksX2_layOrder_2 2 rfl rfl)
theorem dX2_layOrder_50 : decode cX2_layOrder 50 = .ok (.istore_n 3, 1) := dk_62 (dk_at dksX2_layOrder_2 3 rfl rfl)
theorem dX2_layOrder_51 : decode cX2_layOrder 51 = .ok (.iconst 0, 1) := dk_3 (dk_at dksX2_layOrder_2 4 rfl rfl)
theorem dX2_layOrder_52 : decode cX2_layOrder 52 = .ok (.istore 7, 2) := dk_54 7 (dk_at dksX2_layOrder_2 5 rfl rfl)
theorem dX2_layOrder_54 : decode cX2_layOrder 54 = .ok (.iload 4, 2) := dk_21 4 (dk_at dksX2_layOrder_2 7 rfl rfl)
theorem dX2_layOrder_56 : decode cX2_layOrder 56 = .ok (.iload 7, 2) := dk_21 7 (dk_at dksX2_layOrder_2 9 rfl rfl)
theorem dX2_layOrder_58 : decode cX2_layOrder 58 = .ok (.invokestatic 203, 3) := dk_184 0 203 (dk_at dksX2_layOrder_2 11 rfl rfl)
theorem dX2_layOrder_61 : decode cX2_layOrder 61 = .ok (.ifCond .eq 8, 3) := dk_153 0 8 (dk_at dksX2_layOrder_2 14 rfl rfl)
theorem dX2_layOrder_64 : decode cX2_layOrder 64 = .ok (.iload 6, 2) := dk_21 6 (dk_at dksX2_layOrder_2 17 rfl rfl)
theorem dX2_layOrder_66 : decode cX2_layOrder 66 = .ok (.ifCond .le 21, 3) := dk_158 0 21 (dk_at dksX2_layOrder_2 19 rfl rfl)
theorem dX2_layOrder_69 : decode cX2_layOrder 69 = .ok (.iload 6, 2) := dk_21 6 (dk_at dksX2_layOrder_2 22 rfl rfl)
theorem dX2_layOrder_71 : decode cX2_layOrder 71 = .ok (.iload 4, 2) := dk_21 4 (dk_at dksX2_layOrder_3 0 rfl rfl)
theorem dX2_layOrder_73 : decode cX2_layOrder 73 = .ok (.iload 7, 2) := dk_21 7 (dk_at dksX2_layOrder_3 2 rfl rfl)
theorem dX2_layOrder_75 : decode cX2_layOrder 75 = .ok (.ishr, 1) := dk_122 (dk_at dksX2_layOrder_3 4 rfl rfl)
theorem dX2_layOrder_76 : decode cX2_layOrder 76 = .ok (.iconst 1, 1) := dk_4 (dk_at dksX2_layOrder_3 5 rfl rfl)
theorem dX2_layOrder_77 : decode cX2_layOrder 77 = .ok (.iand, 1) := dk_126 (dk_at dksX2_layOrder_3 6 rfl rfl)
theorem dX2_layOrder_78 : decode cX2_layOrder 78 = .ok (.isub, 1) := dk_100 (dk_at dksX2_layOrder_3 7 rfl rfl)
theorem dX2_layOrder_79 : decode cX2_layOrder 79 = .ok (.istore 6, 2) := dk_54 6 (dk_at dksX2_layOrder_3 8 rfl rfl)
theorem dX2_layOrder_81 : decode cX2_layOrder 81 = .ok (.iinc 7 1, 3) := dk_132 7 1 (dk_at dksX2_layOrder_3 10 rfl rfl)
theorem dX2_layOrder_84 : decode cX2_layOrder 84 = .ok (.goto (-30), 3) := dk_167 255 226 (dk_at dksX2_layOrder_3 13 rfl rfl)
theorem dX2_layOrder_87 : decode cX2_layOrder 87 = .ok (.aload_n 0, 1) := dk_42 (dk_at dksX2_layOrder_3 16 rfl rfl)
theorem dX2_layOrder_88 : decode cX2_layOrder 88 = .ok (.getfield 51, 3) := dk_180 0 51 (dk_at dksX2_layOrder_3 17 rfl rfl)
theorem dX2_layOrder_91 : decode cX2_layOrder 91 = .ok (.iload 5, 2) := dk_21 5 (dk_at dksX2_layOrder_3 20 rfl rfl)
theorem dX2_layOrder_93 : decode cX2_layOrder 93 = .ok (.aload_n 0, 1) := dk_42 (dk_at dksX2_layOrder_3 22 rfl rfl)
theorem dX2_layOrder_94 : decode cX2_layOrder 94 = .ok (.getfield 42, 3) := dk_180 0 42 (dk_at dksX2_layOrder_4 0 rfl rfl)
theorem dX2_layOrder_97 : decode cX2_layOrder 97 = .ok (.iload 7, 2) := dk_21 7 (dk_at dksX2_layOrder_4 3 rfl rfl)
theorem dX2_layOrder_99 : decode cX2_layOrder 99 = .ok (.iaload, 1) := dk_46 (dk_at dksX2_layOrder_4 5 rfl rfl)
theorem dX2_layOrder_100 : decode cX2_layOrder 100 = .ok (.iastore, 1) := dk_79 (dk_at dksX2_layOrder_4 6 rfl rfl)
theorem dX2_layOrder_101 : decode cX2_layOrder 101 = .ok (.iload 4, 2) := dk_21 4 (dk_at dksX2_layOrder_4 7 rfl rfl)
theorem dX2_layOrder_103 : decode cX2_layOrder 103 = .ok (.iconst 1, 1) := dk_4 (dk_at dksX2_layOrder_4 9 rfl rfl)
theorem dX2_layOrder_104 : decode cX2_layOrder 104 = .ok (.iload 7, 2) := dk_21 7 (dk_at dksX2_layOrder_4 10 rfl rfl)
theorem dX2_layOrder_106 : decode cX2_layOrder 106 = .ok (.ishl, 1) := dk_120 (dk_at dksX2_layOrder_4 12 rfl rfl)
theorem dX2_layOrder_107 : decode cX2_layOrder 107 = .ok (.iconst (-1), 1) := dk_2 (dk_at dksX2_layOrder_4 13 rfl rfl)
theorem dX2_layOrder_108 : decode cX2_layOrder 108 = .ok (.ixor, 1) := dk_130 (dk_at dksX2_layOrder_4 14 rfl rfl)
theorem dX2_layOrder_109 : decode cX2_layOrder 109 = .ok (.iand, 1) := dk_126 (dk_at dksX2_layOrder_4 15 rfl rfl)
theorem dX2_layOrder_110 : decode cX2_layOrder 110 = .ok (.istore 4, 2) := dk_54 4 (dk_at dksX2_layOrder_4 16 rfl rfl)
theorem dX2_layOrder_112 : decode cX2_layOrder 112 = .ok (.iinc 5 1, 3) := dk_132 5 1 (dk_at dksX2_layOrder_4 18 rfl rfl)
theorem dX2_layOrder_115 : decode cX2_layOrder 115 = .ok (.goto (-92), 3) := dk_167 255 164 (dk_at dksX2_layOrder_4 21 rfl rfl)
theorem dX2_layOrder_118 : decode cX2_layOrder 118 = .ok (.aload_n 0, 1) := dk_42 (dk_at dksX2_layOrder_5 0 rfl rfl)
theorem dX2_layOrder_119 : decode cX2_layOrder 119 = .ok (.aload_n 0, 1) := dk_42 (dk_at dksX2_layOrder_5 1 rfl rfl)
theorem dX2_layOrder_120 : decode cX2_layOrder 120 = .ok (.getfield 185, 3) := dk_180 0 185 (dk_at dksX2_layOrder_5 2 rfl rfl)
theorem dX2_layOrder_123 : decode cX2_layOrder 123 = .ok (.putfield 194, 3) := dk_181 0 194 (dk_at dksX2_layOrder_5 5 rfl rfl)
theorem dX2_layOrder_126 : decode cX2_layOrder 126 = .ok (.return_, 1) := dk_177 (dk_at dksX2_layOrder_5 8 rfl rfl)
abbrev cX2_citizenCost : ByteArray := prog_19_method_35_code
def yX2_citizenCost : MethodName := ⟨RX2, "citizenCost", "()I"⟩
def dkwX2_citizenCost_0 : List UInt8 := [42, 3, 42, 180, 0, 7, 3, 46, 182, 0, 219, 172]
abbrev dktX2_citizenCost_0 : List UInt8 := dkwX2_citizenCost_0 ++ []
theorem dksX2_citizenCost_0 : cX2_citizenCost.data.toList.drop 0 = dktX2_citizenCost_0 := by decide +kernel
theorem dX2_citizenCost_0 : decode cX2_citizenCost 0 = .ok (.aload_n 0, 1) := dk_42 (dk_at dksX2_citizenCost_0 0 rfl rfl)
theorem dX2_citizenCost_1 : decode cX2_citizenCost 1 = .ok (.iconst 0, 1) := dk_3 (dk_at dksX2_citizenCost_0 1 rfl rfl)
theorem dX2_citizenCost_2 : decode cX2_citizenCost 2 = .ok (.aload_n 0, 1) := dk_42 (dk_at dksX2_citizenCost_0 2 rfl rfl)
theorem dX2_citizenCost_3 : decode cX2_citizenCost 3 = .ok (.getfield 7, 3) := dk_180 0 7 (dk_at dksX2_citizenCost_0 3 rfl rfl)
theorem dX2_citizenCost_6 : decode cX2_citizenCost 6 = .ok (.iconst 0, 1) := dk_3 (dk_at dksX2_citizenCost_0 6 rfl rfl)
theorem dX2_citizenCost_7 : decode cX2_citizenCost 7 = .ok (.iaload, 1) := dk_46 (dk_at dksX2_citizenCost_0 7 rfl rfl)
theorem dX2_citizenCost_8 : decode cX2_citizenCost 8 = .ok (.invokevirtual 219, 3) := dk_182 0 219 (dk_at dksX2_citizenCost_0 8 rfl rfl)
theorem dX2_citizenCost_11 : decode cX2_citizenCost 11 = .ok (.ireturn, 1) := dk_172 (dk_at dksX2_citizenCost_0 11 rfl rfl)
abbrev cX2_isAheadOfBest : ByteArray := prog_19_method_62_code
def yX2_isAheadOfBest : MethodName := ⟨RX2, "isAheadOfBest", "()Z"⟩
def dkwX2_isAheadOfBest_2 : List UInt8 := [180, 0, 57, 27, 46, 162, 0, 7, 4, 167, 0, 4, 3, 172]
abbrev dktX2_isAheadOfBest_2 : List UInt8 := dkwX2_isAheadOfBest_2 ++ []
def dkwX2_isAheadOfBest_1 : List UInt8 := [160, 0, 9, 132, 1, 1, 167, 255, 230, 27, 42, 180, 0, 194, 162, 0, 22, 42, 180, 0, 51, 27, 46, 42]
abbrev dktX2_isAheadOfBest_1 : List UInt8 := dkwX2_isAheadOfBest_1 ++ dktX2_isAheadOfBest_2
def dkwX2_isAheadOfBest_0 : List UInt8 := [3, 60, 27, 42, 180, 0, 194, 162, 0, 24, 42, 180, 0, 51, 27, 46, 42, 180, 0, 57, 27, 46]
abbrev dktX2_isAheadOfBest_0 : List UInt8 := dkwX2_isAheadOfBest_0 ++ dktX2_isAheadOfBest_1
theorem dksX2_isAheadOfBest_0 : cX2_isAheadOfBest.data.toList.drop 0 = dktX2_isAheadOfBest_0 := by decide +kernel
theorem dksX2_isAheadOfBest_1 : cX2_isAheadOfBest.data.toList.drop 22 = dktX2_isAheadOfBest_1 := dk_seg dksX2_isAheadOfBest_0 22 rfl rfl
theorem dksX2_isAheadOfBest_2 : cX2_isAheadOfBest.data.toList.drop 46 = dktX2_isAheadOfBest_2 := dk_seg dksX2_isAheadOfBest_1 24 rfl rfl
theorem dX2_isAheadOfBest_0 : decode cX2_isAheadOfBest 0 = .ok (.iconst 0, 1) := dk_3 (dk_at dksX2_isAheadOfBest_0 0 rfl rfl)
theorem dX2_isAheadOfBest_1 : decode cX2_isAheadOfBest 1 = .ok (.istore_n 1, 1) := dk_60 (dk_at dksX2_isAheadOfBest_0 1 rfl rfl)
theorem dX2_isAheadOfBest_2 : decode cX2_isAheadOfBest 2 = .ok (.iload_n 1, 1) := dk_27 (dk_at dksX2_isAheadOfBest_0 2 rfl rfl)
theorem dX2_isAheadOfBest_3 : decode cX2_isAheadOfBest 3 = .ok (.aload_n 0, 1) := dk_42 (dk_at dksX2_isAheadOfBest_0 3 rfl rfl)
theorem dX2_isAheadOfBest_4 : decode cX2_isAheadOfBest 4 = .ok (.getfield 194, 3) := dk_180 0 194 (dk_at dksX2_isAheadOfBest_0 4 rfl rfl)
theorem dX2_isAheadOfBest_7 : decode cX2_isAheadOfBest 7 = .ok (.if_icmp .ge 24, 3) := dk_162 0 24 (dk_at dksX2_isAheadOfBest_0 7 rfl rfl)
theorem dX2_isAheadOfBest_10 : decode cX2_isAheadOfBest 10 = .ok (.aload_n 0, 1) := dk_42 (dk_at dksX2_isAheadOfBest_0 10 rfl rfl)
theorem dX2_isAheadOfBest_11 : decode cX2_isAheadOfBest 11 = .ok (.getfield 51, 3) := dk_180 0 51 (dk_at dksX2_isAheadOfBest_0 11 rfl rfl)
theorem dX2_isAheadOfBest_14 : decode cX2_isAheadOfBest 14 = .ok (.iload_n 1, 1) := dk_27 (dk_at dksX2_isAheadOfBest_0 14 rfl rfl)
theorem dX2_isAheadOfBest_15 : decode cX2_isAheadOfBest 15 = .ok (.iaload, 1) := dk_46 (dk_at dksX2_isAheadOfBest_0 15 rfl rfl)
theorem dX2_isAheadOfBest_16 : decode cX2_isAheadOfBest 16 = .ok (.aload_n 0, 1) := dk_42 (dk_at dksX2_isAheadOfBest_0 16 rfl rfl)
theorem dX2_isAheadOfBest_17 : decode cX2_isAheadOfBest 17 = .ok (.getfield 57, 3) := dk_180 0 57 (dk_at dksX2_isAheadOfBest_0 17 rfl rfl)
theorem dX2_isAheadOfBest_20 : decode cX2_isAheadOfBest 20 = .ok (.iload_n 1, 1) := dk_27 (dk_at dksX2_isAheadOfBest_0 20 rfl rfl)
theorem dX2_isAheadOfBest_21 : decode cX2_isAheadOfBest 21 = .ok (.iaload, 1) := dk_46 (dk_at dksX2_isAheadOfBest_0 21 rfl rfl)
theorem dX2_isAheadOfBest_22 : decode cX2_isAheadOfBest 22 = .ok (.if_icmp .ne 9, 3) := dk_160 0 9 (dk_at dksX2_isAheadOfBest_1 0 rfl rfl)
theorem dX2_isAheadOfBest_25 : decode cX2_isAheadOfBest 25 = .ok (.iinc 1 1, 3) := dk_132 1 1 (dk_at dksX2_isAheadOfBest_1 3 rfl rfl)
theorem dX2_isAheadOfBest_28 : decode cX2_isAheadOfBest 28 = .ok (.goto (-26), 3) := dk_167 255 230 (dk_at dksX2_isAheadOfBest_1 6 rfl rfl)
theorem dX2_isAheadOfBest_31 : decode cX2_isAheadOfBest 31 = .ok (.iload_n 1, 1) := dk_27 (dk_at dksX2_isAheadOfBest_1 9 rfl rfl)
theorem dX2_isAheadOfBest_32 : decode cX2_isAheadOfBest 32 = .ok (.aload_n 0, 1) := dk_42 (dk_at dksX2_isAheadOfBest_1 10 rfl rfl)
theorem dX2_isAheadOfBest_33 : decode cX2_isAheadOfBest 33 = .ok (.getfield 194, 3) := dk_180 0 194 (dk_at dksX2_isAheadOfBest_1 11 rfl rfl)
theorem dX2_isAheadOfBest_36 : decode cX2_isAheadOfBest 36 = .ok (.if_icmp .ge 22, 3) := dk_162 0 22 (dk_at dksX2_isAheadOfBest_1 14 rfl rfl)
theorem dX2_isAheadOfBest_39 : decode cX2_isAheadOfBest 39 = .ok (.aload_n 0, 1) := dk_42 (dk_at dksX2_isAheadOfBest_1 17 rfl rfl)
theorem dX2_isAheadOfBest_40 : decode cX2_isAheadOfBest 40 = .ok (.getfield 51, 3) := dk_180 0 51 (dk_at dksX2_isAheadOfBest_1 18 rfl rfl)
theorem dX2_isAheadOfBest_43 : decode cX2_isAheadOfBest 43 = .ok (.iload_n 1, 1) := dk_27 (dk_at dksX2_isAheadOfBest_1 21 rfl rfl)
theorem dX2_isAheadOfBest_44 : decode cX2_isAheadOfBest 44 = .ok (.iaload, 1) := dk_46 (dk_at dksX2_isAheadOfBest_1 22 rfl rfl)
theorem dX2_isAheadOfBest_45 : decode cX2_isAheadOfBest 45 = .ok (.aload_n 0, 1) := dk_42 (dk_at dksX2_isAheadOfBest_1 23 rfl rfl)
theorem dX2_isAheadOfBest_46 : decode cX2_isAheadOfBest 46 = .ok (.getfield 57, 3) := dk_180 0 57 (dk_at dksX2_isAheadOfBest_2 0 rfl rfl)
theorem dX2_isAheadOfBest_49 : decode cX2_isAheadOfBest 49 = .ok (.iload_n 1, 1) := dk_27 (dk_at dksX2_isAheadOfBest_2 3 rfl rfl)
theorem dX2_isAheadOfBest_50 : decode cX2_isAheadOfBest 50 = .ok (.iaload, 1) := dk_46 (dk_at dksX2_isAheadOfBest_2 4 rfl rfl)
theorem dX2_isAheadOfBest_51 : decode cX2_isAheadOfBest 51 = .ok (.if_icmp .ge 7, 3) := dk_162 0 7 (dk_at dksX2_isAheadOfBest_2 5 rfl rfl)
theorem dX2_isAheadOfBest_54 : decode cX2_isAheadOfBest 54 = .ok (.iconst 1, 1) := dk_4 (dk_at dksX2_isAheadOfBest_2 8 rfl rfl)
theorem dX2_isAheadOfBest_55 : decode cX2_isAheadOfBest 55 = .ok (.goto 4, 3) := dk_167 0 4 (dk_at dksX2_isAheadOfBest_2 9 rfl rfl)
theorem dX2_isAheadOfBest_58 : decode cX2_isAheadOfBest 58 = .ok (.iconst 0, 1) := dk_3 (dk_at dksX2_isAheadOfBest_2 12 rfl rfl)
theorem dX2_isAheadOfBest_59 : decode cX2_isAheadOfBest 59 = .ok (.ireturn, 1) := dk_172 (dk_at dksX2_isAheadOfBest_2 13 rfl rfl)
abbrev cX2_loophole : ByteArray := prog_19_method_66_code
def yX2_loophole : MethodName := ⟨RX2, "loophole", "()I"⟩
def dkwX2_loophole_1 : List UInt8 := [167, 0, 12, 42, 180, 1, 13, 42, 180, 1, 10, 100, 172]
abbrev dktX2_loophole_1 : List UInt8 := dkwX2_loophole_1 ++ []
def dkwX2_loophole_0 : List UInt8 := [42, 182, 1, 25, 154, 0, 6, 16, 252, 172, 42, 182, 1, 28, 42, 180, 1, 10, 2, 160, 0, 7, 2]
abbrev dktX2_loophole_0 : List UInt8 := dkwX2_loophole_0 ++ dktX2_loophole_1
theorem dksX2_loophole_0 : cX2_loophole.data.toList.drop 0 = dktX2_loophole_0 := by decide +kernel
theorem dksX2_loophole_1 : cX2_loophole.data.toList.drop 23 = dktX2_loophole_1 := dk_seg dksX2_loophole_0 23 rfl rfl
theorem dX2_loophole_0 : decode cX2_loophole 0 = .ok (.aload_n 0, 1) := dk_42 (dk_at dksX2_loophole_0 0 rfl rfl)
theorem dX2_loophole_1 : decode cX2_loophole 1 = .ok (.invokevirtual 281, 3) := dk_182 1 25 (dk_at dksX2_loophole_0 1 rfl rfl)
theorem dX2_loophole_4 : decode cX2_loophole 4 = .ok (.ifCond .ne 6, 3) := dk_154 0 6 (dk_at dksX2_loophole_0 4 rfl rfl)
theorem dX2_loophole_7 : decode cX2_loophole 7 = .ok (.bipush (-4), 2) := dk_16 252 (dk_at dksX2_loophole_0 7 rfl rfl)
theorem dX2_loophole_9 : decode cX2_loophole 9 = .ok (.ireturn, 1) := dk_172 (dk_at dksX2_loophole_0 9 rfl rfl)
theorem dX2_loophole_10 : decode cX2_loophole 10 = .ok (.aload_n 0, 1) := dk_42 (dk_at dksX2_loophole_0 10 rfl rfl)
theorem dX2_loophole_11 : decode cX2_loophole 11 = .ok (.invokevirtual 284, 3) := dk_182 1 28 (dk_at dksX2_loophole_0 11 rfl rfl)
theorem dX2_loophole_14 : decode cX2_loophole 14 = .ok (.aload_n 0, 1) := dk_42 (dk_at dksX2_loophole_0 14 rfl rfl)
theorem dX2_loophole_15 : decode cX2_loophole 15 = .ok (.getfield 266, 3) := dk_180 1 10 (dk_at dksX2_loophole_0 15 rfl rfl)
theorem dX2_loophole_18 : decode cX2_loophole 18 = .ok (.iconst (-1), 1) := dk_2 (dk_at dksX2_loophole_0 18 rfl rfl)
theorem dX2_loophole_19 : decode cX2_loophole 19 = .ok (.if_icmp .ne 7, 3) := dk_160 0 7 (dk_at dksX2_loophole_0 19 rfl rfl)
theorem dX2_loophole_22 : decode cX2_loophole 22 = .ok (.iconst (-1), 1) := dk_2 (dk_at dksX2_loophole_0 22 rfl rfl)
theorem dX2_loophole_23 : decode cX2_loophole 23 = .ok (.goto 12, 3) := dk_167 0 12 (dk_at dksX2_loophole_1 0 rfl rfl)
theorem dX2_loophole_26 : decode cX2_loophole 26 = .ok (.aload_n 0, 1) := dk_42 (dk_at dksX2_loophole_1 3 rfl rfl)
theorem dX2_loophole_27 : decode cX2_loophole 27 = .ok (.getfield 269, 3) := dk_180 1 13 (dk_at dksX2_loophole_1 4 rfl rfl)
theorem dX2_loophole_30 : decode cX2_loophole 30 = .ok (.aload_n 0, 1) := dk_42 (dk_at dksX2_loophole_1 7 rfl rfl)
theorem dX2_loophole_31 : decode cX2_loophole 31 = .ok (.getfield 266, 3) := dk_180 1 10 (dk_at dksX2_loophole_1 8 rfl rfl)
theorem dX2_loophole_34 : decode cX2_loophole 34 = .ok (.isub, 1) := dk_100 (dk_at dksX2_loophole_1 11 rfl rfl)
theorem dX2_loophole_35 : decode cX2_loophole 35 = .ok (.ireturn, 1) := dk_172 (dk_at dksX2_loophole_1 12 rfl rfl)
abbrev cX2_leftOut : ByteArray := prog_19_method_69_code
def yX2_leftOut : MethodName := ⟨RX2, "leftOut", "(II)I"⟩
def dkwX2_leftOut_4 : List UInt8 := [28, 154, 0, 10, 29, 184, 1, 34, 167, 0, 4, 29, 172]
abbrev dktX2_leftOut_4 : List UInt8 := dkwX2_leftOut_4 ++ []
def dkwX2_leftOut_3 : List UInt8 := [182, 1, 37, 42, 182, 1, 19, 27, 163, 0, 8, 21, 4, 167, 0, 4, 29, 62, 132, 4, 1, 167, 255, 195]
abbrev dktX2_leftOut_3 : List UInt8 := dkwX2_leftOut_3 ++ dktX2_leftOut_4
def dkwX2_leftOut_2 : List UInt8 := [153, 0, 41, 29, 2, 159, 0, 15, 21, 4, 184, 1, 34, 29, 184, 1, 34, 162, 0, 24, 42, 21, 4]
abbrev dktX2_leftOut_2 : List UInt8 := dkwX2_leftOut_2 ++ dktX2_leftOut_3
def dkwX2_leftOut_1 : List UInt8 := [172, 2, 62, 3, 54, 4, 21, 4, 4, 42, 180, 0, 185, 120, 162, 0, 56, 42, 21, 4, 182, 1, 31]
abbrev dktX2_leftOut_1 : List UInt8 := dkwX2_leftOut_1 ++ dktX2_leftOut_2
def dkwX2_leftOut_0 : List UInt8 := [27, 133, 9, 20, 1, 5, 184, 0, 65, 153, 0, 13, 28, 133, 9, 10, 184, 0, 65, 154, 0, 6, 16, 253]
abbrev dktX2_leftOut_0 : List UInt8 := dkwX2_leftOut_0 ++ dktX2_leftOut_1
theorem dksX2_leftOut_0 : cX2_leftOut.data.toList.drop 0 = dktX2_leftOut_0 := by decide +kernel
theorem dksX2_leftOut_1 : cX2_leftOut.data.toList.drop 24 = dktX2_leftOut_1 := dk_seg dksX2_leftOut_0 24 rfl rfl
theorem dksX2_leftOut_2 : cX2_leftOut.data.toList.drop 47 = dktX2_leftOut_2 := dk_seg dksX2_leftOut_1 23 rfl rfl
theorem dksX2_leftOut_3 : cX2_leftOut.data.toList.drop 70 = dktX2_leftOut_3 := dk_seg dksX2_leftOut_2 23 rfl rfl
theorem dksX2_leftOut_4 : cX2_leftOut.data.toList.drop 94 = dktX2_leftOut_4 := dk_seg dksX2_leftOut_3 24 rfl rfl
theorem dX2_leftOut_0 : decode cX2_leftOut 0 = .ok (.iload_n 1, 1) := dk_27 (dk_at dksX2_leftOut_0 0 rfl rfl)
theorem dX2_leftOut_1 : decode cX2_leftOut 1 = .ok (.i2l, 1) := dk_133 (dk_at dksX2_leftOut_0 1 rfl rfl)
theorem dX2_leftOut_2 : decode cX2_leftOut 2 = .ok (.lconst 0, 1) := dk_9 (dk_at dksX2_leftOut_0 2 rfl rfl)
theorem dX2_leftOut_3 : decode cX2_leftOut 3 = .ok (.ldc2_w 261, 3) := dk_20 1 5 (dk_at dksX2_leftOut_0 3 rfl rfl)
theorem dX2_leftOut_6 : decode cX2_leftOut 6 = .ok (.invokestatic 65, 3) := dk_184 0 65 (dk_at dksX2_leftOut_0 6 rfl rfl)
theorem dX2_leftOut_9 : decode cX2_leftOut 9 = .ok (.ifCond .eq 13, 3) := dk_153 0 13 (dk_at dksX2_leftOut_0 9 rfl rfl)
theorem dX2_leftOut_12 : decode cX2_leftOut 12 = .ok (.iload_n 2, 1) := dk_28 (dk_at dksX2_leftOut_0 12 rfl rfl)
theorem dX2_leftOut_13 : decode cX2_leftOut 13 = .ok (.i2l, 1) := dk_133 (dk_at dksX2_leftOut_0 13 rfl rfl)
theorem dX2_leftOut_14 : decode cX2_leftOut 14 = .ok (.lconst 0, 1) := dk_9 (dk_at dksX2_leftOut_0 14 rfl rfl)
theorem dX2_leftOut_15 : decode cX2_leftOut 15 = .ok (.lconst 1, 1) := dk_10 (dk_at dksX2_leftOut_0 15 rfl rfl)
theorem dX2_leftOut_16 : decode cX2_leftOut 16 = .ok (.invokestatic 65, 3) := dk_184 0 65 (dk_at dksX2_leftOut_0 16 rfl rfl)
theorem dX2_leftOut_19 : decode cX2_leftOut 19 = .ok (.ifCond .ne 6, 3) := dk_154 0 6 (dk_at dksX2_leftOut_0 19 rfl rfl)
theorem dX2_leftOut_22 : decode cX2_leftOut 22 = .ok (.bipush (-3), 2) := dk_16 253 (dk_at dksX2_leftOut_0 22 rfl rfl)
theorem dX2_leftOut_24 : decode cX2_leftOut 24 = .ok (.ireturn, 1) := dk_172 (dk_at dksX2_leftOut_1 0 rfl rfl)
theorem dX2_leftOut_25 : decode cX2_leftOut 25 = .ok (.iconst (-1), 1) := dk_2 (dk_at dksX2_leftOut_1 1 rfl rfl)
theorem dX2_leftOut_26 : decode cX2_leftOut 26 = .ok (.istore_n 3, 1) := dk_62 (dk_at dksX2_leftOut_1 2 rfl rfl)
theorem dX2_leftOut_27 : decode cX2_leftOut 27 = .ok (.iconst 0, 1) := dk_3 (dk_at dksX2_leftOut_1 3 rfl rfl)
theorem dX2_leftOut_28 : decode cX2_leftOut 28 = .ok (.istore 4, 2) := dk_54 4 (dk_at dksX2_leftOut_1 4 rfl rfl)
theorem dX2_leftOut_30 : decode cX2_leftOut 30 = .ok (.iload 4, 2) := dk_21 4 (dk_at dksX2_leftOut_1 6 rfl rfl)
theorem dX2_leftOut_32 : decode cX2_leftOut 32 = .ok (.iconst 1, 1) := dk_4 (dk_at dksX2_leftOut_1 8 rfl rfl)
theorem dX2_leftOut_33 : decode cX2_leftOut 33 = .ok (.aload_n 0, 1) := dk_42 (dk_at dksX2_leftOut_1 9 rfl rfl)
theorem dX2_leftOut_34 : decode cX2_leftOut 34 = .ok (.getfield 185, 3) := dk_180 0 185 (dk_at dksX2_leftOut_1 10 rfl rfl)
theorem dX2_leftOut_37 : decode cX2_leftOut 37 = .ok (.ishl, 1) := dk_120 (dk_at dksX2_leftOut_1 13 rfl rfl)
theorem dX2_leftOut_38 : decode cX2_leftOut 38 = .ok (.if_icmp .ge 56, 3) := dk_162 0 56 (dk_at dksX2_leftOut_1 14 rfl rfl)
theorem dX2_leftOut_41 : decode cX2_leftOut 41 = .ok (.aload_n 0, 1) := dk_42 (dk_at dksX2_leftOut_1 17 rfl rfl)
theorem dX2_leftOut_42 : decode cX2_leftOut 42 = .ok (.iload 4, 2) := dk_21 4 (dk_at dksX2_leftOut_1 18 rfl rfl)
theorem dX2_leftOut_44 : decode cX2_leftOut 44 = .ok (.invokevirtual 287, 3) := dk_182 1 31 (dk_at dksX2_leftOut_1 20 rfl rfl)
theorem dX2_leftOut_47 : decode cX2_leftOut 47 = .ok (.ifCond .eq 41, 3) := dk_153 0 41 (dk_at dksX2_leftOut_2 0 rfl rfl)
theorem dX2_leftOut_50 : decode cX2_leftOut 50 = .ok (.iload_n 3, 1) := dk_29 (dk_at dksX2_leftOut_2 3 rfl rfl)
theorem dX2_leftOut_51 : decode cX2_leftOut 51 = .ok (.iconst (-1), 1) := dk_2 (dk_at dksX2_leftOut_2 4 rfl rfl)
theorem dX2_leftOut_52 : decode cX2_leftOut 52 = .ok (.if_icmp .eq 15, 3) := dk_159 0 15 (dk_at dksX2_leftOut_2 5 rfl rfl)
theorem dX2_leftOut_55 : decode cX2_leftOut 55 = .ok (.iload 4, 2) := dk_21 4 (dk_at dksX2_leftOut_2 8 rfl rfl)
theorem dX2_leftOut_57 : decode cX2_leftOut 57 = .ok (.invokestatic 290, 3) := dk_184 1 34 (dk_at dksX2_leftOut_2 10 rfl rfl)
theorem dX2_leftOut_60 : decode cX2_leftOut 60 = .ok (.iload_n 3, 1) := dk_29 (dk_at dksX2_leftOut_2 13 rfl rfl)
theorem dX2_leftOut_61 : decode cX2_leftOut 61 = .ok (.invokestatic 290, 3) := dk_184 1 34 (dk_at dksX2_leftOut_2 14 rfl rfl)
theorem dX2_leftOut_64 : decode cX2_leftOut 64 = .ok (.if_icmp .ge 24, 3) := dk_162 0 24 (dk_at dksX2_leftOut_2 17 rfl rfl)
theorem dX2_leftOut_67 : decode cX2_leftOut 67 = .ok (.aload_n 0, 1) := dk_42 (dk_at dksX2_leftOut_2 20 rfl rfl)
theorem dX2_leftOut_68 : decode cX2_leftOut 68 = .ok (.iload 4, 2) := dk_21 4 (dk_at dksX2_leftOut_2 21 rfl rfl)
theorem dX2_leftOut_70 : decode cX2_leftOut 70 = .ok (.invokevirtual 293, 3) := dk_182 1 37 (dk_at dksX2_leftOut_3 0 rfl rfl)
theorem dX2_leftOut_73 : decode cX2_leftOut 73 = .ok (.aload_n 0, 1) := dk_42 (dk_at dksX2_leftOut_3 3 rfl rfl)
theorem dX2_leftOut_74 : decode cX2_leftOut 74 = .ok (.invokevirtual 275, 3) := dk_182 1 19 (dk_at dksX2_leftOut_3 4 rfl rfl)
theorem dX2_leftOut_77 : decode cX2_leftOut 77 = .ok (.iload_n 1, 1) := dk_27 (dk_at dksX2_leftOut_3 7 rfl rfl)
theorem dX2_leftOut_78 : decode cX2_leftOut 78 = .ok (.if_icmp .gt 8, 3) := dk_163 0 8 (dk_at dksX2_leftOut_3 8 rfl rfl)
theorem dX2_leftOut_81 : decode cX2_leftOut 81 = .ok (.iload 4, 2) := dk_21 4 (dk_at dksX2_leftOut_3 11 rfl rfl)
theorem dX2_leftOut_83 : decode cX2_leftOut 83 = .ok (.goto 4, 3) := dk_167 0 4 (dk_at dksX2_leftOut_3 13 rfl rfl)
theorem dX2_leftOut_86 : decode cX2_leftOut 86 = .ok (.iload_n 3, 1) := dk_29 (dk_at dksX2_leftOut_3 16 rfl rfl)
theorem dX2_leftOut_87 : decode cX2_leftOut 87 = .ok (.istore_n 3, 1) := dk_62 (dk_at dksX2_leftOut_3 17 rfl rfl)
theorem dX2_leftOut_88 : decode cX2_leftOut 88 = .ok (.iinc 4 1, 3) := dk_132 4 1 (dk_at dksX2_leftOut_3 18 rfl rfl)
theorem dX2_leftOut_91 : decode cX2_leftOut 91 = .ok (.goto (-61), 3) := dk_167 255 195 (dk_at dksX2_leftOut_3 21 rfl rfl)
theorem dX2_leftOut_94 : decode cX2_leftOut 94 = .ok (.iload_n 2, 1) := dk_28 (dk_at dksX2_leftOut_4 0 rfl rfl)
theorem dX2_leftOut_95 : decode cX2_leftOut 95 = .ok (.ifCond .ne 10, 3) := dk_154 0 10 (dk_at dksX2_leftOut_4 1 rfl rfl)
theorem dX2_leftOut_98 : decode cX2_leftOut 98 = .ok (.iload_n 3, 1) := dk_29 (dk_at dksX2_leftOut_4 4 rfl rfl)
theorem dX2_leftOut_99 : decode cX2_leftOut 99 = .ok (.invokestatic 290, 3) := dk_184 1 34 (dk_at dksX2_leftOut_4 5 rfl rfl)
theorem dX2_leftOut_102 : decode cX2_leftOut 102 = .ok (.goto 4, 3) := dk_167 0 4 (dk_at dksX2_leftOut_4 8 rfl rfl)
theorem dX2_leftOut_105 : decode cX2_leftOut 105 = .ok (.iload_n 3, 1) := dk_29 (dk_at dksX2_leftOut_4 11 rfl rfl)
theorem dX2_leftOut_106 : decode cX2_leftOut 106 = .ok (.ireturn, 1) := dk_172 (dk_at dksX2_leftOut_4 12 rfl rfl)
abbrev cX2_areWords : ByteArray := prog_19_method_68_code
def yX2_areWords : MethodName := ⟨RX2, "areWords", "(I)Z"⟩
def dkwX2_areWords_1 : List UInt8 := [42, 180, 0, 42, 29, 46, 2, 159, 0, 7, 4, 167, 0, 4, 3, 61, 132, 3, 1, 167, 255, 217, 28, 172]
abbrev dktX2_areWords_1 : List UInt8 := dkwX2_areWords_1 ++ []
def dkwX2_areWords_0 : List UInt8 := [4, 61, 3, 62, 29, 42, 180, 0, 185, 162, 0, 37, 28, 153, 0, 25, 27, 29, 184, 0, 203, 153, 0, 13]
abbrev dktX2_areWords_0 : List UInt8 := dkwX2_areWords_0 ++ dktX2_areWords_1
theorem dksX2_areWords_0 : cX2_areWords.data.toList.drop 0 = dktX2_areWords_0 := by decide +kernel
theorem dksX2_areWords_1 : cX2_areWords.data.toList.drop 24 = dktX2_areWords_1 := dk_seg dksX2_areWords_0 24 rfl rfl
theorem dX2_areWords_0 : decode cX2_areWords 0 = .ok (.iconst 1, 1) := dk_4 (dk_at dksX2_areWords_0 0 rfl rfl)
theorem dX2_areWords_1 : decode cX2_areWords 1 = .ok (.istore_n 2, 1) := dk_61 (dk_at dksX2_areWords_0 1 rfl rfl)
theorem dX2_areWords_2 : decode cX2_areWords 2 = .ok (.iconst 0, 1) := dk_3 (dk_at dksX2_areWords_0 2 rfl rfl)
theorem dX2_areWords_3 : decode cX2_areWords 3 = .ok (.istore_n 3, 1) := dk_62 (dk_at dksX2_areWords_0 3 rfl rfl)
theorem dX2_areWords_4 : decode cX2_areWords 4 = .ok (.iload_n 3, 1) := dk_29 (dk_at dksX2_areWords_0 4 rfl rfl)
theorem dX2_areWords_5 : decode cX2_areWords 5 = .ok (.aload_n 0, 1) := dk_42 (dk_at dksX2_areWords_0 5 rfl rfl)
theorem dX2_areWords_6 : decode cX2_areWords 6 = .ok (.getfield 185, 3) := dk_180 0 185 (dk_at dksX2_areWords_0 6 rfl rfl)
theorem dX2_areWords_9 : decode cX2_areWords 9 = .ok (.if_icmp .ge 37, 3) := dk_162 0 37 (dk_at dksX2_areWords_0 9 rfl rfl)
theorem dX2_areWords_12 : decode cX2_areWords 12 = .ok (.iload_n 2, 1) := dk_28 (dk_at dksX2_areWords_0 12 rfl rfl)
theorem dX2_areWords_13 : decode cX2_areWords 13 = .ok (.ifCond .eq 25, 3) := dk_153 0 25 (dk_at dksX2_areWords_0 13 rfl rfl)
theorem dX2_areWords_16 : decode cX2_areWords 16 = .ok (.iload_n 1, 1) := dk_27 (dk_at dksX2_areWords_0 16 rfl rfl)
theorem dX2_areWords_17 : decode cX2_areWords 17 = .ok (.iload_n 3, 1) := dk_29 (dk_at dksX2_areWords_0 17 rfl rfl)
theorem dX2_areWords_18 : decode cX2_areWords 18 = .ok (.invokestatic 203, 3) := dk_184 0 203 (dk_at dksX2_areWords_0 18 rfl rfl)
theorem dX2_areWords_21 : decode cX2_areWords 21 = .ok (.ifCond .eq 13, 3) := dk_153 0 13 (dk_at dksX2_areWords_0 21 rfl rfl)
theorem dX2_areWords_24 : decode cX2_areWords 24 = .ok (.aload_n 0, 1) := dk_42 (dk_at dksX2_areWords_1 0 rfl rfl)
theorem dX2_areWords_25 : decode cX2_areWords 25 = .ok (.getfield 42, 3) := dk_180 0 42 (dk_at dksX2_areWords_1 1 rfl rfl)
theorem dX2_areWords_28 : decode cX2_areWords 28 = .ok (.iload_n 3, 1) := dk_29 (dk_at dksX2_areWords_1 4 rfl rfl)
theorem dX2_areWords_29 : decode cX2_areWords 29 = .ok (.iaload, 1) := dk_46 (dk_at dksX2_areWords_1 5 rfl rfl)
theorem dX2_areWords_30 : decode cX2_areWords 30 = .ok (.iconst (-1), 1) := dk_2 (dk_at dksX2_areWords_1 6 rfl rfl)
theorem dX2_areWords_31 : decode cX2_areWords 31 = .ok (.if_icmp .eq 7, 3) := dk_159 0 7 (dk_at dksX2_areWords_1 7 rfl rfl)
theorem dX2_areWords_34 : decode cX2_areWords 34 = .ok (.iconst 1, 1) := dk_4 (dk_at dksX2_areWords_1 10 rfl rfl)
theorem dX2_areWords_35 : decode cX2_areWords 35 = .ok (.goto 4, 3) := dk_167 0 4 (dk_at dksX2_areWords_1 11 rfl rfl)
theorem dX2_areWords_38 : decode cX2_areWords 38 = .ok (.iconst 0, 1) := dk_3 (dk_at dksX2_areWords_1 14 rfl rfl)
theorem dX2_areWords_39 : decode cX2_areWords 39 = .ok (.istore_n 2, 1) := dk_61 (dk_at dksX2_areWords_1 15 rfl rfl)
theorem dX2_areWords_40 : decode cX2_areWords 40 = .ok (.iinc 3 1, 3) := dk_132 3 1 (dk_at dksX2_areWords_1 16 rfl rfl)
theorem dX2_areWords_43 : decode cX2_areWords 43 = .ok (.goto (-39), 3) := dk_167 255 217 (dk_at dksX2_areWords_1 19 rfl rfl)
theorem dX2_areWords_46 : decode cX2_areWords 46 = .ok (.iload_n 2, 1) := dk_28 (dk_at dksX2_areWords_1 22 rfl rfl)
theorem dX2_areWords_47 : decode cX2_areWords 47 = .ok (.ireturn, 1) := dk_172 (dk_at dksX2_areWords_1 23 rfl rfl)
abbrev cX2_bits : ByteArray := prog_19_method_4_code
def yX2_bits : MethodName := ⟨RX2, "bits", "(I)I"⟩
def dkwX2_bits_1 : List UInt8 := [27, 172]
abbrev dktX2_bits_1 : List UInt8 := dkwX2_bits_1 ++ []
def dkwX2_bits_0 : List UInt8 := [3, 60, 3, 61, 28, 16, 8, 162, 0, 17, 27, 26, 28, 122, 4, 126, 96, 60, 132, 2, 1, 167, 255, 239]
abbrev dktX2_bits_0 : List UInt8 := dkwX2_bits_0 ++ dktX2_bits_1
theorem dksX2_bits_0 : cX2_bits.data.toList.drop 0 = dktX2_bits_0 := by decide +kernel
theorem dksX2_bits_1 : cX2_bits.data.toList.drop 24 = dktX2_bits_1 := dk_seg dksX2_bits_0 24 rfl rfl
theorem dX2_bits_0 : decode cX2_bits 0 = .ok (.iconst 0, 1) := dk_3 (dk_at dksX2_bits_0 0 rfl rfl)
theorem dX2_bits_1 : decode cX2_bits 1 = .ok (.istore_n 1, 1) := dk_60 (dk_at dksX2_bits_0 1 rfl rfl)
theorem dX2_bits_2 : decode cX2_bits 2 = .ok (.iconst 0, 1) := dk_3 (dk_at dksX2_bits_0 2 rfl rfl)
theorem dX2_bits_3 : decode cX2_bits 3 = .ok (.istore_n 2, 1) := dk_61 (dk_at dksX2_bits_0 3 rfl rfl)
theorem dX2_bits_4 : decode cX2_bits 4 = .ok (.iload_n 2, 1) := dk_28 (dk_at dksX2_bits_0 4 rfl rfl)
theorem dX2_bits_5 : decode cX2_bits 5 = .ok (.bipush 8, 2) := dk_16 8 (dk_at dksX2_bits_0 5 rfl rfl)
theorem dX2_bits_7 : decode cX2_bits 7 = .ok (.if_icmp .ge 17, 3) := dk_162 0 17 (dk_at dksX2_bits_0 7 rfl rfl)
theorem dX2_bits_10 : decode cX2_bits 10 = .ok (.iload_n 1, 1) := dk_27 (dk_at dksX2_bits_0 10 rfl rfl)
theorem dX2_bits_11 : decode cX2_bits 11 = .ok (.iload_n 0, 1) := dk_26 (dk_at dksX2_bits_0 11 rfl rfl)
theorem dX2_bits_12 : decode cX2_bits 12 = .ok (.iload_n 2, 1) := dk_28 (dk_at dksX2_bits_0 12 rfl rfl)
theorem dX2_bits_13 : decode cX2_bits 13 = .ok (.ishr, 1) := dk_122 (dk_at dksX2_bits_0 13 rfl rfl)
theorem dX2_bits_14 : decode cX2_bits 14 = .ok (.iconst 1, 1) := dk_4 (dk_at dksX2_bits_0 14 rfl rfl)
theorem dX2_bits_15 : decode cX2_bits 15 = .ok (.iand, 1) := dk_126 (dk_at dksX2_bits_0 15 rfl rfl)
theorem dX2_bits_16 : decode cX2_bits 16 = .ok (.iadd, 1) := dk_96 (dk_at dksX2_bits_0 16 rfl rfl)
theorem dX2_bits_17 : decode cX2_bits 17 = .ok (.istore_n 1, 1) := dk_60 (dk_at dksX2_bits_0 17 rfl rfl)
theorem dX2_bits_18 : decode cX2_bits 18 = .ok (.iinc 2 1, 3) := dk_132 2 1 (dk_at dksX2_bits_0 18 rfl rfl)
theorem dX2_bits_21 : decode cX2_bits 21 = .ok (.goto (-17), 3) := dk_167 255 239 (dk_at dksX2_bits_0 21 rfl rfl)
theorem dX2_bits_24 : decode cX2_bits 24 = .ok (.iload_n 1, 1) := dk_27 (dk_at dksX2_bits_1 0 rfl rfl)
theorem dX2_bits_25 : decode cX2_bits 25 = .ok (.ireturn, 1) := dk_172 (dk_at dksX2_bits_1 1 rfl rfl)
abbrev cX2_layWithout : ByteArray := prog_19_method_67_code
def yX2_layWithout : MethodName := ⟨RX2, "layWithout", "(I)V"⟩
def dkwX2_layWithout_2 : List UInt8 := [132, 2, 1, 167, 255, 212, 177]
abbrev dktX2_layWithout_2 : List UInt8 := dkwX2_layWithout_2 ++ []
def dkwX2_layWithout_1 : List UInt8 := [180, 0, 51, 42, 180, 0, 194, 42, 180, 0, 42, 28, 46, 79, 42, 89, 180, 0, 194, 4, 96, 181, 0, 194]
abbrev dktX2_layWithout_1 : List UInt8 := dkwX2_layWithout_1 ++ dktX2_layWithout_2
def dkwX2_layWithout_0 : List UInt8 := [42, 3, 181, 0, 194, 3, 61, 28, 42, 180, 0, 185, 162, 0, 42, 27, 28, 184, 0, 203, 154, 0, 28, 42]
abbrev dktX2_layWithout_0 : List UInt8 := dkwX2_layWithout_0 ++ dktX2_layWithout_1
theorem dksX2_layWithout_0 : cX2_layWithout.data.toList.drop 0 = dktX2_layWithout_0 := by decide +kernel
theorem dksX2_layWithout_1 : cX2_layWithout.data.toList.drop 24 = dktX2_layWithout_1 := dk_seg dksX2_layWithout_0 24 rfl rfl
theorem dksX2_layWithout_2 : cX2_layWithout.data.toList.drop 48 = dktX2_layWithout_2 := dk_seg dksX2_layWithout_1 24 rfl rfl
theorem dX2_layWithout_0 : decode cX2_layWithout 0 = .ok (.aload_n 0, 1) := dk_42 (dk_at dksX2_layWithout_0 0 rfl rfl)
theorem dX2_layWithout_1 : decode cX2_layWithout 1 = .ok (.iconst 0, 1) := dk_3 (dk_at dksX2_layWithout_0 1 rfl rfl)
theorem dX2_layWithout_2 : decode cX2_layWithout 2 = .ok (.putfield 194, 3) := dk_181 0 194 (dk_at dksX2_layWithout_0 2 rfl rfl)
theorem dX2_layWithout_5 : decode cX2_layWithout 5 = .ok (.iconst 0, 1) := dk_3 (dk_at dksX2_layWithout_0 5 rfl rfl)
theorem dX2_layWithout_6 : decode cX2_layWithout 6 = .ok (.istore_n 2, 1) := dk_61 (dk_at dksX2_layWithout_0 6 rfl rfl)
theorem dX2_layWithout_7 : decode cX2_layWithout 7 = .ok (.iload_n 2, 1) := dk_28 (dk_at dksX2_layWithout_0 7 rfl rfl)
theorem dX2_layWithout_8 : decode cX2_layWithout 8 = .ok (.aload_n 0, 1) := dk_42 (dk_at dksX2_layWithout_0 8 rfl rfl)
theorem dX2_layWithout_9 : decode cX2_layWithout 9 = .ok (.getfield 185, 3) := dk_180 0 185 (dk_at dksX2_layWithout_0 9 rfl rfl)
theorem dX2_layWithout_12 : decode cX2_layWithout 12 = .ok (.if_icmp .ge 42, 3) := dk_162 0 42 (dk_at dksX2_layWithout_0 12 rfl rfl)
theorem dX2_layWithout_15 : decode cX2_layWithout 15 = .ok (.iload_n 1, 1) := dk_27 (dk_at dksX2_layWithout_0 15 rfl rfl)
theorem dX2_layWithout_16 : decode cX2_layWithout 16 = .ok (.iload_n 2, 1) := dk_28 (dk_at dksX2_layWithout_0 16 rfl rfl)
theorem dX2_layWithout_17 : decode cX2_layWithout 17 = .ok (.invokestatic 203, 3) := dk_184 0 203 (dk_at dksX2_layWithout_0 17 rfl rfl)
theorem dX2_layWithout_20 : decode cX2_layWithout 20 = .ok (.ifCond .ne 28, 3) := dk_154 0 28 (dk_at dksX2_layWithout_0 20 rfl rfl)
theorem dX2_layWithout_23 : decode cX2_layWithout 23 = .ok (.aload_n 0, 1) := dk_42 (dk_at dksX2_layWithout_0 23 rfl rfl)
theorem dX2_layWithout_24 : decode cX2_layWithout 24 = .ok (.getfield 51, 3) := dk_180 0 51 (dk_at dksX2_layWithout_1 0 rfl rfl)
theorem dX2_layWithout_27 : decode cX2_layWithout 27 = .ok (.aload_n 0, 1) := dk_42 (dk_at dksX2_layWithout_1 3 rfl rfl)
theorem dX2_layWithout_28 : decode cX2_layWithout 28 = .ok (.getfield 194, 3) := dk_180 0 194 (dk_at dksX2_layWithout_1 4 rfl rfl)
theorem dX2_layWithout_31 : decode cX2_layWithout 31 = .ok (.aload_n 0, 1) := dk_42 (dk_at dksX2_layWithout_1 7 rfl rfl)
theorem dX2_layWithout_32 : decode cX2_layWithout 32 = .ok (.getfield 42, 3) := dk_180 0 42 (dk_at dksX2_layWithout_1 8 rfl rfl)
theorem dX2_layWithout_35 : decode cX2_layWithout 35 = .ok (.iload_n 2, 1) := dk_28 (dk_at dksX2_layWithout_1 11 rfl rfl)
theorem dX2_layWithout_36 : decode cX2_layWithout 36 = .ok (.iaload, 1) := dk_46 (dk_at dksX2_layWithout_1 12 rfl rfl)
theorem dX2_layWithout_37 : decode cX2_layWithout 37 = .ok (.iastore, 1) := dk_79 (dk_at dksX2_layWithout_1 13 rfl rfl)
theorem dX2_layWithout_38 : decode cX2_layWithout 38 = .ok (.aload_n 0, 1) := dk_42 (dk_at dksX2_layWithout_1 14 rfl rfl)
theorem dX2_layWithout_39 : decode cX2_layWithout 39 = .ok (.dup, 1) := dk_89 (dk_at dksX2_layWithout_1 15 rfl rfl)
theorem dX2_layWithout_40 : decode cX2_layWithout 40 = .ok (.getfield 194, 3) := dk_180 0 194 (dk_at dksX2_layWithout_1 16 rfl rfl)
theorem dX2_layWithout_43 : decode cX2_layWithout 43 = .ok (.iconst 1, 1) := dk_4 (dk_at dksX2_layWithout_1 19 rfl rfl)
theorem dX2_layWithout_44 : decode cX2_layWithout 44 = .ok (.iadd, 1) := dk_96 (dk_at dksX2_layWithout_1 20 rfl rfl)
theorem dX2_layWithout_45 : decode cX2_layWithout 45 = .ok (.putfield 194, 3) := dk_181 0 194 (dk_at dksX2_layWithout_1 21 rfl rfl)
theorem dX2_layWithout_48 : decode cX2_layWithout 48 = .ok (.iinc 2 1, 3) := dk_132 2 1 (dk_at dksX2_layWithout_2 0 rfl rfl)
theorem dX2_layWithout_51 : decode cX2_layWithout 51 = .ok (.goto (-44), 3) := dk_167 255 212 (dk_at dksX2_layWithout_2 3 rfl rfl)
theorem dX2_layWithout_54 : decode cX2_layWithout 54 = .ok (.return_, 1) := dk_177 (dk_at dksX2_layWithout_2 6 rfl rfl)
abbrev cX2_holes : ByteArray := prog_19_method_71_code
def yX2_holes : MethodName := ⟨RX2, "holes", "(II)I"⟩
def dkwX2_holes_10 : List UInt8 := [112, 172]
abbrev dktX2_holes_10 : List UInt8 := dkwX2_holes_10 ++ []
def dkwX2_holes_9 : List UInt8 := [164, 0, 18, 21, 7, 42, 180, 0, 149, 108, 54, 7, 132, 8, 255, 167, 255, 238, 21, 7, 42, 180, 0, 149]
abbrev dktX2_holes_9 : List UInt8 := dkwX2_holes_9 ++ dktX2_holes_10
def dkwX2_holes_8 : List UInt8 := [153, 0, 8, 28, 29, 161, 0, 5, 2, 172, 21, 6, 54, 7, 29, 4, 100, 54, 8, 21, 8, 28]
abbrev dktX2_holes_8 : List UInt8 := dkwX2_holes_8 ++ dktX2_holes_9
def dkwX2_holes_7 : List UInt8 := [4, 167, 0, 4, 3, 96, 54, 5, 132, 7, 1, 167, 255, 184, 28, 2, 160, 0, 6, 21, 5, 172, 21, 5]
abbrev dktX2_holes_7 : List UInt8 := dkwX2_holes_7 ++ dktX2_holes_8
def dkwX2_holes_6 : List UInt8 := [153, 0, 13, 21, 5, 154, 0, 8, 21, 7, 167, 0, 5, 21, 6, 54, 6, 21, 5, 21, 8, 153, 0, 7]
abbrev dktX2_holes_6 : List UInt8 := dkwX2_holes_6 ++ dktX2_holes_7
def dkwX2_holes_5 : List UInt8 := [182, 0, 241, 153, 0, 15, 42, 182, 1, 19, 27, 160, 0, 7, 4, 167, 0, 4, 3, 54, 8, 21, 8]
abbrev dktX2_holes_5 : List UInt8 := dkwX2_holes_5 ++ dktX2_holes_6
def dkwX2_holes_4 : List UInt8 := [54, 5, 2, 54, 6, 3, 54, 7, 21, 7, 21, 4, 162, 0, 71, 42, 21, 7, 182, 1, 40, 42]
abbrev dktX2_holes_4 : List UInt8 := dkwX2_holes_4 ++ dktX2_holes_5
def dkwX2_holes_3 : List UInt8 := [54, 5, 21, 5, 29, 162, 0, 18, 21, 4, 42, 180, 0, 149, 104, 54, 4, 132, 5, 1, 167, 255, 238, 3]
abbrev dktX2_holes_3 : List UInt8 := dkwX2_holes_3 ++ dktX2_holes_4
def dkwX2_holes_2 : List UInt8 := [167, 0, 4, 3, 96, 62, 132, 4, 1, 167, 255, 225, 29, 6, 164, 0, 6, 16, 252, 172, 4, 54, 4, 3]
abbrev dktX2_holes_2 : List UInt8 := dkwX2_holes_2 ++ dktX2_holes_3
def dkwX2_holes_1 : List UInt8 := [54, 4, 21, 4, 42, 180, 0, 185, 162, 0, 28, 29, 42, 180, 0, 42, 21, 4, 46, 2, 160, 0, 7, 4]
abbrev dktX2_holes_1 : List UInt8 := dkwX2_holes_1 ++ dktX2_holes_2
def dkwX2_holes_0 : List UInt8 := [27, 133, 9, 20, 1, 5, 184, 0, 65, 153, 0, 8, 28, 2, 162, 0, 6, 16, 253, 172, 3, 62, 3]
abbrev dktX2_holes_0 : List UInt8 := dkwX2_holes_0 ++ dktX2_holes_1
theorem dksX2_holes_0 : cX2_holes.data.toList.drop 0 = dktX2_holes_0 := by decide +kernel
theorem dksX2_holes_1 : cX2_holes.data.toList.drop 23 = dktX2_holes_1 := dk_seg dksX2_holes_0 23 rfl rfl
theorem dksX2_holes_2 : cX2_holes.data.toList.drop 47 = dktX2_holes_2 := dk_seg dksX2_holes_1 24 rfl rfl
theorem dksX2_holes_3 : cX2_holes.data.toList.drop 71 = dktX2_holes_3 := dk_seg dksX2_holes_2 24 rfl rfl
theorem dksX2_holes_4 : cX2_holes.data.toList.drop 95 = dktX2_holes_4 := dk_seg dksX2_holes_3 24 rfl rfl
theorem dksX2_holes_5 : cX2_holes.data.toList.drop 117 = dktX2_holes_5 := dk_seg dksX2_holes_4 22 rfl rfl
theorem dksX2_holes_6 : cX2_holes.data.toList.drop 140 = dktX2_holes_6 := dk_seg dksX2_holes_5 23 rfl rfl
theorem dksX2_holes_7 : cX2_holes.data.toList.drop 164 = dktX2_holes_7 := dk_seg dksX2_holes_6 24 rfl rfl
theorem dksX2_holes_8 : cX2_holes.data.toList.drop 188 = dktX2_holes_8 := dk_seg dksX2_holes_7 24 rfl rfl
theorem dksX2_holes_9 : cX2_holes.data.toList.drop 210 = dktX2_holes_9 := dk_seg dksX2_holes_8 22 rfl rfl
theorem dksX2_holes_10 : cX2_holes.data.toList.drop 234 = dktX2_holes_10 := dk_seg dksX2_holes_9 24 rfl rfl
theorem dX2_holes_0 : decode cX2_holes 0 = .ok (.iload_n 1, 1) := dk_27 (dk_at dksX2_holes_0 0 rfl rfl)
theorem dX2_holes_1 : decode cX2_holes 1 = .ok (.i2l, 1) := dk_133 (dk_at dksX2_holes_0 1 rfl rfl)
theorem dX2_holes_2 : decode cX2_holes 2 = .ok (.lconst 0, 1) := dk_9 (dk_at dksX2_holes_0 2 rfl rfl)
theorem dX2_holes_3 : decode cX2_holes 3 = .ok (.ldc2_w 261, 3) := dk_20 1 5 (dk_at dksX2_holes_0 3 rfl rfl)
theorem dX2_holes_6 : decode cX2_holes 6 = .ok (.invokestatic 65, 3) := dk_184 0 65 (dk_at dksX2_holes_0 6 rfl rfl)
theorem dX2_holes_9 : decode cX2_holes 9 = .ok (.ifCond .eq 8, 3) := dk_153 0 8 (dk_at dksX2_holes_0 9 rfl rfl)
theorem dX2_holes_12 : decode cX2_holes 12 = .ok (.iload_n 2, 1) := dk_28 (dk_at dksX2_holes_0 12 rfl rfl)
theorem dX2_holes_13 : decode cX2_holes 13 = .ok (.iconst (-1), 1) := dk_2 (dk_at dksX2_holes_0 13 rfl rfl)
theorem dX2_holes_14 : decode cX2_holes 14 = .ok (.if_icmp .ge 6, 3) := dk_162 0 6 (dk_at dksX2_holes_0 14 rfl rfl)
theorem dX2_holes_17 : decode cX2_holes 17 = .ok (.bipush (-3), 2) := dk_16 253 (dk_at dksX2_holes_0 17 rfl rfl)
theorem dX2_holes_19 : decode cX2_holes 19 = .ok (.ireturn, 1) := dk_172 (dk_at dksX2_holes_0 19 rfl rfl)
theorem dX2_holes_20 : decode cX2_holes 20 = .ok (.iconst 0, 1) := dk_3 (dk_at dksX2_holes_0 20 rfl rfl)
theorem dX2_holes_21 : decode cX2_holes 21 = .ok (.istore_n 3, 1) := dk_62 (dk_at dksX2_holes_0 21 rfl rfl)
theorem dX2_holes_22 : decode cX2_holes 22 = .ok (.iconst 0, 1) := dk_3 (dk_at dksX2_holes_0 22 rfl rfl)
theorem dX2_holes_23 : decode cX2_holes 23 = .ok (.istore 4, 2) := dk_54 4 (dk_at dksX2_holes_1 0 rfl rfl)
theorem dX2_holes_25 : decode cX2_holes 25 = .ok (.iload 4, 2) := dk_21 4 (dk_at dksX2_holes_1 2 rfl rfl)
theorem dX2_holes_27 : decode cX2_holes 27 = .ok (.aload_n 0, 1) := dk_42 (dk_at dksX2_holes_1 4 rfl rfl)
theorem dX2_holes_28 : decode cX2_holes 28 = .ok (.getfield 185, 3) := dk_180 0 185 (dk_at dksX2_holes_1 5 rfl rfl)
theorem dX2_holes_31 : decode cX2_holes 31 = .ok (.if_icmp .ge 28, 3) := dk_162 0 28 (dk_at dksX2_holes_1 8 rfl rfl)
theorem dX2_holes_34 : decode cX2_holes 34 = .ok (.iload_n 3, 1) := dk_29 (dk_at dksX2_holes_1 11 rfl rfl)
theorem dX2_holes_35 : decode cX2_holes 35 = .ok (.aload_n 0, 1) := dk_42 (dk_at dksX2_holes_1 12 rfl rfl)
theorem dX2_holes_36 : decode cX2_holes 36 = .ok (.getfield 42, 3) := dk_180 0 42 (dk_at dksX2_holes_1 13 rfl rfl)
theorem dX2_holes_39 : decode cX2_holes 39 = .ok (.iload 4, 2) := dk_21 4 (dk_at dksX2_holes_1 16 rfl rfl)
theorem dX2_holes_41 : decode cX2_holes 41 = .ok (.iaload, 1) := dk_46 (dk_at dksX2_holes_1 18 rfl rfl)
theorem dX2_holes_42 : decode cX2_holes 42 = .ok (.iconst (-1), 1) := dk_2 (dk_at dksX2_holes_1 19 rfl rfl)
theorem dX2_holes_43 : decode cX2_holes 43 = .ok (.if_icmp .ne 7, 3) := dk_160 0 7 (dk_at dksX2_holes_1 20 rfl rfl)
theorem dX2_holes_46 : decode cX2_holes 46 = .ok (.iconst 1, 1) := dk_4 (dk_at dksX2_holes_1 23 rfl rfl)
theorem dX2_holes_47 : decode cX2_holes 47 = .ok (.goto 4, 3) := dk_167 0 4 (dk_at dksX2_holes_2 0 rfl rfl)
theorem dX2_holes_50 : decode cX2_holes 50 = .ok (.iconst 0, 1) := dk_3 (dk_at dksX2_holes_2 3 rfl rfl)
theorem dX2_holes_51 : decode cX2_holes 51 = .ok (.iadd, 1) := dk_96 (dk_at dksX2_holes_2 4 rfl rfl)
theorem dX2_holes_52 : decode cX2_holes 52 = .ok (.istore_n 3, 1) := dk_62 (dk_at dksX2_holes_2 5 rfl rfl)
theorem dX2_holes_53 : decode cX2_holes 53 = .ok (.iinc 4 1, 3) := dk_132 4 1 (dk_at dksX2_holes_2 6 rfl rfl)
theorem dX2_holes_56 : decode cX2_holes 56 = .ok (.goto (-31), 3) := dk_167 255 225 (dk_at dksX2_holes_2 9 rfl rfl)
theorem dX2_holes_59 : decode cX2_holes 59 = .ok (.iload_n 3, 1) := dk_29 (dk_at dksX2_holes_2 12 rfl rfl)
theorem dX2_holes_60 : decode cX2_holes 60 = .ok (.iconst 3, 1) := dk_6 (dk_at dksX2_holes_2 13 rfl rfl)
theorem dX2_holes_61 : decode cX2_holes 61 = .ok (.if_icmp .le 6, 3) := dk_164 0 6 (dk_at dksX2_holes_2 14 rfl rfl)
theorem dX2_holes_64 : decode cX2_holes 64 = .ok (.bipush (-4), 2) := dk_16 252 (dk_at dksX2_holes_2 17 rfl rfl)
theorem dX2_holes_66 : decode cX2_holes 66 = .ok (.ireturn, 1) := dk_172 (dk_at dksX2_holes_2 19 rfl rfl)
theorem dX2_holes_67 : decode cX2_holes 67 = .ok (.iconst 1, 1) := dk_4 (dk_at dksX2_holes_2 20 rfl rfl)
theorem dX2_holes_68 : decode cX2_holes 68 = .ok (.istore 4, 2) := dk_54 4 (dk_at dksX2_holes_2 21 rfl rfl)
theorem dX2_holes_70 : decode cX2_holes 70 = .ok (.iconst 0, 1) := dk_3 (dk_at dksX2_holes_2 23 rfl rfl)
theorem dX2_holes_71 : decode cX2_holes 71 = .ok (.istore 5, 2) := dk_54 5 (dk_at dksX2_holes_3 0 rfl rfl)
theorem dX2_holes_73 : decode cX2_holes 73 = .ok (.iload 5, 2) := dk_21 5 (dk_at dksX2_holes_3 2 rfl rfl)
theorem dX2_holes_75 : decode cX2_holes 75 = .ok (.iload_n 3, 1) := dk_29 (dk_at dksX2_holes_3 4 rfl rfl)
theorem dX2_holes_76 : decode cX2_holes 76 = .ok (.if_icmp .ge 18, 3) := dk_162 0 18 (dk_at dksX2_holes_3 5 rfl rfl)
theorem dX2_holes_79 : decode cX2_holes 79 = .ok (.iload 4, 2) := dk_21 4 (dk_at dksX2_holes_3 8 rfl rfl)
theorem dX2_holes_81 : decode cX2_holes 81 = .ok (.aload_n 0, 1) := dk_42 (dk_at dksX2_holes_3 10 rfl rfl)
theorem dX2_holes_82 : decode cX2_holes 82 = .ok (.getfield 149, 3) := dk_180 0 149 (dk_at dksX2_holes_3 11 rfl rfl)
theorem dX2_holes_85 : decode cX2_holes 85 = .ok (.imul, 1) := dk_104 (dk_at dksX2_holes_3 14 rfl rfl)
theorem dX2_holes_86 : decode cX2_holes 86 = .ok (.istore 4, 2) := dk_54 4 (dk_at dksX2_holes_3 15 rfl rfl)
theorem dX2_holes_88 : decode cX2_holes 88 = .ok (.iinc 5 1, 3) := dk_132 5 1 (dk_at dksX2_holes_3 17 rfl rfl)
theorem dX2_holes_91 : decode cX2_holes 91 = .ok (.goto (-18), 3) := dk_167 255 238 (dk_at dksX2_holes_3 20 rfl rfl)
theorem dX2_holes_94 : decode cX2_holes 94 = .ok (.iconst 0, 1) := dk_3 (dk_at dksX2_holes_3 23 rfl rfl)
theorem dX2_holes_95 : decode cX2_holes 95 = .ok (.istore 5, 2) := dk_54 5 (dk_at dksX2_holes_4 0 rfl rfl)
theorem dX2_holes_97 : decode cX2_holes 97 = .ok (.iconst (-1), 1) := dk_2 (dk_at dksX2_holes_4 2 rfl rfl)
theorem dX2_holes_98 : decode cX2_holes 98 = .ok (.istore 6, 2) := dk_54 6 (dk_at dksX2_holes_4 3 rfl rfl)
theorem dX2_holes_100 : decode cX2_holes 100 = .ok (.iconst 0, 1) := dk_3 (dk_at dksX2_holes_4 5 rfl rfl)
theorem dX2_holes_101 : decode cX2_holes 101 = .ok (.istore 7, 2) := dk_54 7 (dk_at dksX2_holes_4 6 rfl rfl)
theorem dX2_holes_103 : decode cX2_holes 103 = .ok (.iload 7, 2) := dk_21 7 (dk_at dksX2_holes_4 8 rfl rfl)
theorem dX2_holes_105 : decode cX2_holes 105 = .ok (.iload 4, 2) := dk_21 4 (dk_at dksX2_holes_4 10 rfl rfl)
theorem dX2_holes_107 : decode cX2_holes 107 = .ok (.if_icmp .ge 71, 3) := dk_162 0 71 (dk_at dksX2_holes_4 12 rfl rfl)
theorem dX2_holes_110 : decode cX2_holes 110 = .ok (.aload_n 0, 1) := dk_42 (dk_at dksX2_holes_4 15 rfl rfl)
theorem dX2_holes_111 : decode cX2_holes 111 = .ok (.iload 7, 2) := dk_21 7 (dk_at dksX2_holes_4 16 rfl rfl)
theorem dX2_holes_113 : decode cX2_holes 113 = .ok (.invokevirtual 296, 3) := dk_182 1 40 (dk_at dksX2_holes_4 18 rfl rfl)
theorem dX2_holes_116 : decode cX2_holes 116 = .ok (.aload_n 0, 1) := dk_42 (dk_at dksX2_holes_4 21 rfl rfl)
theorem dX2_holes_117 : decode cX2_holes 117 = .ok (.invokevirtual 241, 3) := dk_182 0 241 (dk_at dksX2_holes_5 0 rfl rfl)
theorem dX2_holes_120 : decode cX2_holes 120 = .ok (.ifCond .eq 15, 3) := dk_153 0 15 (dk_at dksX2_holes_5 3 rfl rfl)
theorem dX2_holes_123 : decode cX2_holes 123 = .ok (.aload_n 0, 1) := dk_42 (dk_at dksX2_holes_5 6 rfl rfl)
theorem dX2_holes_124 : decode cX2_holes 124 = .ok (.invokevirtual 275, 3) := dk_182 1 19 (dk_at dksX2_holes_5 7 rfl rfl)
theorem dX2_holes_127 : decode cX2_holes 127 = .ok (.iload_n 1, 1) := dk_27 (dk_at dksX2_holes_5 10 rfl rfl)
theorem dX2_holes_128 : decode cX2_holes 128 = .ok (.if_icmp .ne 7, 3) := dk_160 0 7 (dk_at dksX2_holes_5 11 rfl rfl)
theorem dX2_holes_131 : decode cX2_holes 131 = .ok (.iconst 1, 1) := dk_4 (dk_at dksX2_holes_5 14 rfl rfl)
theorem dX2_holes_132 : decode cX2_holes 132 = .ok (.goto 4, 3) := dk_167 0 4 (dk_at dksX2_holes_5 15 rfl rfl)
theorem dX2_holes_135 : decode cX2_holes 135 = .ok (.iconst 0, 1) := dk_3 (dk_at dksX2_holes_5 18 rfl rfl)
theorem dX2_holes_136 : decode cX2_holes 136 = .ok (.istore 8, 2) := dk_54 8 (dk_at dksX2_holes_5 19 rfl rfl)
theorem dX2_holes_138 : decode cX2_holes 138 = .ok (.iload 8, 2) := dk_21 8 (dk_at dksX2_holes_5 21 rfl rfl)
theorem dX2_holes_140 : decode cX2_holes 140 = .ok (.ifCond .eq 13, 3) := dk_153 0 13 (dk_at dksX2_holes_6 0 rfl rfl)
theorem dX2_holes_143 : decode cX2_holes 143 = .ok (.iload 5, 2) := dk_21 5 (dk_at dksX2_holes_6 3 rfl rfl)
theorem dX2_holes_145 : decode cX2_holes 145 = .ok (.ifCond .ne 8, 3) := dk_154 0 8 (dk_at dksX2_holes_6 5 rfl rfl)
theorem dX2_holes_148 : decode cX2_holes 148 = .ok (.iload 7, 2) := dk_21 7 (dk_at dksX2_holes_6 8 rfl rfl)
theorem dX2_holes_150 : decode cX2_holes 150 = .ok (.goto 5, 3) := dk_167 0 5 (dk_at dksX2_holes_6 10 rfl rfl)
theorem dX2_holes_153 : decode cX2_holes 153 = .ok (.iload 6, 2) := dk_21 6 (dk_at dksX2_holes_6 13 rfl rfl)
theorem dX2_holes_155 : decode cX2_holes 155 = .ok (.istore 6, 2) := dk_54 6 (dk_at dksX2_holes_6 15 rfl rfl)
theorem dX2_holes_157 : decode cX2_holes 157 = .ok (.iload 5, 2) := dk_21 5 (dk_at dksX2_holes_6 17 rfl rfl)
theorem dX2_holes_159 : decode cX2_holes 159 = .ok (.iload 8, 2) := dk_21 8 (dk_at dksX2_holes_6 19 rfl rfl)
theorem dX2_holes_161 : decode cX2_holes 161 = .ok (.ifCond .eq 7, 3) := dk_153 0 7 (dk_at dksX2_holes_6 21 rfl rfl)
theorem dX2_holes_164 : decode cX2_holes 164 = .ok (.iconst 1, 1) := dk_4 (dk_at dksX2_holes_7 0 rfl rfl)
theorem dX2_holes_165 : decode cX2_holes 165 = .ok (.goto 4, 3) := dk_167 0 4 (dk_at dksX2_holes_7 1 rfl rfl)
theorem dX2_holes_168 : decode cX2_holes 168 = .ok (.iconst 0, 1) := dk_3 (dk_at dksX2_holes_7 4 rfl rfl)
theorem dX2_holes_169 : decode cX2_holes 169 = .ok (.iadd, 1) := dk_96 (dk_at dksX2_holes_7 5 rfl rfl)
theorem dX2_holes_170 : decode cX2_holes 170 = .ok (.istore 5, 2) := dk_54 5 (dk_at dksX2_holes_7 6 rfl rfl)
theorem dX2_holes_172 : decode cX2_holes 172 = .ok (.iinc 7 1, 3) := dk_132 7 1 (dk_at dksX2_holes_7 8 rfl rfl)
theorem dX2_holes_175 : decode cX2_holes 175 = .ok (.goto (-72), 3) := dk_167 255 184 (dk_at dksX2_holes_7 11 rfl rfl)
theorem dX2_holes_178 : decode cX2_holes 178 = .ok (.iload_n 2, 1) := dk_28 (dk_at dksX2_holes_7 14 rfl rfl)
theorem dX2_holes_179 : decode cX2_holes 179 = .ok (.iconst (-1), 1) := dk_2 (dk_at dksX2_holes_7 15 rfl rfl)
theorem dX2_holes_180 : decode cX2_holes 180 = .ok (.if_icmp .ne 6, 3) := dk_160 0 6 (dk_at dksX2_holes_7 16 rfl rfl)
theorem dX2_holes_183 : decode cX2_holes 183 = .ok (.iload 5, 2) := dk_21 5 (dk_at dksX2_holes_7 19 rfl rfl)
theorem dX2_holes_185 : decode cX2_holes 185 = .ok (.ireturn, 1) := dk_172 (dk_at dksX2_holes_7 21 rfl rfl)
theorem dX2_holes_186 : decode cX2_holes 186 = .ok (.iload 5, 2) := dk_21 5 (dk_at dksX2_holes_7 22 rfl rfl)
theorem dX2_holes_188 : decode cX2_holes 188 = .ok (.ifCond .eq 8, 3) := dk_153 0 8 (dk_at dksX2_holes_8 0 rfl rfl)
theorem dX2_holes_191 : decode cX2_holes 191 = .ok (.iload_n 2, 1) := dk_28 (dk_at dksX2_holes_8 3 rfl rfl)
theorem dX2_holes_192 : decode cX2_holes 192 = .ok (.iload_n 3, 1) := dk_29 (dk_at dksX2_holes_8 4 rfl rfl)
theorem dX2_holes_193 : decode cX2_holes 193 = .ok (.if_icmp .lt 5, 3) := dk_161 0 5 (dk_at dksX2_holes_8 5 rfl rfl)
theorem dX2_holes_196 : decode cX2_holes 196 = .ok (.iconst (-1), 1) := dk_2 (dk_at dksX2_holes_8 8 rfl rfl)
theorem dX2_holes_197 : decode cX2_holes 197 = .ok (.ireturn, 1) := dk_172 (dk_at dksX2_holes_8 9 rfl rfl)
theorem dX2_holes_198 : decode cX2_holes 198 = .ok (.iload 6, 2) := dk_21 6 (dk_at dksX2_holes_8 10 rfl rfl)
theorem dX2_holes_200 : decode cX2_holes 200 = .ok (.istore 7, 2) := dk_54 7 (dk_at dksX2_holes_8 12 rfl rfl)
theorem dX2_holes_202 : decode cX2_holes 202 = .ok (.iload_n 3, 1) := dk_29 (dk_at dksX2_holes_8 14 rfl rfl)
theorem dX2_holes_203 : decode cX2_holes 203 = .ok (.iconst 1, 1) := dk_4 (dk_at dksX2_holes_8 15 rfl rfl)
theorem dX2_holes_204 : decode cX2_holes 204 = .ok (.isub, 1) := dk_100 (dk_at dksX2_holes_8 16 rfl rfl)
theorem dX2_holes_205 : decode cX2_holes 205 = .ok (.istore 8, 2) := dk_54 8 (dk_at dksX2_holes_8 17 rfl rfl)
theorem dX2_holes_207 : decode cX2_holes 207 = .ok (.iload 8, 2) := dk_21 8 (dk_at dksX2_holes_8 19 rfl rfl)
theorem dX2_holes_209 : decode cX2_holes 209 = .ok (.iload_n 2, 1) := dk_28 (dk_at dksX2_holes_8 21 rfl rfl)
theorem dX2_holes_210 : decode cX2_holes 210 = .ok (.if_icmp .le 18, 3) := dk_164 0 18 (dk_at dksX2_holes_9 0 rfl rfl)
theorem dX2_holes_213 : decode cX2_holes 213 = .ok (.iload 7, 2) := dk_21 7 (dk_at dksX2_holes_9 3 rfl rfl)
theorem dX2_holes_215 : decode cX2_holes 215 = .ok (.aload_n 0, 1) := dk_42 (dk_at dksX2_holes_9 5 rfl rfl)
theorem dX2_holes_216 : decode cX2_holes 216 = .ok (.getfield 149, 3) := dk_180 0 149 (dk_at dksX2_holes_9 6 rfl rfl)
theorem dX2_holes_219 : decode cX2_holes 219 = .ok (.idiv, 1) := dk_108 (dk_at dksX2_holes_9 9 rfl rfl)
theorem dX2_holes_220 : decode cX2_holes 220 = .ok (.istore 7, 2) := dk_54 7 (dk_at dksX2_holes_9 10 rfl rfl)
theorem dX2_holes_222 : decode cX2_holes 222 = .ok (.iinc 8 (-1), 3) := dk_132 8 255 (dk_at dksX2_holes_9 12 rfl rfl)
theorem dX2_holes_225 : decode cX2_holes 225 = .ok (.goto (-18), 3) := dk_167 255 238 (dk_at dksX2_holes_9 15 rfl rfl)
theorem dX2_holes_228 : decode cX2_holes 228 = .ok (.iload 7, 2) := dk_21 7 (dk_at dksX2_holes_9 18 rfl rfl)
theorem dX2_holes_230 : decode cX2_holes 230 = .ok (.aload_n 0, 1) := dk_42 (dk_at dksX2_holes_9 20 rfl rfl)
theorem dX2_holes_231 : decode cX2_holes 231 = .ok (.getfield 149, 3) := dk_180 0 149 (dk_at dksX2_holes_9 21 rfl rfl)
theorem dX2_holes_234 : decode cX2_holes 234 = .ok (.irem, 1) := dk_112 (dk_at dksX2_holes_10 0 rfl rfl)
theorem dX2_holes_235 : decode cX2_holes 235 = .ok (.ireturn, 1) := dk_172 (dk_at dksX2_holes_10 1 rfl rfl)
abbrev cX2_layFilled : ByteArray := prog_19_method_70_code
def yX2_layFilled : MethodName := ⟨RX2, "layFilled", "(I)V"⟩
def dkwX2_layFilled_2 : List UInt8 := [132, 3, 255, 167, 255, 220, 177]
abbrev dktX2_layFilled_2 : List UInt8 := dkwX2_layFilled_2 ++ []
def dkwX2_layFilled_1 : List UInt8 := [160, 0, 22, 42, 180, 0, 51, 29, 28, 42, 180, 0, 149, 112, 79, 28, 42, 180, 0, 149, 108, 61]
abbrev dktX2_layFilled_1 : List UInt8 := dkwX2_layFilled_1 ++ dktX2_layFilled_2
def dkwX2_layFilled_0 : List UInt8 := [27, 61, 42, 182, 0, 236, 42, 180, 0, 185, 4, 100, 62, 29, 155, 0, 38, 42, 180, 0, 42, 29, 46, 2]
abbrev dktX2_layFilled_0 : List UInt8 := dkwX2_layFilled_0 ++ dktX2_layFilled_1
theorem dksX2_layFilled_0 : cX2_layFilled.data.toList.drop 0 = dktX2_layFilled_0 := by decide +kernel
theorem dksX2_layFilled_1 : cX2_layFilled.data.toList.drop 24 = dktX2_layFilled_1 := dk_seg dksX2_layFilled_0 24 rfl rfl
theorem dksX2_layFilled_2 : cX2_layFilled.data.toList.drop 46 = dktX2_layFilled_2 := dk_seg dksX2_layFilled_1 22 rfl rfl
theorem dX2_layFilled_0 : decode cX2_layFilled 0 = .ok (.iload_n 1, 1) := dk_27 (dk_at dksX2_layFilled_0 0 rfl rfl)
theorem dX2_layFilled_1 : decode cX2_layFilled 1 = .ok (.istore_n 2, 1) := dk_61 (dk_at dksX2_layFilled_0 1 rfl rfl)
theorem dX2_layFilled_2 : decode cX2_layFilled 2 = .ok (.aload_n 0, 1) := dk_42 (dk_at dksX2_layFilled_0 2 rfl rfl)
theorem dX2_layFilled_3 : decode cX2_layFilled 3 = .ok (.invokevirtual 236, 3) := dk_182 0 236 (dk_at dksX2_layFilled_0 3 rfl rfl)
theorem dX2_layFilled_6 : decode cX2_layFilled 6 = .ok (.aload_n 0, 1) := dk_42 (dk_at dksX2_layFilled_0 6 rfl rfl)
theorem dX2_layFilled_7 : decode cX2_layFilled 7 = .ok (.getfield 185, 3) := dk_180 0 185 (dk_at dksX2_layFilled_0 7 rfl rfl)
theorem dX2_layFilled_10 : decode cX2_layFilled 10 = .ok (.iconst 1, 1) := dk_4 (dk_at dksX2_layFilled_0 10 rfl rfl)
theorem dX2_layFilled_11 : decode cX2_layFilled 11 = .ok (.isub, 1) := dk_100 (dk_at dksX2_layFilled_0 11 rfl rfl)
theorem dX2_layFilled_12 : decode cX2_layFilled 12 = .ok (.istore_n 3, 1) := dk_62 (dk_at dksX2_layFilled_0 12 rfl rfl)
theorem dX2_layFilled_13 : decode cX2_layFilled 13 = .ok (.iload_n 3, 1) := dk_29 (dk_at dksX2_layFilled_0 13 rfl rfl)
theorem dX2_layFilled_14 : decode cX2_layFilled 14 = .ok (.ifCond .lt 38, 3) := dk_155 0 38 (dk_at dksX2_layFilled_0 14 rfl rfl)
theorem dX2_layFilled_17 : decode cX2_layFilled 17 = .ok (.aload_n 0, 1) := dk_42 (dk_at dksX2_layFilled_0 17 rfl rfl)
theorem dX2_layFilled_18 : decode cX2_layFilled 18 = .ok (.getfield 42, 3) := dk_180 0 42 (dk_at dksX2_layFilled_0 18 rfl rfl)
theorem dX2_layFilled_21 : decode cX2_layFilled 21 = .ok (.iload_n 3, 1) := dk_29 (dk_at dksX2_layFilled_0 21 rfl rfl)
theorem dX2_layFilled_22 : decode cX2_layFilled 22 = .ok (.iaload, 1) := dk_46 (dk_at dksX2_layFilled_0 22 rfl rfl)
theorem dX2_layFilled_23 : decode cX2_layFilled 23 = .ok (.iconst (-1), 1) := dk_2 (dk_at dksX2_layFilled_0 23 rfl rfl)
theorem dX2_layFilled_24 : decode cX2_layFilled 24 = .ok (.if_icmp .ne 22, 3) := dk_160 0 22 (dk_at dksX2_layFilled_1 0 rfl rfl)
theorem dX2_layFilled_27 : decode cX2_layFilled 27 = .ok (.aload_n 0, 1) := dk_42 (dk_at dksX2_layFilled_1 3 rfl rfl)
theorem dX2_layFilled_28 : decode cX2_layFilled 28 = .ok (.getfield 51, 3) := dk_180 0 51 (dk_at dksX2_layFilled_1 4 rfl rfl)
theorem dX2_layFilled_31 : decode cX2_layFilled 31 = .ok (.iload_n 3, 1) := dk_29 (dk_at dksX2_layFilled_1 7 rfl rfl)
theorem dX2_layFilled_32 : decode cX2_layFilled 32 = .ok (.iload_n 2, 1) := dk_28 (dk_at dksX2_layFilled_1 8 rfl rfl)
theorem dX2_layFilled_33 : decode cX2_layFilled 33 = .ok (.aload_n 0, 1) := dk_42 (dk_at dksX2_layFilled_1 9 rfl rfl)
theorem dX2_layFilled_34 : decode cX2_layFilled 34 = .ok (.getfield 149, 3) := dk_180 0 149 (dk_at dksX2_layFilled_1 10 rfl rfl)
theorem dX2_layFilled_37 : decode cX2_layFilled 37 = .ok (.irem, 1) := dk_112 (dk_at dksX2_layFilled_1 13 rfl rfl)
theorem dX2_layFilled_38 : decode cX2_layFilled 38 = .ok (.iastore, 1) := dk_79 (dk_at dksX2_layFilled_1 14 rfl rfl)
theorem dX2_layFilled_39 : decode cX2_layFilled 39 = .ok (.iload_n 2, 1) := dk_28 (dk_at dksX2_layFilled_1 15 rfl rfl)
theorem dX2_layFilled_40 : decode cX2_layFilled 40 = .ok (.aload_n 0, 1) := dk_42 (dk_at dksX2_layFilled_1 16 rfl rfl)
theorem dX2_layFilled_41 : decode cX2_layFilled 41 = .ok (.getfield 149, 3) := dk_180 0 149 (dk_at dksX2_layFilled_1 17 rfl rfl)
theorem dX2_layFilled_44 : decode cX2_layFilled 44 = .ok (.idiv, 1) := dk_108 (dk_at dksX2_layFilled_1 20 rfl rfl)
theorem dX2_layFilled_45 : decode cX2_layFilled 45 = .ok (.istore_n 2, 1) := dk_61 (dk_at dksX2_layFilled_1 21 rfl rfl)
theorem dX2_layFilled_46 : decode cX2_layFilled 46 = .ok (.iinc 3 (-1), 3) := dk_132 3 255 (dk_at dksX2_layFilled_2 0 rfl rfl)
theorem dX2_layFilled_49 : decode cX2_layFilled 49 = .ok (.goto (-36), 3) := dk_167 255 220 (dk_at dksX2_layFilled_2 3 rfl rfl)
theorem dX2_layFilled_52 : decode cX2_layFilled 52 = .ok (.return_, 1) := dk_177 (dk_at dksX2_layFilled_2 6 rfl rfl)
abbrev cX2_draft : ByteArray := prog_19_method_72_code
def yX2_draft : MethodName := ⟨RX2, "draft", "()I"⟩
def dkwX2_draft_4 : List UInt8 := [181, 0, 188, 42, 180, 0, 188, 172]
abbrev dktX2_draft_4 : List UInt8 := dkwX2_draft_4 ++ []
def dkwX2_draft_3 : List UInt8 := [167, 255, 225, 42, 180, 0, 48, 42, 180, 0, 188, 42, 180, 0, 185, 79, 42, 89, 180, 0, 188, 4, 96]
abbrev dktX2_draft_3 : List UInt8 := dkwX2_draft_3 ++ dktX2_draft_4
def dkwX2_draft_2 : List UInt8 := [180, 0, 45, 16, 8, 42, 180, 0, 188, 104, 27, 96, 42, 180, 0, 42, 27, 46, 79, 132, 1, 1]
abbrev dktX2_draft_2 : List UInt8 := dkwX2_draft_2 ++ dktX2_draft_3
def dkwX2_draft_1 : List UInt8 := [180, 0, 188, 16, 6, 160, 0, 6, 16, 251, 172, 3, 60, 27, 42, 180, 0, 185, 162, 0, 29, 42]
abbrev dktX2_draft_1 : List UInt8 := dkwX2_draft_1 ++ dktX2_draft_2
def dkwX2_draft_0 : List UInt8 := [42, 182, 0, 236, 42, 180, 0, 194, 153, 0, 10, 42, 182, 0, 222, 153, 0, 6, 16, 252, 172, 42]
abbrev dktX2_draft_0 : List UInt8 := dkwX2_draft_0 ++ dktX2_draft_1
theorem dksX2_draft_0 : cX2_draft.data.toList.drop 0 = dktX2_draft_0 := by decide +kernel
theorem dksX2_draft_1 : cX2_draft.data.toList.drop 22 = dktX2_draft_1 := dk_seg dksX2_draft_0 22 rfl rfl
theorem dksX2_draft_2 : cX2_draft.data.toList.drop 44 = dktX2_draft_2 := dk_seg dksX2_draft_1 22 rfl rfl
theorem dksX2_draft_3 : cX2_draft.data.toList.drop 66 = dktX2_draft_3 := dk_seg dksX2_draft_2 22 rfl rfl
theorem dksX2_draft_4 : cX2_draft.data.toList.drop 89 = dktX2_draft_4 := dk_seg dksX2_draft_3 23 rfl rfl
theorem dX2_draft_0 : decode cX2_draft 0 = .ok (.aload_n 0, 1) := dk_42 (dk_at dksX2_draft_0 0 rfl rfl)
theorem dX2_draft_1 : decode cX2_draft 1 = .ok (.invokevirtual 236, 3) := dk_182 0 236 (dk_at dksX2_draft_0 1 rfl rfl)
theorem dX2_draft_4 : decode cX2_draft 4 = .ok (.aload_n 0, 1) := dk_42 (dk_at dksX2_draft_0 4 rfl rfl)
theorem dX2_draft_5 : decode cX2_draft 5 = .ok (.getfield 194, 3) := dk_180 0 194 (dk_at dksX2_draft_0 5 rfl rfl)
theorem dX2_draft_8 : decode cX2_draft 8 = .ok (.ifCond .eq 10, 3) := dk_153 0 10 (dk_at dksX2_draft_0 8 rfl rfl)
theorem dX2_draft_11 : decode cX2_draft 11 = .ok (.aload_n 0, 1) := dk_42 (dk_at dksX2_draft_0 11 rfl rfl)
theorem dX2_draft_12 : decode cX2_draft 12 = .ok (.invokevirtual 222, 3) := dk_182 0 222 (dk_at dksX2_draft_0 12 rfl rfl)
theorem dX2_draft_15 : decode cX2_draft 15 = .ok (.ifCond .eq 6, 3) := dk_153 0 6 (dk_at dksX2_draft_0 15 rfl rfl)
theorem dX2_draft_18 : decode cX2_draft 18 = .ok (.bipush (-4), 2) := dk_16 252 (dk_at dksX2_draft_0 18 rfl rfl)
theorem dX2_draft_20 : decode cX2_draft 20 = .ok (.ireturn, 1) := dk_172 (dk_at dksX2_draft_0 20 rfl rfl)
theorem dX2_draft_21 : decode cX2_draft 21 = .ok (.aload_n 0, 1) := dk_42 (dk_at dksX2_draft_0 21 rfl rfl)
theorem dX2_draft_22 : decode cX2_draft 22 = .ok (.getfield 188, 3) := dk_180 0 188 (dk_at dksX2_draft_1 0 rfl rfl)
theorem dX2_draft_25 : decode cX2_draft 25 = .ok (.bipush 6, 2) := dk_16 6 (dk_at dksX2_draft_1 3 rfl rfl)
theorem dX2_draft_27 : decode cX2_draft 27 = .ok (.if_icmp .ne 6, 3) := dk_160 0 6 (dk_at dksX2_draft_1 5 rfl rfl)
theorem dX2_draft_30 : decode cX2_draft 30 = .ok (.bipush (-5), 2) := dk_16 251 (dk_at dksX2_draft_1 8 rfl rfl)
theorem dX2_draft_32 : decode cX2_draft 32 = .ok (.ireturn, 1) := dk_172 (dk_at dksX2_draft_1 10 rfl rfl)
theorem dX2_draft_33 : decode cX2_draft 33 = .ok (.iconst 0, 1) := dk_3 (dk_at dksX2_draft_1 11 rfl rfl)
theorem dX2_draft_34 : decode cX2_draft 34 = .ok (.istore_n 1, 1) := dk_60 (dk_at dksX2_draft_1 12 rfl rfl)
theorem dX2_draft_35 : decode cX2_draft 35 = .ok (.iload_n 1, 1) := dk_27 (dk_at dksX2_draft_1 13 rfl rfl)
theorem dX2_draft_36 : decode cX2_draft 36 = .ok (.aload_n 0, 1) := dk_42 (dk_at dksX2_draft_1 14 rfl rfl)
theorem dX2_draft_37 : decode cX2_draft 37 = .ok (.getfield 185, 3) := dk_180 0 185 (dk_at dksX2_draft_1 15 rfl rfl)
theorem dX2_draft_40 : decode cX2_draft 40 = .ok (.if_icmp .ge 29, 3) := dk_162 0 29 (dk_at dksX2_draft_1 18 rfl rfl)
theorem dX2_draft_43 : decode cX2_draft 43 = .ok (.aload_n 0, 1) := dk_42 (dk_at dksX2_draft_1 21 rfl rfl)
theorem dX2_draft_44 : decode cX2_draft 44 = .ok (.getfield 45, 3) := dk_180 0 45 (dk_at dksX2_draft_2 0 rfl rfl)
theorem dX2_draft_47 : decode cX2_draft 47 = .ok (.bipush 8, 2) := dk_16 8 (dk_at dksX2_draft_2 3 rfl rfl)
theorem dX2_draft_49 : decode cX2_draft 49 = .ok (.aload_n 0, 1) := dk_42 (dk_at dksX2_draft_2 5 rfl rfl)
theorem dX2_draft_50 : decode cX2_draft 50 = .ok (.getfield 188, 3) := dk_180 0 188 (dk_at dksX2_draft_2 6 rfl rfl)
theorem dX2_draft_53 : decode cX2_draft 53 = .ok (.imul, 1) := dk_104 (dk_at dksX2_draft_2 9 rfl rfl)
theorem dX2_draft_54 : decode cX2_draft 54 = .ok (.iload_n 1, 1) := dk_27 (dk_at dksX2_draft_2 10 rfl rfl)
theorem dX2_draft_55 : decode cX2_draft 55 = .ok (.iadd, 1) := dk_96 (dk_at dksX2_draft_2 11 rfl rfl)
theorem dX2_draft_56 : decode cX2_draft 56 = .ok (.aload_n 0, 1) := dk_42 (dk_at dksX2_draft_2 12 rfl rfl)
theorem dX2_draft_57 : decode cX2_draft 57 = .ok (.getfield 42, 3) := dk_180 0 42 (dk_at dksX2_draft_2 13 rfl rfl)
theorem dX2_draft_60 : decode cX2_draft 60 = .ok (.iload_n 1, 1) := dk_27 (dk_at dksX2_draft_2 16 rfl rfl)
theorem dX2_draft_61 : decode cX2_draft 61 = .ok (.iaload, 1) := dk_46 (dk_at dksX2_draft_2 17 rfl rfl)
theorem dX2_draft_62 : decode cX2_draft 62 = .ok (.iastore, 1) := dk_79 (dk_at dksX2_draft_2 18 rfl rfl)
theorem dX2_draft_63 : decode cX2_draft 63 = .ok (.iinc 1 1, 3) := dk_132 1 1 (dk_at dksX2_draft_2 19 rfl rfl)
theorem dX2_draft_66 : decode cX2_draft 66 = .ok (.goto (-31), 3) := dk_167 255 225 (dk_at dksX2_draft_3 0 rfl rfl)
theorem dX2_draft_69 : decode cX2_draft 69 = .ok (.aload_n 0, 1) := dk_42 (dk_at dksX2_draft_3 3 rfl rfl)
theorem dX2_draft_70 : decode cX2_draft 70 = .ok (.getfield 48, 3) := dk_180 0 48 (dk_at dksX2_draft_3 4 rfl rfl)
theorem dX2_draft_73 : decode cX2_draft 73 = .ok (.aload_n 0, 1) := dk_42 (dk_at dksX2_draft_3 7 rfl rfl)
theorem dX2_draft_74 : decode cX2_draft 74 = .ok (.getfield 188, 3) := dk_180 0 188 (dk_at dksX2_draft_3 8 rfl rfl)
theorem dX2_draft_77 : decode cX2_draft 77 = .ok (.aload_n 0, 1) := dk_42 (dk_at dksX2_draft_3 11 rfl rfl)
theorem dX2_draft_78 : decode cX2_draft 78 = .ok (.getfield 185, 3) := dk_180 0 185 (dk_at dksX2_draft_3 12 rfl rfl)
theorem dX2_draft_81 : decode cX2_draft 81 = .ok (.iastore, 1) := dk_79 (dk_at dksX2_draft_3 15 rfl rfl)
theorem dX2_draft_82 : decode cX2_draft 82 = .ok (.aload_n 0, 1) := dk_42 (dk_at dksX2_draft_3 16 rfl rfl)
theorem dX2_draft_83 : decode cX2_draft 83 = .ok (.dup, 1) := dk_89 (dk_at dksX2_draft_3 17 rfl rfl)
theorem dX2_draft_84 : decode cX2_draft 84 = .ok (.getfield 188, 3) := dk_180 0 188 (dk_at dksX2_draft_3 18 rfl rfl)
theorem dX2_draft_87 : decode cX2_draft 87 = .ok (.iconst 1, 1) := dk_4 (dk_at dksX2_draft_3 21 rfl rfl)
theorem dX2_draft_88 : decode cX2_draft 88 = .ok (.iadd, 1) := dk_96 (dk_at dksX2_draft_3 22 rfl rfl)
theorem dX2_draft_89 : decode cX2_draft 89 = .ok (.putfield 188, 3) := dk_181 0 188 (dk_at dksX2_draft_4 0 rfl rfl)
theorem dX2_draft_92 : decode cX2_draft 92 = .ok (.aload_n 0, 1) := dk_42 (dk_at dksX2_draft_4 3 rfl rfl)
theorem dX2_draft_93 : decode cX2_draft 93 = .ok (.getfield 188, 3) := dk_180 0 188 (dk_at dksX2_draft_4 4 rfl rfl)
theorem dX2_draft_96 : decode cX2_draft 96 = .ok (.ireturn, 1) := dk_172 (dk_at dksX2_draft_4 7 rfl rfl)
abbrev cX2_burn : ByteArray := prog_19_method_73_code
def yX2_burn : MethodName := ⟨RX2, "burn", "()I"⟩
def dkwX2_burn_0 : List UInt8 := [42, 180, 0, 188, 60, 42, 3, 181, 0, 188, 27, 172]
abbrev dktX2_burn_0 : List UInt8 := dkwX2_burn_0 ++ []
theorem dksX2_burn_0 : cX2_burn.data.toList.drop 0 = dktX2_burn_0 := by decide +kernel
theorem dX2_burn_0 : decode cX2_burn 0 = .ok (.aload_n 0, 1) := dk_42 (dk_at dksX2_burn_0 0 rfl rfl)
theorem dX2_burn_1 : decode cX2_burn 1 = .ok (.getfield 188, 3) := dk_180 0 188 (dk_at dksX2_burn_0 1 rfl rfl)
theorem dX2_burn_4 : decode cX2_burn 4 = .ok (.istore_n 1, 1) := dk_60 (dk_at dksX2_burn_0 4 rfl rfl)
theorem dX2_burn_5 : decode cX2_burn 5 = .ok (.aload_n 0, 1) := dk_42 (dk_at dksX2_burn_0 5 rfl rfl)
theorem dX2_burn_6 : decode cX2_burn 6 = .ok (.iconst 0, 1) := dk_3 (dk_at dksX2_burn_0 6 rfl rfl)
theorem dX2_burn_7 : decode cX2_burn 7 = .ok (.putfield 188, 3) := dk_181 0 188 (dk_at dksX2_burn_0 7 rfl rfl)
theorem dX2_burn_10 : decode cX2_burn 10 = .ok (.iload_n 1, 1) := dk_27 (dk_at dksX2_burn_0 10 rfl rfl)
theorem dX2_burn_11 : decode cX2_burn 11 = .ok (.ireturn, 1) := dk_172 (dk_at dksX2_burn_0 11 rfl rfl)
abbrev cX2_drafted : ByteArray := prog_19_method_74_code
def yX2_drafted : MethodName := ⟨RX2, "drafted", "(III)I"⟩
def dkwX2_drafted_3 : List UInt8 := [42, 182, 0, 250, 167, 0, 5, 16, 253, 172]
abbrev dktX2_drafted_3 : List UInt8 := dkwX2_drafted_3 ++ []
def dkwX2_drafted_2 : List UInt8 := [42, 42, 180, 0, 32, 28, 46, 42, 180, 0, 7, 3, 46, 182, 0, 219, 167, 0, 17, 29, 5, 160, 0, 10]
abbrev dktX2_drafted_2 : List UInt8 := dkwX2_drafted_2 ++ dktX2_drafted_3
def dkwX2_drafted_1 : List UInt8 := [16, 254, 172, 42, 27, 182, 1, 43, 29, 154, 0, 10, 42, 180, 0, 194, 167, 0, 41, 29, 4, 160, 0, 22]
abbrev dktX2_drafted_1 : List UInt8 := dkwX2_drafted_1 ++ dktX2_drafted_2
def dkwX2_drafted_0 : List UInt8 := [27, 133, 9, 42, 180, 0, 188, 4, 100, 133, 184, 0, 65, 153, 0, 11, 42, 28, 182, 0, 228, 154, 0, 6]
abbrev dktX2_drafted_0 : List UInt8 := dkwX2_drafted_0 ++ dktX2_drafted_1
theorem dksX2_drafted_0 : cX2_drafted.data.toList.drop 0 = dktX2_drafted_0 := by decide +kernel
theorem dksX2_drafted_1 : cX2_drafted.data.toList.drop 24 = dktX2_drafted_1 := dk_seg dksX2_drafted_0 24 rfl rfl
theorem dksX2_drafted_2 : cX2_drafted.data.toList.drop 48 = dktX2_drafted_2 := dk_seg dksX2_drafted_1 24 rfl rfl
theorem dksX2_drafted_3 : cX2_drafted.data.toList.drop 72 = dktX2_drafted_3 := dk_seg dksX2_drafted_2 24 rfl rfl
theorem dX2_drafted_0 : decode cX2_drafted 0 = .ok (.iload_n 1, 1) := dk_27 (dk_at dksX2_drafted_0 0 rfl rfl)
theorem dX2_drafted_1 : decode cX2_drafted 1 = .ok (.i2l, 1) := dk_133 (dk_at dksX2_drafted_0 1 rfl rfl)
theorem dX2_drafted_2 : decode cX2_drafted 2 = .ok (.lconst 0, 1) := dk_9 (dk_at dksX2_drafted_0 2 rfl rfl)
theorem dX2_drafted_3 : decode cX2_drafted 3 = .ok (.aload_n 0, 1) := dk_42 (dk_at dksX2_drafted_0 3 rfl rfl)
theorem dX2_drafted_4 : decode cX2_drafted 4 = .ok (.getfield 188, 3) := dk_180 0 188 (dk_at dksX2_drafted_0 4 rfl rfl)
theorem dX2_drafted_7 : decode cX2_drafted 7 = .ok (.iconst 1, 1) := dk_4 (dk_at dksX2_drafted_0 7 rfl rfl)
theorem dX2_drafted_8 : decode cX2_drafted 8 = .ok (.isub, 1) := dk_100 (dk_at dksX2_drafted_0 8 rfl rfl)
theorem dX2_drafted_9 : decode cX2_drafted 9 = .ok (.i2l, 1) := dk_133 (dk_at dksX2_drafted_0 9 rfl rfl)
theorem dX2_drafted_10 : decode cX2_drafted 10 = .ok (.invokestatic 65, 3) := dk_184 0 65 (dk_at dksX2_drafted_0 10 rfl rfl)
theorem dX2_drafted_13 : decode cX2_drafted 13 = .ok (.ifCond .eq 11, 3) := dk_153 0 11 (dk_at dksX2_drafted_0 13 rfl rfl)
theorem dX2_drafted_16 : decode cX2_drafted 16 = .ok (.aload_n 0, 1) := dk_42 (dk_at dksX2_drafted_0 16 rfl rfl)
theorem dX2_drafted_17 : decode cX2_drafted 17 = .ok (.iload_n 2, 1) := dk_28 (dk_at dksX2_drafted_0 17 rfl rfl)
theorem dX2_drafted_18 : decode cX2_drafted 18 = .ok (.invokevirtual 228, 3) := dk_182 0 228 (dk_at dksX2_drafted_0 18 rfl rfl)
theorem dX2_drafted_21 : decode cX2_drafted 21 = .ok (.ifCond .ne 6, 3) := dk_154 0 6 (dk_at dksX2_drafted_0 21 rfl rfl)
theorem dX2_drafted_24 : decode cX2_drafted 24 = .ok (.bipush (-2), 2) := dk_16 254 (dk_at dksX2_drafted_1 0 rfl rfl)
theorem dX2_drafted_26 : decode cX2_drafted 26 = .ok (.ireturn, 1) := dk_172 (dk_at dksX2_drafted_1 2 rfl rfl)
theorem dX2_drafted_27 : decode cX2_drafted 27 = .ok (.aload_n 0, 1) := dk_42 (dk_at dksX2_drafted_1 3 rfl rfl)
theorem dX2_drafted_28 : decode cX2_drafted 28 = .ok (.iload_n 1, 1) := dk_27 (dk_at dksX2_drafted_1 4 rfl rfl)
theorem dX2_drafted_29 : decode cX2_drafted 29 = .ok (.invokevirtual 299, 3) := dk_182 1 43 (dk_at dksX2_drafted_1 5 rfl rfl)
theorem dX2_drafted_32 : decode cX2_drafted 32 = .ok (.iload_n 3, 1) := dk_29 (dk_at dksX2_drafted_1 8 rfl rfl)
theorem dX2_drafted_33 : decode cX2_drafted 33 = .ok (.ifCond .ne 10, 3) := dk_154 0 10 (dk_at dksX2_drafted_1 9 rfl rfl)
theorem dX2_drafted_36 : decode cX2_drafted 36 = .ok (.aload_n 0, 1) := dk_42 (dk_at dksX2_drafted_1 12 rfl rfl)
theorem dX2_drafted_37 : decode cX2_drafted 37 = .ok (.getfield 194, 3) := dk_180 0 194 (dk_at dksX2_drafted_1 13 rfl rfl)
theorem dX2_drafted_40 : decode cX2_drafted 40 = .ok (.goto 41, 3) := dk_167 0 41 (dk_at dksX2_drafted_1 16 rfl rfl)
theorem dX2_drafted_43 : decode cX2_drafted 43 = .ok (.iload_n 3, 1) := dk_29 (dk_at dksX2_drafted_1 19 rfl rfl)
theorem dX2_drafted_44 : decode cX2_drafted 44 = .ok (.iconst 1, 1) := dk_4 (dk_at dksX2_drafted_1 20 rfl rfl)
theorem dX2_drafted_45 : decode cX2_drafted 45 = .ok (.if_icmp .ne 22, 3) := dk_160 0 22 (dk_at dksX2_drafted_1 21 rfl rfl)
theorem dX2_drafted_48 : decode cX2_drafted 48 = .ok (.aload_n 0, 1) := dk_42 (dk_at dksX2_drafted_2 0 rfl rfl)
theorem dX2_drafted_49 : decode cX2_drafted 49 = .ok (.aload_n 0, 1) := dk_42 (dk_at dksX2_drafted_2 1 rfl rfl)
theorem dX2_drafted_50 : decode cX2_drafted 50 = .ok (.getfield 32, 3) := dk_180 0 32 (dk_at dksX2_drafted_2 2 rfl rfl)
theorem dX2_drafted_53 : decode cX2_drafted 53 = .ok (.iload_n 2, 1) := dk_28 (dk_at dksX2_drafted_2 5 rfl rfl)
theorem dX2_drafted_54 : decode cX2_drafted 54 = .ok (.iaload, 1) := dk_46 (dk_at dksX2_drafted_2 6 rfl rfl)
theorem dX2_drafted_55 : decode cX2_drafted 55 = .ok (.aload_n 0, 1) := dk_42 (dk_at dksX2_drafted_2 7 rfl rfl)
theorem dX2_drafted_56 : decode cX2_drafted 56 = .ok (.getfield 7, 3) := dk_180 0 7 (dk_at dksX2_drafted_2 8 rfl rfl)
theorem dX2_drafted_59 : decode cX2_drafted 59 = .ok (.iconst 0, 1) := dk_3 (dk_at dksX2_drafted_2 11 rfl rfl)
theorem dX2_drafted_60 : decode cX2_drafted 60 = .ok (.iaload, 1) := dk_46 (dk_at dksX2_drafted_2 12 rfl rfl)
theorem dX2_drafted_61 : decode cX2_drafted 61 = .ok (.invokevirtual 219, 3) := dk_182 0 219 (dk_at dksX2_drafted_2 13 rfl rfl)
theorem dX2_drafted_64 : decode cX2_drafted 64 = .ok (.goto 17, 3) := dk_167 0 17 (dk_at dksX2_drafted_2 16 rfl rfl)
theorem dX2_drafted_67 : decode cX2_drafted 67 = .ok (.iload_n 3, 1) := dk_29 (dk_at dksX2_drafted_2 19 rfl rfl)
theorem dX2_drafted_68 : decode cX2_drafted 68 = .ok (.iconst 2, 1) := dk_5 (dk_at dksX2_drafted_2 20 rfl rfl)
theorem dX2_drafted_69 : decode cX2_drafted 69 = .ok (.if_icmp .ne 10, 3) := dk_160 0 10 (dk_at dksX2_drafted_2 21 rfl rfl)
theorem dX2_drafted_72 : decode cX2_drafted 72 = .ok (.aload_n 0, 1) := dk_42 (dk_at dksX2_drafted_3 0 rfl rfl)
theorem dX2_drafted_73 : decode cX2_drafted 73 = .ok (.invokevirtual 250, 3) := dk_182 0 250 (dk_at dksX2_drafted_3 1 rfl rfl)
theorem dX2_drafted_76 : decode cX2_drafted 76 = .ok (.goto 5, 3) := dk_167 0 5 (dk_at dksX2_drafted_3 4 rfl rfl)
theorem dX2_drafted_79 : decode cX2_drafted 79 = .ok (.bipush (-3), 2) := dk_16 253 (dk_at dksX2_drafted_3 7 rfl rfl)
theorem dX2_drafted_81 : decode cX2_drafted 81 = .ok (.ireturn, 1) := dk_172 (dk_at dksX2_drafted_3 9 rfl rfl)
abbrev cX2_layDraft : ByteArray := prog_19_method_29_code
def yX2_layDraft : MethodName := ⟨RX2, "layDraft", "(I)V"⟩
def dkwX2_layDraft_1 : List UInt8 := [104, 28, 96, 46, 79, 132, 2, 1, 167, 255, 226, 42, 42, 180, 0, 48, 27, 46, 181, 0, 194, 177]
abbrev dktX2_layDraft_1 : List UInt8 := dkwX2_layDraft_1 ++ []
def dkwX2_layDraft_0 : List UInt8 := [3, 61, 28, 42, 180, 0, 48, 27, 46, 162, 0, 26, 42, 180, 0, 51, 28, 42, 180, 0, 45, 16, 8, 27]
abbrev dktX2_layDraft_0 : List UInt8 := dkwX2_layDraft_0 ++ dktX2_layDraft_1
theorem dksX2_layDraft_0 : cX2_layDraft.data.toList.drop 0 = dktX2_layDraft_0 := by decide +kernel
theorem dksX2_layDraft_1 : cX2_layDraft.data.toList.drop 24 = dktX2_layDraft_1 := dk_seg dksX2_layDraft_0 24 rfl rfl
theorem dX2_layDraft_0 : decode cX2_layDraft 0 = .ok (.iconst 0, 1) := dk_3 (dk_at dksX2_layDraft_0 0 rfl rfl)
theorem dX2_layDraft_1 : decode cX2_layDraft 1 = .ok (.istore_n 2, 1) := dk_61 (dk_at dksX2_layDraft_0 1 rfl rfl)
theorem dX2_layDraft_2 : decode cX2_layDraft 2 = .ok (.iload_n 2, 1) := dk_28 (dk_at dksX2_layDraft_0 2 rfl rfl)
theorem dX2_layDraft_3 : decode cX2_layDraft 3 = .ok (.aload_n 0, 1) := dk_42 (dk_at dksX2_layDraft_0 3 rfl rfl)
theorem dX2_layDraft_4 : decode cX2_layDraft 4 = .ok (.getfield 48, 3) := dk_180 0 48 (dk_at dksX2_layDraft_0 4 rfl rfl)
theorem dX2_layDraft_7 : decode cX2_layDraft 7 = .ok (.iload_n 1, 1) := dk_27 (dk_at dksX2_layDraft_0 7 rfl rfl)
theorem dX2_layDraft_8 : decode cX2_layDraft 8 = .ok (.iaload, 1) := dk_46 (dk_at dksX2_layDraft_0 8 rfl rfl)
theorem dX2_layDraft_9 : decode cX2_layDraft 9 = .ok (.if_icmp .ge 26, 3) := dk_162 0 26 (dk_at dksX2_layDraft_0 9 rfl rfl)
theorem dX2_layDraft_12 : decode cX2_layDraft 12 = .ok (.aload_n 0, 1) := dk_42 (dk_at dksX2_layDraft_0 12 rfl rfl)
theorem dX2_layDraft_13 : decode cX2_layDraft 13 = .ok (.getfield 51, 3) := dk_180 0 51 (dk_at dksX2_layDraft_0 13 rfl rfl)
theorem dX2_layDraft_16 : decode cX2_layDraft 16 = .ok (.iload_n 2, 1) := dk_28 (dk_at dksX2_layDraft_0 16 rfl rfl)
theorem dX2_layDraft_17 : decode cX2_layDraft 17 = .ok (.aload_n 0, 1) := dk_42 (dk_at dksX2_layDraft_0 17 rfl rfl)
theorem dX2_layDraft_18 : decode cX2_layDraft 18 = .ok (.getfield 45, 3) := dk_180 0 45 (dk_at dksX2_layDraft_0 18 rfl rfl)
theorem dX2_layDraft_21 : decode cX2_layDraft 21 = .ok (.bipush 8, 2) := dk_16 8 (dk_at dksX2_layDraft_0 21 rfl rfl)
theorem dX2_layDraft_23 : decode cX2_layDraft 23 = .ok (.iload_n 1, 1) := dk_27 (dk_at dksX2_layDraft_0 23 rfl rfl)
theorem dX2_layDraft_24 : decode cX2_layDraft 24 = .ok (.imul, 1) := dk_104 (dk_at dksX2_layDraft_1 0 rfl rfl)
theorem dX2_layDraft_25 : decode cX2_layDraft 25 = .ok (.iload_n 2, 1) := dk_28 (dk_at dksX2_layDraft_1 1 rfl rfl)
theorem dX2_layDraft_26 : decode cX2_layDraft 26 = .ok (.iadd, 1) := dk_96 (dk_at dksX2_layDraft_1 2 rfl rfl)
theorem dX2_layDraft_27 : decode cX2_layDraft 27 = .ok (.iaload, 1) := dk_46 (dk_at dksX2_layDraft_1 3 rfl rfl)
theorem dX2_layDraft_28 : decode cX2_layDraft 28 = .ok (.iastore, 1) := dk_79 (dk_at dksX2_layDraft_1 4 rfl rfl)
theorem dX2_layDraft_29 : decode cX2_layDraft 29 = .ok (.iinc 2 1, 3) := dk_132 2 1 (dk_at dksX2_layDraft_1 5 rfl rfl)
theorem dX2_layDraft_32 : decode cX2_layDraft 32 = .ok (.goto (-30), 3) := dk_167 255 226 (dk_at dksX2_layDraft_1 8 rfl rfl)
theorem dX2_layDraft_35 : decode cX2_layDraft 35 = .ok (.aload_n 0, 1) := dk_42 (dk_at dksX2_layDraft_1 11 rfl rfl)
theorem dX2_layDraft_36 : decode cX2_layDraft 36 = .ok (.aload_n 0, 1) := dk_42 (dk_at dksX2_layDraft_1 12 rfl rfl)
theorem dX2_layDraft_37 : decode cX2_layDraft 37 = .ok (.getfield 48, 3) := dk_180 0 48 (dk_at dksX2_layDraft_1 13 rfl rfl)
theorem dX2_layDraft_40 : decode cX2_layDraft 40 = .ok (.iload_n 1, 1) := dk_27 (dk_at dksX2_layDraft_1 16 rfl rfl)
theorem dX2_layDraft_41 : decode cX2_layDraft 41 = .ok (.iaload, 1) := dk_46 (dk_at dksX2_layDraft_1 17 rfl rfl)
theorem dX2_layDraft_42 : decode cX2_layDraft 42 = .ok (.putfield 194, 3) := dk_181 0 194 (dk_at dksX2_layDraft_1 18 rfl rfl)
theorem dX2_layDraft_45 : decode cX2_layDraft 45 = .ok (.return_, 1) := dk_177 (dk_at dksX2_layDraft_1 21 rfl rfl)
abbrev cX2_page : ByteArray := prog_19_method_76_code
def yX2_page : MethodName := ⟨RX2, "page", "(II)I"⟩
def dkwX2_page_5 : List UInt8 := [132, 4, 1, 167, 255, 165, 28, 154, 0, 11, 42, 29, 182, 1, 46, 167, 0, 4, 29, 172]
abbrev dktX2_page_5 : List UInt8 := dkwX2_page_5 ++ []
def dkwX2_page_4 : List UInt8 := [163, 0, 22, 42, 21, 4, 182, 1, 46, 42, 29, 182, 1, 46, 164, 0, 8, 21, 4, 167, 0, 4, 29, 62]
abbrev dktX2_page_4 : List UInt8 := dkwX2_page_4 ++ dktX2_page_5
def dkwX2_page_3 : List UInt8 := [153, 0, 10, 42, 182, 1, 19, 167, 0, 4, 3, 96, 54, 5, 132, 6, 1, 167, 255, 215, 21, 5, 27]
abbrev dktX2_page_3 : List UInt8 := dkwX2_page_3 ++ dktX2_page_4
def dkwX2_page_2 : List UInt8 := [21, 6, 42, 180, 0, 188, 162, 0, 38, 42, 21, 6, 182, 1, 43, 21, 5, 21, 4, 21, 6, 184, 0, 203]
abbrev dktX2_page_2 : List UInt8 := dkwX2_page_2 ++ dktX2_page_3
def dkwX2_page_1 : List UInt8 := [172, 3, 62, 4, 54, 4, 21, 4, 4, 42, 180, 0, 188, 120, 162, 0, 86, 3, 54, 5, 3, 54, 6]
abbrev dktX2_page_1 : List UInt8 := dkwX2_page_1 ++ dktX2_page_2
def dkwX2_page_0 : List UInt8 := [27, 133, 9, 20, 1, 5, 184, 0, 65, 153, 0, 13, 28, 133, 9, 10, 184, 0, 65, 154, 0, 6, 16, 253]
abbrev dktX2_page_0 : List UInt8 := dkwX2_page_0 ++ dktX2_page_1
theorem dksX2_page_0 : cX2_page.data.toList.drop 0 = dktX2_page_0 := by decide +kernel
theorem dksX2_page_1 : cX2_page.data.toList.drop 24 = dktX2_page_1 := dk_seg dksX2_page_0 24 rfl rfl
theorem dksX2_page_2 : cX2_page.data.toList.drop 47 = dktX2_page_2 := dk_seg dksX2_page_1 23 rfl rfl
theorem dksX2_page_3 : cX2_page.data.toList.drop 71 = dktX2_page_3 := dk_seg dksX2_page_2 24 rfl rfl
theorem dksX2_page_4 : cX2_page.data.toList.drop 94 = dktX2_page_4 := dk_seg dksX2_page_3 23 rfl rfl
theorem dksX2_page_5 : cX2_page.data.toList.drop 118 = dktX2_page_5 := dk_seg dksX2_page_4 24 rfl rfl
theorem dX2_page_0 : decode cX2_page 0 = .ok (.iload_n 1, 1) := dk_27 (dk_at dksX2_page_0 0 rfl rfl)
theorem dX2_page_1 : decode cX2_page 1 = .ok (.i2l, 1) := dk_133 (dk_at dksX2_page_0 1 rfl rfl)
theorem dX2_page_2 : decode cX2_page 2 = .ok (.lconst 0, 1) := dk_9 (dk_at dksX2_page_0 2 rfl rfl)
theorem dX2_page_3 : decode cX2_page 3 = .ok (.ldc2_w 261, 3) := dk_20 1 5 (dk_at dksX2_page_0 3 rfl rfl)
theorem dX2_page_6 : decode cX2_page 6 = .ok (.invokestatic 65, 3) := dk_184 0 65 (dk_at dksX2_page_0 6 rfl rfl)
theorem dX2_page_9 : decode cX2_page 9 = .ok (.ifCond .eq 13, 3) := dk_153 0 13 (dk_at dksX2_page_0 9 rfl rfl)
theorem dX2_page_12 : decode cX2_page 12 = .ok (.iload_n 2, 1) := dk_28 (dk_at dksX2_page_0 12 rfl rfl)
theorem dX2_page_13 : decode cX2_page 13 = .ok (.i2l, 1) := dk_133 (dk_at dksX2_page_0 13 rfl rfl)
theorem dX2_page_14 : decode cX2_page 14 = .ok (.lconst 0, 1) := dk_9 (dk_at dksX2_page_0 14 rfl rfl)
theorem dX2_page_15 : decode cX2_page 15 = .ok (.lconst 1, 1) := dk_10 (dk_at dksX2_page_0 15 rfl rfl)
theorem dX2_page_16 : decode cX2_page 16 = .ok (.invokestatic 65, 3) := dk_184 0 65 (dk_at dksX2_page_0 16 rfl rfl)
theorem dX2_page_19 : decode cX2_page 19 = .ok (.ifCond .ne 6, 3) := dk_154 0 6 (dk_at dksX2_page_0 19 rfl rfl)
theorem dX2_page_22 : decode cX2_page 22 = .ok (.bipush (-3), 2) := dk_16 253 (dk_at dksX2_page_0 22 rfl rfl)
theorem dX2_page_24 : decode cX2_page 24 = .ok (.ireturn, 1) := dk_172 (dk_at dksX2_page_1 0 rfl rfl)
theorem dX2_page_25 : decode cX2_page 25 = .ok (.iconst 0, 1) := dk_3 (dk_at dksX2_page_1 1 rfl rfl)
theorem dX2_page_26 : decode cX2_page 26 = .ok (.istore_n 3, 1) := dk_62 (dk_at dksX2_page_1 2 rfl rfl)
theorem dX2_page_27 : decode cX2_page 27 = .ok (.iconst 1, 1) := dk_4 (dk_at dksX2_page_1 3 rfl rfl)
theorem dX2_page_28 : decode cX2_page 28 = .ok (.istore 4, 2) := dk_54 4 (dk_at dksX2_page_1 4 rfl rfl)
theorem dX2_page_30 : decode cX2_page 30 = .ok (.iload 4, 2) := dk_21 4 (dk_at dksX2_page_1 6 rfl rfl)
theorem dX2_page_32 : decode cX2_page 32 = .ok (.iconst 1, 1) := dk_4 (dk_at dksX2_page_1 8 rfl rfl)
theorem dX2_page_33 : decode cX2_page 33 = .ok (.aload_n 0, 1) := dk_42 (dk_at dksX2_page_1 9 rfl rfl)
theorem dX2_page_34 : decode cX2_page 34 = .ok (.getfield 188, 3) := dk_180 0 188 (dk_at dksX2_page_1 10 rfl rfl)
theorem dX2_page_37 : decode cX2_page 37 = .ok (.ishl, 1) := dk_120 (dk_at dksX2_page_1 13 rfl rfl)
theorem dX2_page_38 : decode cX2_page 38 = .ok (.if_icmp .ge 86, 3) := dk_162 0 86 (dk_at dksX2_page_1 14 rfl rfl)
theorem dX2_page_41 : decode cX2_page 41 = .ok (.iconst 0, 1) := dk_3 (dk_at dksX2_page_1 17 rfl rfl)
theorem dX2_page_42 : decode cX2_page 42 = .ok (.istore 5, 2) := dk_54 5 (dk_at dksX2_page_1 18 rfl rfl)
theorem dX2_page_44 : decode cX2_page 44 = .ok (.iconst 0, 1) := dk_3 (dk_at dksX2_page_1 20 rfl rfl)
theorem dX2_page_45 : decode cX2_page 45 = .ok (.istore 6, 2) := dk_54 6 (dk_at dksX2_page_1 21 rfl rfl)
theorem dX2_page_47 : decode cX2_page 47 = .ok (.iload 6, 2) := dk_21 6 (dk_at dksX2_page_2 0 rfl rfl)
theorem dX2_page_49 : decode cX2_page 49 = .ok (.aload_n 0, 1) := dk_42 (dk_at dksX2_page_2 2 rfl rfl)
theorem dX2_page_50 : decode cX2_page 50 = .ok (.getfield 188, 3) := dk_180 0 188 (dk_at dksX2_page_2 3 rfl rfl)
theorem dX2_page_53 : decode cX2_page 53 = .ok (.if_icmp .ge 38, 3) := dk_162 0 38 (dk_at dksX2_page_2 6 rfl rfl)
theorem dX2_page_56 : decode cX2_page 56 = .ok (.aload_n 0, 1) := dk_42 (dk_at dksX2_page_2 9 rfl rfl)
theorem dX2_page_57 : decode cX2_page 57 = .ok (.iload 6, 2) := dk_21 6 (dk_at dksX2_page_2 10 rfl rfl)
theorem dX2_page_59 : decode cX2_page 59 = .ok (.invokevirtual 299, 3) := dk_182 1 43 (dk_at dksX2_page_2 12 rfl rfl)
theorem dX2_page_62 : decode cX2_page 62 = .ok (.iload 5, 2) := dk_21 5 (dk_at dksX2_page_2 15 rfl rfl)
theorem dX2_page_64 : decode cX2_page 64 = .ok (.iload 4, 2) := dk_21 4 (dk_at dksX2_page_2 17 rfl rfl)
theorem dX2_page_66 : decode cX2_page 66 = .ok (.iload 6, 2) := dk_21 6 (dk_at dksX2_page_2 19 rfl rfl)
theorem dX2_page_68 : decode cX2_page 68 = .ok (.invokestatic 203, 3) := dk_184 0 203 (dk_at dksX2_page_2 21 rfl rfl)
theorem dX2_page_71 : decode cX2_page 71 = .ok (.ifCond .eq 10, 3) := dk_153 0 10 (dk_at dksX2_page_3 0 rfl rfl)
theorem dX2_page_74 : decode cX2_page 74 = .ok (.aload_n 0, 1) := dk_42 (dk_at dksX2_page_3 3 rfl rfl)
theorem dX2_page_75 : decode cX2_page 75 = .ok (.invokevirtual 275, 3) := dk_182 1 19 (dk_at dksX2_page_3 4 rfl rfl)
theorem dX2_page_78 : decode cX2_page 78 = .ok (.goto 4, 3) := dk_167 0 4 (dk_at dksX2_page_3 7 rfl rfl)
theorem dX2_page_81 : decode cX2_page 81 = .ok (.iconst 0, 1) := dk_3 (dk_at dksX2_page_3 10 rfl rfl)
theorem dX2_page_82 : decode cX2_page 82 = .ok (.iadd, 1) := dk_96 (dk_at dksX2_page_3 11 rfl rfl)
theorem dX2_page_83 : decode cX2_page 83 = .ok (.istore 5, 2) := dk_54 5 (dk_at dksX2_page_3 12 rfl rfl)
theorem dX2_page_85 : decode cX2_page 85 = .ok (.iinc 6 1, 3) := dk_132 6 1 (dk_at dksX2_page_3 14 rfl rfl)
theorem dX2_page_88 : decode cX2_page 88 = .ok (.goto (-41), 3) := dk_167 255 215 (dk_at dksX2_page_3 17 rfl rfl)
theorem dX2_page_91 : decode cX2_page 91 = .ok (.iload 5, 2) := dk_21 5 (dk_at dksX2_page_3 20 rfl rfl)
theorem dX2_page_93 : decode cX2_page 93 = .ok (.iload_n 1, 1) := dk_27 (dk_at dksX2_page_3 22 rfl rfl)
theorem dX2_page_94 : decode cX2_page 94 = .ok (.if_icmp .gt 22, 3) := dk_163 0 22 (dk_at dksX2_page_4 0 rfl rfl)
theorem dX2_page_97 : decode cX2_page 97 = .ok (.aload_n 0, 1) := dk_42 (dk_at dksX2_page_4 3 rfl rfl)
theorem dX2_page_98 : decode cX2_page 98 = .ok (.iload 4, 2) := dk_21 4 (dk_at dksX2_page_4 4 rfl rfl)
theorem dX2_page_100 : decode cX2_page 100 = .ok (.invokevirtual 302, 3) := dk_182 1 46 (dk_at dksX2_page_4 6 rfl rfl)
theorem dX2_page_103 : decode cX2_page 103 = .ok (.aload_n 0, 1) := dk_42 (dk_at dksX2_page_4 9 rfl rfl)
theorem dX2_page_104 : decode cX2_page 104 = .ok (.iload_n 3, 1) := dk_29 (dk_at dksX2_page_4 10 rfl rfl)
theorem dX2_page_105 : decode cX2_page 105 = .ok (.invokevirtual 302, 3) := dk_182 1 46 (dk_at dksX2_page_4 11 rfl rfl)
theorem dX2_page_108 : decode cX2_page 108 = .ok (.if_icmp .le 8, 3) := dk_164 0 8 (dk_at dksX2_page_4 14 rfl rfl)
theorem dX2_page_111 : decode cX2_page 111 = .ok (.iload 4, 2) := dk_21 4 (dk_at dksX2_page_4 17 rfl rfl)
theorem dX2_page_113 : decode cX2_page 113 = .ok (.goto 4, 3) := dk_167 0 4 (dk_at dksX2_page_4 19 rfl rfl)
theorem dX2_page_116 : decode cX2_page 116 = .ok (.iload_n 3, 1) := dk_29 (dk_at dksX2_page_4 22 rfl rfl)
theorem dX2_page_117 : decode cX2_page 117 = .ok (.istore_n 3, 1) := dk_62 (dk_at dksX2_page_4 23 rfl rfl)
theorem dX2_page_118 : decode cX2_page 118 = .ok (.iinc 4 1, 3) := dk_132 4 1 (dk_at dksX2_page_5 0 rfl rfl)
theorem dX2_page_121 : decode cX2_page 121 = .ok (.goto (-91), 3) := dk_167 255 165 (dk_at dksX2_page_5 3 rfl rfl)
theorem dX2_page_124 : decode cX2_page 124 = .ok (.iload_n 2, 1) := dk_28 (dk_at dksX2_page_5 6 rfl rfl)
theorem dX2_page_125 : decode cX2_page 125 = .ok (.ifCond .ne 11, 3) := dk_154 0 11 (dk_at dksX2_page_5 7 rfl rfl)
theorem dX2_page_128 : decode cX2_page 128 = .ok (.aload_n 0, 1) := dk_42 (dk_at dksX2_page_5 10 rfl rfl)
theorem dX2_page_129 : decode cX2_page 129 = .ok (.iload_n 3, 1) := dk_29 (dk_at dksX2_page_5 11 rfl rfl)
theorem dX2_page_130 : decode cX2_page 130 = .ok (.invokevirtual 302, 3) := dk_182 1 46 (dk_at dksX2_page_5 12 rfl rfl)
theorem dX2_page_133 : decode cX2_page 133 = .ok (.goto 4, 3) := dk_167 0 4 (dk_at dksX2_page_5 15 rfl rfl)
theorem dX2_page_136 : decode cX2_page 136 = .ok (.iload_n 3, 1) := dk_29 (dk_at dksX2_page_5 18 rfl rfl)
theorem dX2_page_137 : decode cX2_page 137 = .ok (.ireturn, 1) := dk_172 (dk_at dksX2_page_5 19 rfl rfl)
abbrev cX2_worthOfSet : ByteArray := prog_19_method_75_code
def yX2_worthOfSet : MethodName := ⟨RX2, "worthOfSet", "(I)I"⟩
def dkwX2_worthOfSet_1 : List UInt8 := [153, 0, 10, 42, 182, 0, 250, 167, 0, 4, 3, 96, 61, 132, 3, 1, 167, 255, 221, 28, 172]
abbrev dktX2_worthOfSet_1 : List UInt8 := dkwX2_worthOfSet_1 ++ []
def dkwX2_worthOfSet_0 : List UInt8 := [3, 61, 3, 62, 29, 42, 180, 0, 188, 162, 0, 33, 42, 29, 182, 1, 43, 28, 27, 29, 184, 0, 203]
abbrev dktX2_worthOfSet_0 : List UInt8 := dkwX2_worthOfSet_0 ++ dktX2_worthOfSet_1
theorem dksX2_worthOfSet_0 : cX2_worthOfSet.data.toList.drop 0 = dktX2_worthOfSet_0 := by decide +kernel
theorem dksX2_worthOfSet_1 : cX2_worthOfSet.data.toList.drop 23 = dktX2_worthOfSet_1 := dk_seg dksX2_worthOfSet_0 23 rfl rfl
theorem dX2_worthOfSet_0 : decode cX2_worthOfSet 0 = .ok (.iconst 0, 1) := dk_3 (dk_at dksX2_worthOfSet_0 0 rfl rfl)
theorem dX2_worthOfSet_1 : decode cX2_worthOfSet 1 = .ok (.istore_n 2, 1) := dk_61 (dk_at dksX2_worthOfSet_0 1 rfl rfl)
theorem dX2_worthOfSet_2 : decode cX2_worthOfSet 2 = .ok (.iconst 0, 1) := dk_3 (dk_at dksX2_worthOfSet_0 2 rfl rfl)
theorem dX2_worthOfSet_3 : decode cX2_worthOfSet 3 = .ok (.istore_n 3, 1) := dk_62 (dk_at dksX2_worthOfSet_0 3 rfl rfl)
theorem dX2_worthOfSet_4 : decode cX2_worthOfSet 4 = .ok (.iload_n 3, 1) := dk_29 (dk_at dksX2_worthOfSet_0 4 rfl rfl)
theorem dX2_worthOfSet_5 : decode cX2_worthOfSet 5 = .ok (.aload_n 0, 1) := dk_42 (dk_at dksX2_worthOfSet_0 5 rfl rfl)
theorem dX2_worthOfSet_6 : decode cX2_worthOfSet 6 = .ok (.getfield 188, 3) := dk_180 0 188 (dk_at dksX2_worthOfSet_0 6 rfl rfl)
theorem dX2_worthOfSet_9 : decode cX2_worthOfSet 9 = .ok (.if_icmp .ge 33, 3) := dk_162 0 33 (dk_at dksX2_worthOfSet_0 9 rfl rfl)
theorem dX2_worthOfSet_12 : decode cX2_worthOfSet 12 = .ok (.aload_n 0, 1) := dk_42 (dk_at dksX2_worthOfSet_0 12 rfl rfl)
theorem dX2_worthOfSet_13 : decode cX2_worthOfSet 13 = .ok (.iload_n 3, 1) := dk_29 (dk_at dksX2_worthOfSet_0 13 rfl rfl)
theorem dX2_worthOfSet_14 : decode cX2_worthOfSet 14 = .ok (.invokevirtual 299, 3) := dk_182 1 43 (dk_at dksX2_worthOfSet_0 14 rfl rfl)
theorem dX2_worthOfSet_17 : decode cX2_worthOfSet 17 = .ok (.iload_n 2, 1) := dk_28 (dk_at dksX2_worthOfSet_0 17 rfl rfl)
theorem dX2_worthOfSet_18 : decode cX2_worthOfSet 18 = .ok (.iload_n 1, 1) := dk_27 (dk_at dksX2_worthOfSet_0 18 rfl rfl)
theorem dX2_worthOfSet_19 : decode cX2_worthOfSet 19 = .ok (.iload_n 3, 1) := dk_29 (dk_at dksX2_worthOfSet_0 19 rfl rfl)
theorem dX2_worthOfSet_20 : decode cX2_worthOfSet 20 = .ok (.invokestatic 203, 3) := dk_184 0 203 (dk_at dksX2_worthOfSet_0 20 rfl rfl)
theorem dX2_worthOfSet_23 : decode cX2_worthOfSet 23 = .ok (.ifCond .eq 10, 3) := dk_153 0 10 (dk_at dksX2_worthOfSet_1 0 rfl rfl)
theorem dX2_worthOfSet_26 : decode cX2_worthOfSet 26 = .ok (.aload_n 0, 1) := dk_42 (dk_at dksX2_worthOfSet_1 3 rfl rfl)
theorem dX2_worthOfSet_27 : decode cX2_worthOfSet 27 = .ok (.invokevirtual 250, 3) := dk_182 0 250 (dk_at dksX2_worthOfSet_1 4 rfl rfl)
theorem dX2_worthOfSet_30 : decode cX2_worthOfSet 30 = .ok (.goto 4, 3) := dk_167 0 4 (dk_at dksX2_worthOfSet_1 7 rfl rfl)
theorem dX2_worthOfSet_33 : decode cX2_worthOfSet 33 = .ok (.iconst 0, 1) := dk_3 (dk_at dksX2_worthOfSet_1 10 rfl rfl)
theorem dX2_worthOfSet_34 : decode cX2_worthOfSet 34 = .ok (.iadd, 1) := dk_96 (dk_at dksX2_worthOfSet_1 11 rfl rfl)
theorem dX2_worthOfSet_35 : decode cX2_worthOfSet 35 = .ok (.istore_n 2, 1) := dk_61 (dk_at dksX2_worthOfSet_1 12 rfl rfl)
theorem dX2_worthOfSet_36 : decode cX2_worthOfSet 36 = .ok (.iinc 3 1, 3) := dk_132 3 1 (dk_at dksX2_worthOfSet_1 13 rfl rfl)
theorem dX2_worthOfSet_39 : decode cX2_worthOfSet 39 = .ok (.goto (-35), 3) := dk_167 255 221 (dk_at dksX2_worthOfSet_1 16 rfl rfl)
theorem dX2_worthOfSet_42 : decode cX2_worthOfSet 42 = .ok (.iload_n 2, 1) := dk_28 (dk_at dksX2_worthOfSet_1 19 rfl rfl)
theorem dX2_worthOfSet_43 : decode cX2_worthOfSet 43 = .ok (.ireturn, 1) := dk_172 (dk_at dksX2_worthOfSet_1 20 rfl rfl)
abbrev cX2_plan : ByteArray := prog_19_method_78_code
def yX2_plan : MethodName := ⟨RX2, "plan", "(II)I"⟩
def dkwX2_plan_3 : List UInt8 := [132, 4, 1, 167, 255, 211, 28, 154, 0, 11, 42, 29, 182, 1, 46, 167, 0, 4, 29, 172]
abbrev dktX2_plan_3 : List UInt8 := dkwX2_plan_3 ++ []
def dkwX2_plan_2 : List UInt8 := [153, 0, 22, 42, 21, 4, 182, 1, 46, 42, 29, 182, 1, 46, 164, 0, 8, 21, 4, 167, 0, 4, 29, 62]
abbrev dktX2_plan_2 : List UInt8 := dkwX2_plan_2 ++ dktX2_plan_3
def dkwX2_plan_1 : List UInt8 := [3, 62, 4, 54, 4, 21, 4, 4, 42, 180, 0, 188, 120, 162, 0, 40, 42, 27, 21, 4, 182, 1, 49]
abbrev dktX2_plan_1 : List UInt8 := dkwX2_plan_1 ++ dktX2_plan_2
def dkwX2_plan_0 : List UInt8 := [42, 27, 182, 0, 228, 154, 0, 6, 16, 254, 172, 28, 133, 9, 10, 184, 0, 65, 154, 0, 6, 16, 253, 172]
abbrev dktX2_plan_0 : List UInt8 := dkwX2_plan_0 ++ dktX2_plan_1
theorem dksX2_plan_0 : cX2_plan.data.toList.drop 0 = dktX2_plan_0 := by decide +kernel
theorem dksX2_plan_1 : cX2_plan.data.toList.drop 24 = dktX2_plan_1 := dk_seg dksX2_plan_0 24 rfl rfl
theorem dksX2_plan_2 : cX2_plan.data.toList.drop 47 = dktX2_plan_2 := dk_seg dksX2_plan_1 23 rfl rfl
theorem dksX2_plan_3 : cX2_plan.data.toList.drop 71 = dktX2_plan_3 := dk_seg dksX2_plan_2 24 rfl rfl
theorem dX2_plan_0 : decode cX2_plan 0 = .ok (.aload_n 0, 1) := dk_42 (dk_at dksX2_plan_0 0 rfl rfl)
theorem dX2_plan_1 : decode cX2_plan 1 = .ok (.iload_n 1, 1) := dk_27 (dk_at dksX2_plan_0 1 rfl rfl)
theorem dX2_plan_2 : decode cX2_plan 2 = .ok (.invokevirtual 228, 3) := dk_182 0 228 (dk_at dksX2_plan_0 2 rfl rfl)
theorem dX2_plan_5 : decode cX2_plan 5 = .ok (.ifCond .ne 6, 3) := dk_154 0 6 (dk_at dksX2_plan_0 5 rfl rfl)
theorem dX2_plan_8 : decode cX2_plan 8 = .ok (.bipush (-2), 2) := dk_16 254 (dk_at dksX2_plan_0 8 rfl rfl)
theorem dX2_plan_10 : decode cX2_plan 10 = .ok (.ireturn, 1) := dk_172 (dk_at dksX2_plan_0 10 rfl rfl)
theorem dX2_plan_11 : decode cX2_plan 11 = .ok (.iload_n 2, 1) := dk_28 (dk_at dksX2_plan_0 11 rfl rfl)
theorem dX2_plan_12 : decode cX2_plan 12 = .ok (.i2l, 1) := dk_133 (dk_at dksX2_plan_0 12 rfl rfl)
theorem dX2_plan_13 : decode cX2_plan 13 = .ok (.lconst 0, 1) := dk_9 (dk_at dksX2_plan_0 13 rfl rfl)
theorem dX2_plan_14 : decode cX2_plan 14 = .ok (.lconst 1, 1) := dk_10 (dk_at dksX2_plan_0 14 rfl rfl)
theorem dX2_plan_15 : decode cX2_plan 15 = .ok (.invokestatic 65, 3) := dk_184 0 65 (dk_at dksX2_plan_0 15 rfl rfl)
theorem dX2_plan_18 : decode cX2_plan 18 = .ok (.ifCond .ne 6, 3) := dk_154 0 6 (dk_at dksX2_plan_0 18 rfl rfl)
theorem dX2_plan_21 : decode cX2_plan 21 = .ok (.bipush (-3), 2) := dk_16 253 (dk_at dksX2_plan_0 21 rfl rfl)
theorem dX2_plan_23 : decode cX2_plan 23 = .ok (.ireturn, 1) := dk_172 (dk_at dksX2_plan_0 23 rfl rfl)
theorem dX2_plan_24 : decode cX2_plan 24 = .ok (.iconst 0, 1) := dk_3 (dk_at dksX2_plan_1 0 rfl rfl)
theorem dX2_plan_25 : decode cX2_plan 25 = .ok (.istore_n 3, 1) := dk_62 (dk_at dksX2_plan_1 1 rfl rfl)
theorem dX2_plan_26 : decode cX2_plan 26 = .ok (.iconst 1, 1) := dk_4 (dk_at dksX2_plan_1 2 rfl rfl)
theorem dX2_plan_27 : decode cX2_plan 27 = .ok (.istore 4, 2) := dk_54 4 (dk_at dksX2_plan_1 3 rfl rfl)
theorem dX2_plan_29 : decode cX2_plan 29 = .ok (.iload 4, 2) := dk_21 4 (dk_at dksX2_plan_1 5 rfl rfl)
theorem dX2_plan_31 : decode cX2_plan 31 = .ok (.iconst 1, 1) := dk_4 (dk_at dksX2_plan_1 7 rfl rfl)
theorem dX2_plan_32 : decode cX2_plan 32 = .ok (.aload_n 0, 1) := dk_42 (dk_at dksX2_plan_1 8 rfl rfl)
theorem dX2_plan_33 : decode cX2_plan 33 = .ok (.getfield 188, 3) := dk_180 0 188 (dk_at dksX2_plan_1 9 rfl rfl)
theorem dX2_plan_36 : decode cX2_plan 36 = .ok (.ishl, 1) := dk_120 (dk_at dksX2_plan_1 12 rfl rfl)
theorem dX2_plan_37 : decode cX2_plan 37 = .ok (.if_icmp .ge 40, 3) := dk_162 0 40 (dk_at dksX2_plan_1 13 rfl rfl)
theorem dX2_plan_40 : decode cX2_plan 40 = .ok (.aload_n 0, 1) := dk_42 (dk_at dksX2_plan_1 16 rfl rfl)
theorem dX2_plan_41 : decode cX2_plan 41 = .ok (.iload_n 1, 1) := dk_27 (dk_at dksX2_plan_1 17 rfl rfl)
theorem dX2_plan_42 : decode cX2_plan 42 = .ok (.iload 4, 2) := dk_21 4 (dk_at dksX2_plan_1 18 rfl rfl)
theorem dX2_plan_44 : decode cX2_plan 44 = .ok (.invokevirtual 305, 3) := dk_182 1 49 (dk_at dksX2_plan_1 20 rfl rfl)
theorem dX2_plan_47 : decode cX2_plan 47 = .ok (.ifCond .eq 22, 3) := dk_153 0 22 (dk_at dksX2_plan_2 0 rfl rfl)
theorem dX2_plan_50 : decode cX2_plan 50 = .ok (.aload_n 0, 1) := dk_42 (dk_at dksX2_plan_2 3 rfl rfl)
theorem dX2_plan_51 : decode cX2_plan 51 = .ok (.iload 4, 2) := dk_21 4 (dk_at dksX2_plan_2 4 rfl rfl)
theorem dX2_plan_53 : decode cX2_plan 53 = .ok (.invokevirtual 302, 3) := dk_182 1 46 (dk_at dksX2_plan_2 6 rfl rfl)
theorem dX2_plan_56 : decode cX2_plan 56 = .ok (.aload_n 0, 1) := dk_42 (dk_at dksX2_plan_2 9 rfl rfl)
theorem dX2_plan_57 : decode cX2_plan 57 = .ok (.iload_n 3, 1) := dk_29 (dk_at dksX2_plan_2 10 rfl rfl)
theorem dX2_plan_58 : decode cX2_plan 58 = .ok (.invokevirtual 302, 3) := dk_182 1 46 (dk_at dksX2_plan_2 11 rfl rfl)
theorem dX2_plan_61 : decode cX2_plan 61 = .ok (.if_icmp .le 8, 3) := dk_164 0 8 (dk_at dksX2_plan_2 14 rfl rfl)
theorem dX2_plan_64 : decode cX2_plan 64 = .ok (.iload 4, 2) := dk_21 4 (dk_at dksX2_plan_2 17 rfl rfl)
theorem dX2_plan_66 : decode cX2_plan 66 = .ok (.goto 4, 3) := dk_167 0 4 (dk_at dksX2_plan_2 19 rfl rfl)
theorem dX2_plan_69 : decode cX2_plan 69 = .ok (.iload_n 3, 1) := dk_29 (dk_at dksX2_plan_2 22 rfl rfl)
theorem dX2_plan_70 : decode cX2_plan 70 = .ok (.istore_n 3, 1) := dk_62 (dk_at dksX2_plan_2 23 rfl rfl)
theorem dX2_plan_71 : decode cX2_plan 71 = .ok (.iinc 4 1, 3) := dk_132 4 1 (dk_at dksX2_plan_3 0 rfl rfl)
theorem dX2_plan_74 : decode cX2_plan 74 = .ok (.goto (-45), 3) := dk_167 255 211 (dk_at dksX2_plan_3 3 rfl rfl)
theorem dX2_plan_77 : decode cX2_plan 77 = .ok (.iload_n 2, 1) := dk_28 (dk_at dksX2_plan_3 6 rfl rfl)
theorem dX2_plan_78 : decode cX2_plan 78 = .ok (.ifCond .ne 11, 3) := dk_154 0 11 (dk_at dksX2_plan_3 7 rfl rfl)
theorem dX2_plan_81 : decode cX2_plan 81 = .ok (.aload_n 0, 1) := dk_42 (dk_at dksX2_plan_3 10 rfl rfl)
theorem dX2_plan_82 : decode cX2_plan 82 = .ok (.iload_n 3, 1) := dk_29 (dk_at dksX2_plan_3 11 rfl rfl)
theorem dX2_plan_83 : decode cX2_plan 83 = .ok (.invokevirtual 302, 3) := dk_182 1 46 (dk_at dksX2_plan_3 12 rfl rfl)
theorem dX2_plan_86 : decode cX2_plan 86 = .ok (.goto 4, 3) := dk_167 0 4 (dk_at dksX2_plan_3 15 rfl rfl)
theorem dX2_plan_89 : decode cX2_plan 89 = .ok (.iload_n 3, 1) := dk_29 (dk_at dksX2_plan_3 18 rfl rfl)
theorem dX2_plan_90 : decode cX2_plan 90 = .ok (.ireturn, 1) := dk_172 (dk_at dksX2_plan_3 19 rfl rfl)
abbrev cX2_canPay : ByteArray := prog_19_method_77_code
def yX2_canPay : MethodName := ⟨RX2, "canPay", "(II)Z"⟩
def dkwX2_canPay_4 : List UInt8 := [167, 255, 176, 21, 4, 172]
abbrev dktX2_canPay_4 : List UInt8 := dkwX2_canPay_4 ++ []
def dkwX2_canPay_3 : List UInt8 := [29, 163, 0, 7, 4, 167, 0, 4, 3, 54, 4, 42, 27, 29, 21, 6, 100, 182, 0, 253, 62, 132, 5, 1]
abbrev dktX2_canPay_3 : List UInt8 := dkwX2_canPay_3 ++ dktX2_canPay_4
def dkwX2_canPay_2 : List UInt8 := [180, 0, 7, 3, 46, 21, 5, 96, 182, 0, 219, 167, 0, 4, 3, 54, 6, 21, 4, 153, 0, 13, 21, 6]
abbrev dktX2_canPay_2 : List UInt8 := dkwX2_canPay_2 ++ dktX2_canPay_3
def dkwX2_canPay_1 : List UInt8 := [42, 21, 5, 182, 1, 43, 28, 21, 5, 184, 0, 203, 153, 0, 25, 42, 42, 180, 0, 32, 27, 46, 42]
abbrev dktX2_canPay_1 : List UInt8 := dkwX2_canPay_1 ++ dktX2_canPay_2
def dkwX2_canPay_0 : List UInt8 := [42, 180, 0, 7, 4, 27, 96, 46, 62, 4, 54, 4, 3, 54, 5, 21, 5, 42, 180, 0, 188, 162, 0, 77]
abbrev dktX2_canPay_0 : List UInt8 := dkwX2_canPay_0 ++ dktX2_canPay_1
theorem dksX2_canPay_0 : cX2_canPay.data.toList.drop 0 = dktX2_canPay_0 := by decide +kernel
theorem dksX2_canPay_1 : cX2_canPay.data.toList.drop 24 = dktX2_canPay_1 := dk_seg dksX2_canPay_0 24 rfl rfl
theorem dksX2_canPay_2 : cX2_canPay.data.toList.drop 47 = dktX2_canPay_2 := dk_seg dksX2_canPay_1 23 rfl rfl
theorem dksX2_canPay_3 : cX2_canPay.data.toList.drop 71 = dktX2_canPay_3 := dk_seg dksX2_canPay_2 24 rfl rfl
theorem dksX2_canPay_4 : cX2_canPay.data.toList.drop 95 = dktX2_canPay_4 := dk_seg dksX2_canPay_3 24 rfl rfl
theorem dX2_canPay_0 : decode cX2_canPay 0 = .ok (.aload_n 0, 1) := dk_42 (dk_at dksX2_canPay_0 0 rfl rfl)
theorem dX2_canPay_1 : decode cX2_canPay 1 = .ok (.getfield 7, 3) := dk_180 0 7 (dk_at dksX2_canPay_0 1 rfl rfl)
theorem dX2_canPay_4 : decode cX2_canPay 4 = .ok (.iconst 1, 1) := dk_4 (dk_at dksX2_canPay_0 4 rfl rfl)
theorem dX2_canPay_5 : decode cX2_canPay 5 = .ok (.iload_n 1, 1) := dk_27 (dk_at dksX2_canPay_0 5 rfl rfl)
theorem dX2_canPay_6 : decode cX2_canPay 6 = .ok (.iadd, 1) := dk_96 (dk_at dksX2_canPay_0 6 rfl rfl)
theorem dX2_canPay_7 : decode cX2_canPay 7 = .ok (.iaload, 1) := dk_46 (dk_at dksX2_canPay_0 7 rfl rfl)
theorem dX2_canPay_8 : decode cX2_canPay 8 = .ok (.istore_n 3, 1) := dk_62 (dk_at dksX2_canPay_0 8 rfl rfl)
theorem dX2_canPay_9 : decode cX2_canPay 9 = .ok (.iconst 1, 1) := dk_4 (dk_at dksX2_canPay_0 9 rfl rfl)
theorem dX2_canPay_10 : decode cX2_canPay 10 = .ok (.istore 4, 2) := dk_54 4 (dk_at dksX2_canPay_0 10 rfl rfl)
theorem dX2_canPay_12 : decode cX2_canPay 12 = .ok (.iconst 0, 1) := dk_3 (dk_at dksX2_canPay_0 12 rfl rfl)
theorem dX2_canPay_13 : decode cX2_canPay 13 = .ok (.istore 5, 2) := dk_54 5 (dk_at dksX2_canPay_0 13 rfl rfl)
theorem dX2_canPay_15 : decode cX2_canPay 15 = .ok (.iload 5, 2) := dk_21 5 (dk_at dksX2_canPay_0 15 rfl rfl)
theorem dX2_canPay_17 : decode cX2_canPay 17 = .ok (.aload_n 0, 1) := dk_42 (dk_at dksX2_canPay_0 17 rfl rfl)
theorem dX2_canPay_18 : decode cX2_canPay 18 = .ok (.getfield 188, 3) := dk_180 0 188 (dk_at dksX2_canPay_0 18 rfl rfl)
theorem dX2_canPay_21 : decode cX2_canPay 21 = .ok (.if_icmp .ge 77, 3) := dk_162 0 77 (dk_at dksX2_canPay_0 21 rfl rfl)
theorem dX2_canPay_24 : decode cX2_canPay 24 = .ok (.aload_n 0, 1) := dk_42 (dk_at dksX2_canPay_1 0 rfl rfl)
theorem dX2_canPay_25 : decode cX2_canPay 25 = .ok (.iload 5, 2) := dk_21 5 (dk_at dksX2_canPay_1 1 rfl rfl)
theorem dX2_canPay_27 : decode cX2_canPay 27 = .ok (.invokevirtual 299, 3) := dk_182 1 43 (dk_at dksX2_canPay_1 3 rfl rfl)
theorem dX2_canPay_30 : decode cX2_canPay 30 = .ok (.iload_n 2, 1) := dk_28 (dk_at dksX2_canPay_1 6 rfl rfl)
theorem dX2_canPay_31 : decode cX2_canPay 31 = .ok (.iload 5, 2) := dk_21 5 (dk_at dksX2_canPay_1 7 rfl rfl)
theorem dX2_canPay_33 : decode cX2_canPay 33 = .ok (.invokestatic 203, 3) := dk_184 0 203 (dk_at dksX2_canPay_1 9 rfl rfl)
theorem dX2_canPay_36 : decode cX2_canPay 36 = .ok (.ifCond .eq 25, 3) := dk_153 0 25 (dk_at dksX2_canPay_1 12 rfl rfl)
theorem dX2_canPay_39 : decode cX2_canPay 39 = .ok (.aload_n 0, 1) := dk_42 (dk_at dksX2_canPay_1 15 rfl rfl)
theorem dX2_canPay_40 : decode cX2_canPay 40 = .ok (.aload_n 0, 1) := dk_42 (dk_at dksX2_canPay_1 16 rfl rfl)
theorem dX2_canPay_41 : decode cX2_canPay 41 = .ok (.getfield 32, 3) := dk_180 0 32 (dk_at dksX2_canPay_1 17 rfl rfl)
theorem dX2_canPay_44 : decode cX2_canPay 44 = .ok (.iload_n 1, 1) := dk_27 (dk_at dksX2_canPay_1 20 rfl rfl)
theorem dX2_canPay_45 : decode cX2_canPay 45 = .ok (.iaload, 1) := dk_46 (dk_at dksX2_canPay_1 21 rfl rfl)
theorem dX2_canPay_46 : decode cX2_canPay 46 = .ok (.aload_n 0, 1) := dk_42 (dk_at dksX2_canPay_1 22 rfl rfl)
theorem dX2_canPay_47 : decode cX2_canPay 47 = .ok (.getfield 7, 3) := dk_180 0 7 (dk_at dksX2_canPay_2 0 rfl rfl)
theorem dX2_canPay_50 : decode cX2_canPay 50 = .ok (.iconst 0, 1) := dk_3 (dk_at dksX2_canPay_2 3 rfl rfl)
theorem dX2_canPay_51 : decode cX2_canPay 51 = .ok (.iaload, 1) := dk_46 (dk_at dksX2_canPay_2 4 rfl rfl)
theorem dX2_canPay_52 : decode cX2_canPay 52 = .ok (.iload 5, 2) := dk_21 5 (dk_at dksX2_canPay_2 5 rfl rfl)
theorem dX2_canPay_54 : decode cX2_canPay 54 = .ok (.iadd, 1) := dk_96 (dk_at dksX2_canPay_2 7 rfl rfl)
theorem dX2_canPay_55 : decode cX2_canPay 55 = .ok (.invokevirtual 219, 3) := dk_182 0 219 (dk_at dksX2_canPay_2 8 rfl rfl)
theorem dX2_canPay_58 : decode cX2_canPay 58 = .ok (.goto 4, 3) := dk_167 0 4 (dk_at dksX2_canPay_2 11 rfl rfl)
theorem dX2_canPay_61 : decode cX2_canPay 61 = .ok (.iconst 0, 1) := dk_3 (dk_at dksX2_canPay_2 14 rfl rfl)
theorem dX2_canPay_62 : decode cX2_canPay 62 = .ok (.istore 6, 2) := dk_54 6 (dk_at dksX2_canPay_2 15 rfl rfl)
theorem dX2_canPay_64 : decode cX2_canPay 64 = .ok (.iload 4, 2) := dk_21 4 (dk_at dksX2_canPay_2 17 rfl rfl)
theorem dX2_canPay_66 : decode cX2_canPay 66 = .ok (.ifCond .eq 13, 3) := dk_153 0 13 (dk_at dksX2_canPay_2 19 rfl rfl)
theorem dX2_canPay_69 : decode cX2_canPay 69 = .ok (.iload 6, 2) := dk_21 6 (dk_at dksX2_canPay_2 22 rfl rfl)
theorem dX2_canPay_71 : decode cX2_canPay 71 = .ok (.iload_n 3, 1) := dk_29 (dk_at dksX2_canPay_3 0 rfl rfl)
theorem dX2_canPay_72 : decode cX2_canPay 72 = .ok (.if_icmp .gt 7, 3) := dk_163 0 7 (dk_at dksX2_canPay_3 1 rfl rfl)
theorem dX2_canPay_75 : decode cX2_canPay 75 = .ok (.iconst 1, 1) := dk_4 (dk_at dksX2_canPay_3 4 rfl rfl)
theorem dX2_canPay_76 : decode cX2_canPay 76 = .ok (.goto 4, 3) := dk_167 0 4 (dk_at dksX2_canPay_3 5 rfl rfl)
theorem dX2_canPay_79 : decode cX2_canPay 79 = .ok (.iconst 0, 1) := dk_3 (dk_at dksX2_canPay_3 8 rfl rfl)
theorem dX2_canPay_80 : decode cX2_canPay 80 = .ok (.istore 4, 2) := dk_54 4 (dk_at dksX2_canPay_3 9 rfl rfl)
theorem dX2_canPay_82 : decode cX2_canPay 82 = .ok (.aload_n 0, 1) := dk_42 (dk_at dksX2_canPay_3 11 rfl rfl)
theorem dX2_canPay_83 : decode cX2_canPay 83 = .ok (.iload_n 1, 1) := dk_27 (dk_at dksX2_canPay_3 12 rfl rfl)
theorem dX2_canPay_84 : decode cX2_canPay 84 = .ok (.iload_n 3, 1) := dk_29 (dk_at dksX2_canPay_3 13 rfl rfl)
theorem dX2_canPay_85 : decode cX2_canPay 85 = .ok (.iload 6, 2) := dk_21 6 (dk_at dksX2_canPay_3 14 rfl rfl)
theorem dX2_canPay_87 : decode cX2_canPay 87 = .ok (.isub, 1) := dk_100 (dk_at dksX2_canPay_3 16 rfl rfl)
theorem dX2_canPay_88 : decode cX2_canPay 88 = .ok (.invokevirtual 253, 3) := dk_182 0 253 (dk_at dksX2_canPay_3 17 rfl rfl)
theorem dX2_canPay_91 : decode cX2_canPay 91 = .ok (.istore_n 3, 1) := dk_62 (dk_at dksX2_canPay_3 20 rfl rfl)
theorem dX2_canPay_92 : decode cX2_canPay 92 = .ok (.iinc 5 1, 3) := dk_132 5 1 (dk_at dksX2_canPay_3 21 rfl rfl)
theorem dX2_canPay_95 : decode cX2_canPay 95 = .ok (.goto (-80), 3) := dk_167 255 176 (dk_at dksX2_canPay_4 0 rfl rfl)
theorem dX2_canPay_98 : decode cX2_canPay 98 = .ok (.iload 4, 2) := dk_21 4 (dk_at dksX2_canPay_4 3 rfl rfl)
theorem dX2_canPay_100 : decode cX2_canPay 100 = .ok (.ireturn, 1) := dk_172 (dk_at dksX2_canPay_4 5 rfl rfl)
abbrev cX2_likeness : ByteArray := prog_19_method_80_code
def yX2_likeness : MethodName := ⟨RX2, "likeness", "(I)I"⟩
def dkwX2_likeness_0 : List UInt8 := [42, 27, 182, 0, 228, 153, 0, 11, 42, 27, 182, 1, 52, 167, 0, 5, 16, 254, 172]
abbrev dktX2_likeness_0 : List UInt8 := dkwX2_likeness_0 ++ []
theorem dksX2_likeness_0 : cX2_likeness.data.toList.drop 0 = dktX2_likeness_0 := by decide +kernel
theorem dX2_likeness_0 : decode cX2_likeness 0 = .ok (.aload_n 0, 1) := dk_42 (dk_at dksX2_likeness_0 0 rfl rfl)
theorem dX2_likeness_1 : decode cX2_likeness 1 = .ok (.iload_n 1, 1) := dk_27 (dk_at dksX2_likeness_0 1 rfl rfl)
theorem dX2_likeness_2 : decode cX2_likeness 2 = .ok (.invokevirtual 228, 3) := dk_182 0 228 (dk_at dksX2_likeness_0 2 rfl rfl)
theorem dX2_likeness_5 : decode cX2_likeness 5 = .ok (.ifCond .eq 11, 3) := dk_153 0 11 (dk_at dksX2_likeness_0 5 rfl rfl)
theorem dX2_likeness_8 : decode cX2_likeness 8 = .ok (.aload_n 0, 1) := dk_42 (dk_at dksX2_likeness_0 8 rfl rfl)
theorem dX2_likeness_9 : decode cX2_likeness 9 = .ok (.iload_n 1, 1) := dk_27 (dk_at dksX2_likeness_0 9 rfl rfl)
theorem dX2_likeness_10 : decode cX2_likeness 10 = .ok (.invokevirtual 308, 3) := dk_182 1 52 (dk_at dksX2_likeness_0 10 rfl rfl)
theorem dX2_likeness_13 : decode cX2_likeness 13 = .ok (.goto 5, 3) := dk_167 0 5 (dk_at dksX2_likeness_0 13 rfl rfl)
theorem dX2_likeness_16 : decode cX2_likeness 16 = .ok (.bipush (-2), 2) := dk_16 254 (dk_at dksX2_likeness_0 16 rfl rfl)
theorem dX2_likeness_18 : decode cX2_likeness 18 = .ok (.ireturn, 1) := dk_172 (dk_at dksX2_likeness_0 18 rfl rfl)
abbrev cX2_likenessOf : ByteArray := prog_19_method_79_code
def yX2_likenessOf : MethodName := ⟨RX2, "likenessOf", "(I)I"⟩
def dkwX2_likenessOf_3 : List UInt8 := [96, 61, 132, 4, 1, 167, 255, 198, 28, 172]
abbrev dktX2_likenessOf_3 : List UInt8 := dkwX2_likenessOf_3 ++ []
def dkwX2_likenessOf_2 : List UInt8 := [180, 0, 7, 16, 17, 16, 10, 27, 104, 96, 42, 180, 0, 42, 21, 4, 46, 96, 46, 4, 96, 104, 29, 108]
abbrev dktX2_likenessOf_2 : List UInt8 := dkwX2_likenessOf_2 ++ dktX2_likenessOf_3
def dkwX2_likenessOf_1 : List UInt8 := [162, 0, 55, 28, 42, 180, 0, 42, 21, 4, 46, 2, 160, 0, 7, 3, 167, 0, 31, 17, 3, 232, 42]
abbrev dktX2_likenessOf_1 : List UInt8 := dkwX2_likenessOf_1 ++ dktX2_likenessOf_2
def dkwX2_likenessOf_0 : List UInt8 := [3, 61, 42, 27, 182, 0, 231, 42, 180, 0, 149, 96, 62, 3, 54, 4, 21, 4, 42, 180, 0, 185]
abbrev dktX2_likenessOf_0 : List UInt8 := dkwX2_likenessOf_0 ++ dktX2_likenessOf_1
theorem dksX2_likenessOf_0 : cX2_likenessOf.data.toList.drop 0 = dktX2_likenessOf_0 := by decide +kernel
theorem dksX2_likenessOf_1 : cX2_likenessOf.data.toList.drop 22 = dktX2_likenessOf_1 := dk_seg dksX2_likenessOf_0 22 rfl rfl
theorem dksX2_likenessOf_2 : cX2_likenessOf.data.toList.drop 45 = dktX2_likenessOf_2 := dk_seg dksX2_likenessOf_1 23 rfl rfl
theorem dksX2_likenessOf_3 : cX2_likenessOf.data.toList.drop 69 = dktX2_likenessOf_3 := dk_seg dksX2_likenessOf_2 24 rfl rfl
theorem dX2_likenessOf_0 : decode cX2_likenessOf 0 = .ok (.iconst 0, 1) := dk_3 (dk_at dksX2_likenessOf_0 0 rfl rfl)
theorem dX2_likenessOf_1 : decode cX2_likenessOf 1 = .ok (.istore_n 2, 1) := dk_61 (dk_at dksX2_likenessOf_0 1 rfl rfl)
theorem dX2_likenessOf_2 : decode cX2_likenessOf 2 = .ok (.aload_n 0, 1) := dk_42 (dk_at dksX2_likenessOf_0 2 rfl rfl)
theorem dX2_likenessOf_3 : decode cX2_likenessOf 3 = .ok (.iload_n 1, 1) := dk_27 (dk_at dksX2_likenessOf_0 3 rfl rfl)
theorem dX2_likenessOf_4 : decode cX2_likenessOf 4 = .ok (.invokevirtual 231, 3) := dk_182 0 231 (dk_at dksX2_likenessOf_0 4 rfl rfl)
theorem dX2_likenessOf_7 : decode cX2_likenessOf 7 = .ok (.aload_n 0, 1) := dk_42 (dk_at dksX2_likenessOf_0 7 rfl rfl)
theorem dX2_likenessOf_8 : decode cX2_likenessOf 8 = .ok (.getfield 149, 3) := dk_180 0 149 (dk_at dksX2_likenessOf_0 8 rfl rfl)
theorem dX2_likenessOf_11 : decode cX2_likenessOf 11 = .ok (.iadd, 1) := dk_96 (dk_at dksX2_likenessOf_0 11 rfl rfl)
theorem dX2_likenessOf_12 : decode cX2_likenessOf 12 = .ok (.istore_n 3, 1) := dk_62 (dk_at dksX2_likenessOf_0 12 rfl rfl)
theorem dX2_likenessOf_13 : decode cX2_likenessOf 13 = .ok (.iconst 0, 1) := dk_3 (dk_at dksX2_likenessOf_0 13 rfl rfl)
theorem dX2_likenessOf_14 : decode cX2_likenessOf 14 = .ok (.istore 4, 2) := dk_54 4 (dk_at dksX2_likenessOf_0 14 rfl rfl)
theorem dX2_likenessOf_16 : decode cX2_likenessOf 16 = .ok (.iload 4, 2) := dk_21 4 (dk_at dksX2_likenessOf_0 16 rfl rfl)
theorem dX2_likenessOf_18 : decode cX2_likenessOf 18 = .ok (.aload_n 0, 1) := dk_42 (dk_at dksX2_likenessOf_0 18 rfl rfl)
theorem dX2_likenessOf_19 : decode cX2_likenessOf 19 = .ok (.getfield 185, 3) := dk_180 0 185 (dk_at dksX2_likenessOf_0 19 rfl rfl)
theorem dX2_likenessOf_22 : decode cX2_likenessOf 22 = .ok (.if_icmp .ge 55, 3) := dk_162 0 55 (dk_at dksX2_likenessOf_1 0 rfl rfl)
theorem dX2_likenessOf_25 : decode cX2_likenessOf 25 = .ok (.iload_n 2, 1) := dk_28 (dk_at dksX2_likenessOf_1 3 rfl rfl)
theorem dX2_likenessOf_26 : decode cX2_likenessOf 26 = .ok (.aload_n 0, 1) := dk_42 (dk_at dksX2_likenessOf_1 4 rfl rfl)
theorem dX2_likenessOf_27 : decode cX2_likenessOf 27 = .ok (.getfield 42, 3) := dk_180 0 42 (dk_at dksX2_likenessOf_1 5 rfl rfl)
theorem dX2_likenessOf_30 : decode cX2_likenessOf 30 = .ok (.iload 4, 2) := dk_21 4 (dk_at dksX2_likenessOf_1 8 rfl rfl)
theorem dX2_likenessOf_32 : decode cX2_likenessOf 32 = .ok (.iaload, 1) := dk_46 (dk_at dksX2_likenessOf_1 10 rfl rfl)
theorem dX2_likenessOf_33 : decode cX2_likenessOf 33 = .ok (.iconst (-1), 1) := dk_2 (dk_at dksX2_likenessOf_1 11 rfl rfl)
theorem dX2_likenessOf_34 : decode cX2_likenessOf 34 = .ok (.if_icmp .ne 7, 3) := dk_160 0 7 (dk_at dksX2_likenessOf_1 12 rfl rfl)
theorem dX2_likenessOf_37 : decode cX2_likenessOf 37 = .ok (.iconst 0, 1) := dk_3 (dk_at dksX2_likenessOf_1 15 rfl rfl)
theorem dX2_likenessOf_38 : decode cX2_likenessOf 38 = .ok (.goto 31, 3) := dk_167 0 31 (dk_at dksX2_likenessOf_1 16 rfl rfl)
theorem dX2_likenessOf_41 : decode cX2_likenessOf 41 = .ok (.sipush 1000, 3) := dk_17 3 232 (dk_at dksX2_likenessOf_1 19 rfl rfl)
theorem dX2_likenessOf_44 : decode cX2_likenessOf 44 = .ok (.aload_n 0, 1) := dk_42 (dk_at dksX2_likenessOf_1 22 rfl rfl)
theorem dX2_likenessOf_45 : decode cX2_likenessOf 45 = .ok (.getfield 7, 3) := dk_180 0 7 (dk_at dksX2_likenessOf_2 0 rfl rfl)
theorem dX2_likenessOf_48 : decode cX2_likenessOf 48 = .ok (.bipush 17, 2) := dk_16 17 (dk_at dksX2_likenessOf_2 3 rfl rfl)
theorem dX2_likenessOf_50 : decode cX2_likenessOf 50 = .ok (.bipush 10, 2) := dk_16 10 (dk_at dksX2_likenessOf_2 5 rfl rfl)
theorem dX2_likenessOf_52 : decode cX2_likenessOf 52 = .ok (.iload_n 1, 1) := dk_27 (dk_at dksX2_likenessOf_2 7 rfl rfl)
theorem dX2_likenessOf_53 : decode cX2_likenessOf 53 = .ok (.imul, 1) := dk_104 (dk_at dksX2_likenessOf_2 8 rfl rfl)
theorem dX2_likenessOf_54 : decode cX2_likenessOf 54 = .ok (.iadd, 1) := dk_96 (dk_at dksX2_likenessOf_2 9 rfl rfl)
theorem dX2_likenessOf_55 : decode cX2_likenessOf 55 = .ok (.aload_n 0, 1) := dk_42 (dk_at dksX2_likenessOf_2 10 rfl rfl)
theorem dX2_likenessOf_56 : decode cX2_likenessOf 56 = .ok (.getfield 42, 3) := dk_180 0 42 (dk_at dksX2_likenessOf_2 11 rfl rfl)
theorem dX2_likenessOf_59 : decode cX2_likenessOf 59 = .ok (.iload 4, 2) := dk_21 4 (dk_at dksX2_likenessOf_2 14 rfl rfl)
theorem dX2_likenessOf_61 : decode cX2_likenessOf 61 = .ok (.iaload, 1) := dk_46 (dk_at dksX2_likenessOf_2 16 rfl rfl)
theorem dX2_likenessOf_62 : decode cX2_likenessOf 62 = .ok (.iadd, 1) := dk_96 (dk_at dksX2_likenessOf_2 17 rfl rfl)
theorem dX2_likenessOf_63 : decode cX2_likenessOf 63 = .ok (.iaload, 1) := dk_46 (dk_at dksX2_likenessOf_2 18 rfl rfl)
theorem dX2_likenessOf_64 : decode cX2_likenessOf 64 = .ok (.iconst 1, 1) := dk_4 (dk_at dksX2_likenessOf_2 19 rfl rfl)
theorem dX2_likenessOf_65 : decode cX2_likenessOf 65 = .ok (.iadd, 1) := dk_96 (dk_at dksX2_likenessOf_2 20 rfl rfl)
theorem dX2_likenessOf_66 : decode cX2_likenessOf 66 = .ok (.imul, 1) := dk_104 (dk_at dksX2_likenessOf_2 21 rfl rfl)
theorem dX2_likenessOf_67 : decode cX2_likenessOf 67 = .ok (.iload_n 3, 1) := dk_29 (dk_at dksX2_likenessOf_2 22 rfl rfl)
theorem dX2_likenessOf_68 : decode cX2_likenessOf 68 = .ok (.idiv, 1) := dk_108 (dk_at dksX2_likenessOf_2 23 rfl rfl)
theorem dX2_likenessOf_69 : decode cX2_likenessOf 69 = .ok (.iadd, 1) := dk_96 (dk_at dksX2_likenessOf_3 0 rfl rfl)
theorem dX2_likenessOf_70 : decode cX2_likenessOf 70 = .ok (.istore_n 2, 1) := dk_61 (dk_at dksX2_likenessOf_3 1 rfl rfl)
theorem dX2_likenessOf_71 : decode cX2_likenessOf 71 = .ok (.iinc 4 1, 3) := dk_132 4 1 (dk_at dksX2_likenessOf_3 2 rfl rfl)
theorem dX2_likenessOf_74 : decode cX2_likenessOf 74 = .ok (.goto (-58), 3) := dk_167 255 198 (dk_at dksX2_likenessOf_3 5 rfl rfl)
theorem dX2_likenessOf_77 : decode cX2_likenessOf 77 = .ok (.iload_n 2, 1) := dk_28 (dk_at dksX2_likenessOf_3 8 rfl rfl)
theorem dX2_likenessOf_78 : decode cX2_likenessOf 78 = .ok (.ireturn, 1) := dk_172 (dk_at dksX2_likenessOf_3 9 rfl rfl)
abbrev cX2_author : ByteArray := prog_19_method_81_code
def yX2_author : MethodName := ⟨RX2, "author", "()I"⟩
def dkwX2_author_3 : List UInt8 := [167, 0, 4, 28, 61, 132, 3, 1, 167, 255, 217, 28, 172]
abbrev dktX2_author_3 : List UInt8 := dkwX2_author_3 ++ []
def dkwX2_author_2 : List UInt8 := [27, 158, 0, 33, 28, 2, 159, 0, 16, 42, 29, 182, 1, 52, 42, 28, 182, 1, 52, 164, 0, 7, 29]
abbrev dktX2_author_2 : List UInt8 := dkwX2_author_2 ++ dktX2_author_3
def dkwX2_author_1 : List UInt8 := [167, 0, 4, 4, 96, 60, 132, 2, 1, 167, 255, 227, 2, 61, 3, 62, 29, 42, 180, 0, 155, 162, 0, 37]
abbrev dktX2_author_1 : List UInt8 := dkwX2_author_1 ++ dktX2_author_2
def dkwX2_author_0 : List UInt8 := [3, 60, 3, 61, 28, 42, 180, 0, 185, 162, 0, 27, 27, 42, 180, 0, 42, 28, 46, 2, 160, 0, 7, 3]
abbrev dktX2_author_0 : List UInt8 := dkwX2_author_0 ++ dktX2_author_1
theorem dksX2_author_0 : cX2_author.data.toList.drop 0 = dktX2_author_0 := by decide +kernel
theorem dksX2_author_1 : cX2_author.data.toList.drop 24 = dktX2_author_1 := dk_seg dksX2_author_0 24 rfl rfl
theorem dksX2_author_2 : cX2_author.data.toList.drop 48 = dktX2_author_2 := dk_seg dksX2_author_1 24 rfl rfl
theorem dksX2_author_3 : cX2_author.data.toList.drop 71 = dktX2_author_3 := dk_seg dksX2_author_2 23 rfl rfl
theorem dX2_author_0 : decode cX2_author 0 = .ok (.iconst 0, 1) := dk_3 (dk_at dksX2_author_0 0 rfl rfl)
theorem dX2_author_1 : decode cX2_author 1 = .ok (.istore_n 1, 1) := dk_60 (dk_at dksX2_author_0 1 rfl rfl)
theorem dX2_author_2 : decode cX2_author 2 = .ok (.iconst 0, 1) := dk_3 (dk_at dksX2_author_0 2 rfl rfl)
theorem dX2_author_3 : decode cX2_author 3 = .ok (.istore_n 2, 1) := dk_61 (dk_at dksX2_author_0 3 rfl rfl)
theorem dX2_author_4 : decode cX2_author 4 = .ok (.iload_n 2, 1) := dk_28 (dk_at dksX2_author_0 4 rfl rfl)
theorem dX2_author_5 : decode cX2_author 5 = .ok (.aload_n 0, 1) := dk_42 (dk_at dksX2_author_0 5 rfl rfl)
theorem dX2_author_6 : decode cX2_author 6 = .ok (.getfield 185, 3) := dk_180 0 185 (dk_at dksX2_author_0 6 rfl rfl)
theorem dX2_author_9 : decode cX2_author 9 = .ok (.if_icmp .ge 27, 3) := dk_162 0 27 (dk_at dksX2_author_0 9 rfl rfl)
theorem dX2_author_12 : decode cX2_author 12 = .ok (.iload_n 1, 1) := dk_27 (dk_at dksX2_author_0 12 rfl rfl)
theorem dX2_author_13 : decode cX2_author 13 = .ok (.aload_n 0, 1) := dk_42 (dk_at dksX2_author_0 13 rfl rfl)
theorem dX2_author_14 : decode cX2_author 14 = .ok (.getfield 42, 3) := dk_180 0 42 (dk_at dksX2_author_0 14 rfl rfl)
theorem dX2_author_17 : decode cX2_author 17 = .ok (.iload_n 2, 1) := dk_28 (dk_at dksX2_author_0 17 rfl rfl)
theorem dX2_author_18 : decode cX2_author 18 = .ok (.iaload, 1) := dk_46 (dk_at dksX2_author_0 18 rfl rfl)
theorem dX2_author_19 : decode cX2_author 19 = .ok (.iconst (-1), 1) := dk_2 (dk_at dksX2_author_0 19 rfl rfl)
theorem dX2_author_20 : decode cX2_author 20 = .ok (.if_icmp .ne 7, 3) := dk_160 0 7 (dk_at dksX2_author_0 20 rfl rfl)
theorem dX2_author_23 : decode cX2_author 23 = .ok (.iconst 0, 1) := dk_3 (dk_at dksX2_author_0 23 rfl rfl)
theorem dX2_author_24 : decode cX2_author 24 = .ok (.goto 4, 3) := dk_167 0 4 (dk_at dksX2_author_1 0 rfl rfl)
theorem dX2_author_27 : decode cX2_author 27 = .ok (.iconst 1, 1) := dk_4 (dk_at dksX2_author_1 3 rfl rfl)
theorem dX2_author_28 : decode cX2_author 28 = .ok (.iadd, 1) := dk_96 (dk_at dksX2_author_1 4 rfl rfl)
theorem dX2_author_29 : decode cX2_author 29 = .ok (.istore_n 1, 1) := dk_60 (dk_at dksX2_author_1 5 rfl rfl)
theorem dX2_author_30 : decode cX2_author 30 = .ok (.iinc 2 1, 3) := dk_132 2 1 (dk_at dksX2_author_1 6 rfl rfl)
theorem dX2_author_33 : decode cX2_author 33 = .ok (.goto (-29), 3) := dk_167 255 227 (dk_at dksX2_author_1 9 rfl rfl)
theorem dX2_author_36 : decode cX2_author 36 = .ok (.iconst (-1), 1) := dk_2 (dk_at dksX2_author_1 12 rfl rfl)
theorem dX2_author_37 : decode cX2_author 37 = .ok (.istore_n 2, 1) := dk_61 (dk_at dksX2_author_1 13 rfl rfl)
theorem dX2_author_38 : decode cX2_author 38 = .ok (.iconst 0, 1) := dk_3 (dk_at dksX2_author_1 14 rfl rfl)
theorem dX2_author_39 : decode cX2_author 39 = .ok (.istore_n 3, 1) := dk_62 (dk_at dksX2_author_1 15 rfl rfl)
theorem dX2_author_40 : decode cX2_author 40 = .ok (.iload_n 3, 1) := dk_29 (dk_at dksX2_author_1 16 rfl rfl)
theorem dX2_author_41 : decode cX2_author 41 = .ok (.aload_n 0, 1) := dk_42 (dk_at dksX2_author_1 17 rfl rfl)
theorem dX2_author_42 : decode cX2_author 42 = .ok (.getfield 155, 3) := dk_180 0 155 (dk_at dksX2_author_1 18 rfl rfl)
theorem dX2_author_45 : decode cX2_author 45 = .ok (.if_icmp .ge 37, 3) := dk_162 0 37 (dk_at dksX2_author_1 21 rfl rfl)
theorem dX2_author_48 : decode cX2_author 48 = .ok (.iload_n 1, 1) := dk_27 (dk_at dksX2_author_2 0 rfl rfl)
theorem dX2_author_49 : decode cX2_author 49 = .ok (.ifCond .le 33, 3) := dk_158 0 33 (dk_at dksX2_author_2 1 rfl rfl)
theorem dX2_author_52 : decode cX2_author 52 = .ok (.iload_n 2, 1) := dk_28 (dk_at dksX2_author_2 4 rfl rfl)
theorem dX2_author_53 : decode cX2_author 53 = .ok (.iconst (-1), 1) := dk_2 (dk_at dksX2_author_2 5 rfl rfl)
theorem dX2_author_54 : decode cX2_author 54 = .ok (.if_icmp .eq 16, 3) := dk_159 0 16 (dk_at dksX2_author_2 6 rfl rfl)
theorem dX2_author_57 : decode cX2_author 57 = .ok (.aload_n 0, 1) := dk_42 (dk_at dksX2_author_2 9 rfl rfl)
theorem dX2_author_58 : decode cX2_author 58 = .ok (.iload_n 3, 1) := dk_29 (dk_at dksX2_author_2 10 rfl rfl)
theorem dX2_author_59 : decode cX2_author 59 = .ok (.invokevirtual 308, 3) := dk_182 1 52 (dk_at dksX2_author_2 11 rfl rfl)
theorem dX2_author_62 : decode cX2_author 62 = .ok (.aload_n 0, 1) := dk_42 (dk_at dksX2_author_2 14 rfl rfl)
theorem dX2_author_63 : decode cX2_author 63 = .ok (.iload_n 2, 1) := dk_28 (dk_at dksX2_author_2 15 rfl rfl)
theorem dX2_author_64 : decode cX2_author 64 = .ok (.invokevirtual 308, 3) := dk_182 1 52 (dk_at dksX2_author_2 16 rfl rfl)
theorem dX2_author_67 : decode cX2_author 67 = .ok (.if_icmp .le 7, 3) := dk_164 0 7 (dk_at dksX2_author_2 19 rfl rfl)
theorem dX2_author_70 : decode cX2_author 70 = .ok (.iload_n 3, 1) := dk_29 (dk_at dksX2_author_2 22 rfl rfl)
theorem dX2_author_71 : decode cX2_author 71 = .ok (.goto 4, 3) := dk_167 0 4 (dk_at dksX2_author_3 0 rfl rfl)
theorem dX2_author_74 : decode cX2_author 74 = .ok (.iload_n 2, 1) := dk_28 (dk_at dksX2_author_3 3 rfl rfl)
theorem dX2_author_75 : decode cX2_author 75 = .ok (.istore_n 2, 1) := dk_61 (dk_at dksX2_author_3 4 rfl rfl)
theorem dX2_author_76 : decode cX2_author 76 = .ok (.iinc 3 1, 3) := dk_132 3 1 (dk_at dksX2_author_3 5 rfl rfl)
theorem dX2_author_79 : decode cX2_author 79 = .ok (.goto (-39), 3) := dk_167 255 217 (dk_at dksX2_author_3 8 rfl rfl)
theorem dX2_author_82 : decode cX2_author 82 = .ok (.iload_n 2, 1) := dk_28 (dk_at dksX2_author_3 11 rfl rfl)
theorem dX2_author_83 : decode cX2_author 83 = .ok (.ireturn, 1) := dk_172 (dk_at dksX2_author_3 12 rfl rfl)
abbrev cX2_left : ByteArray := prog_19_method_82_code
def yX2_left : MethodName := ⟨RX2, "left", "(I)I"⟩
def dkwX2_left_8 : List UInt8 := [4, 160, 0, 9, 29, 7, 108, 167, 0, 6, 29, 7, 112, 172]
abbrev dktX2_left_8 : List UInt8 := dkwX2_left_8 ++ []
def dkwX2_left_7 : List UInt8 := [132, 4, 1, 167, 255, 111, 27, 154, 0, 7, 28, 167, 0, 26, 29, 2, 160, 0, 7, 2, 167, 0, 17, 27]
abbrev dktX2_left_7 : List UInt8 := dkwX2_left_7 ++ dktX2_left_8
def dkwX2_left_6 : List UInt8 := [154, 0, 8, 21, 4, 167, 0, 4, 29, 62, 28, 21, 9, 153, 0, 7, 4, 167, 0, 4, 3, 96, 61]
abbrev dktX2_left_6 : List UInt8 := dkwX2_left_6 ++ dktX2_left_7
def dkwX2_left_5 : List UInt8 := [180, 0, 35, 21, 6, 46, 21, 8, 164, 0, 7, 4, 167, 0, 4, 3, 54, 9, 21, 9, 153, 0, 12, 28]
abbrev dktX2_left_5 : List UInt8 := dkwX2_left_5 ++ dktX2_left_6
def dkwX2_left_4 : List UInt8 := [21, 6, 96, 46, 16, 60, 162, 0, 33, 42, 180, 0, 7, 8, 21, 6, 96, 46, 21, 8, 161, 0, 19, 42]
abbrev dktX2_left_4 : List UInt8 := dkwX2_left_4 ++ dktX2_left_5
def dkwX2_left_3 : List UInt8 := [54, 8, 21, 7, 153, 0, 59, 42, 180, 0, 7, 4, 21, 5, 96, 46, 158, 0, 47, 42, 180, 0, 7, 4]
abbrev dktX2_left_3 : List UInt8 := dkwX2_left_3 ++ dktX2_left_4
def dkwX2_left_2 : List UInt8 := [182, 1, 0, 54, 7, 21, 7, 153, 0, 15, 42, 180, 0, 35, 21, 5, 46, 4, 96, 167, 0, 4, 3]
abbrev dktX2_left_2 : List UInt8 := dkwX2_left_2 ++ dktX2_left_3
def dkwX2_left_1 : List UInt8 := [16, 16, 162, 0, 144, 21, 4, 7, 108, 54, 5, 21, 4, 7, 112, 54, 6, 42, 21, 5, 21, 6]
abbrev dktX2_left_1 : List UInt8 := dkwX2_left_1 ++ dktX2_left_2
def dkwX2_left_0 : List UInt8 := [27, 133, 9, 20, 1, 55, 184, 0, 65, 154, 0, 6, 16, 253, 172, 3, 61, 2, 62, 3, 54, 4, 21, 4]
abbrev dktX2_left_0 : List UInt8 := dkwX2_left_0 ++ dktX2_left_1
theorem dksX2_left_0 : cX2_left.data.toList.drop 0 = dktX2_left_0 := by decide +kernel
theorem dksX2_left_1 : cX2_left.data.toList.drop 24 = dktX2_left_1 := dk_seg dksX2_left_0 24 rfl rfl
theorem dksX2_left_2 : cX2_left.data.toList.drop 46 = dktX2_left_2 := dk_seg dksX2_left_1 22 rfl rfl
theorem dksX2_left_3 : cX2_left.data.toList.drop 69 = dktX2_left_3 := dk_seg dksX2_left_2 23 rfl rfl
theorem dksX2_left_4 : cX2_left.data.toList.drop 93 = dktX2_left_4 := dk_seg dksX2_left_3 24 rfl rfl
theorem dksX2_left_5 : cX2_left.data.toList.drop 117 = dktX2_left_5 := dk_seg dksX2_left_4 24 rfl rfl
theorem dksX2_left_6 : cX2_left.data.toList.drop 141 = dktX2_left_6 := dk_seg dksX2_left_5 24 rfl rfl
theorem dksX2_left_7 : cX2_left.data.toList.drop 164 = dktX2_left_7 := dk_seg dksX2_left_6 23 rfl rfl
theorem dksX2_left_8 : cX2_left.data.toList.drop 188 = dktX2_left_8 := dk_seg dksX2_left_7 24 rfl rfl
theorem dX2_left_0 : decode cX2_left 0 = .ok (.iload_n 1, 1) := dk_27 (dk_at dksX2_left_0 0 rfl rfl)
theorem dX2_left_1 : decode cX2_left 1 = .ok (.i2l, 1) := dk_133 (dk_at dksX2_left_0 1 rfl rfl)
theorem dX2_left_2 : decode cX2_left 2 = .ok (.lconst 0, 1) := dk_9 (dk_at dksX2_left_0 2 rfl rfl)
theorem dX2_left_3 : decode cX2_left 3 = .ok (.ldc2_w 311, 3) := dk_20 1 55 (dk_at dksX2_left_0 3 rfl rfl)
theorem dX2_left_6 : decode cX2_left 6 = .ok (.invokestatic 65, 3) := dk_184 0 65 (dk_at dksX2_left_0 6 rfl rfl)
theorem dX2_left_9 : decode cX2_left 9 = .ok (.ifCond .ne 6, 3) := dk_154 0 6 (dk_at dksX2_left_0 9 rfl rfl)
theorem dX2_left_12 : decode cX2_left 12 = .ok (.bipush (-3), 2) := dk_16 253 (dk_at dksX2_left_0 12 rfl rfl)
theorem dX2_left_14 : decode cX2_left 14 = .ok (.ireturn, 1) := dk_172 (dk_at dksX2_left_0 14 rfl rfl)
theorem dX2_left_15 : decode cX2_left 15 = .ok (.iconst 0, 1) := dk_3 (dk_at dksX2_left_0 15 rfl rfl)
theorem dX2_left_16 : decode cX2_left 16 = .ok (.istore_n 2, 1) := dk_61 (dk_at dksX2_left_0 16 rfl rfl)
theorem dX2_left_17 : decode cX2_left 17 = .ok (.iconst (-1), 1) := dk_2 (dk_at dksX2_left_0 17 rfl rfl)
theorem dX2_left_18 : decode cX2_left 18 = .ok (.istore_n 3, 1) := dk_62 (dk_at dksX2_left_0 18 rfl rfl)
theorem dX2_left_19 : decode cX2_left 19 = .ok (.iconst 0, 1) := dk_3 (dk_at dksX2_left_0 19 rfl rfl)
theorem dX2_left_20 : decode cX2_left 20 = .ok (.istore 4, 2) := dk_54 4 (dk_at dksX2_left_0 20 rfl rfl)
theorem dX2_left_22 : decode cX2_left 22 = .ok (.iload 4, 2) := dk_21 4 (dk_at dksX2_left_0 22 rfl rfl)
theorem dX2_left_24 : decode cX2_left 24 = .ok (.bipush 16, 2) := dk_16 16 (dk_at dksX2_left_1 0 rfl rfl)
theorem dX2_left_26 : decode cX2_left 26 = .ok (.if_icmp .ge 144, 3) := dk_162 0 144 (dk_at dksX2_left_1 2 rfl rfl)
theorem dX2_left_29 : decode cX2_left 29 = .ok (.iload 4, 2) := dk_21 4 (dk_at dksX2_left_1 5 rfl rfl)
theorem dX2_left_31 : decode cX2_left 31 = .ok (.iconst 4, 1) := dk_7 (dk_at dksX2_left_1 7 rfl rfl)
theorem dX2_left_32 : decode cX2_left 32 = .ok (.idiv, 1) := dk_108 (dk_at dksX2_left_1 8 rfl rfl)
theorem dX2_left_33 : decode cX2_left 33 = .ok (.istore 5, 2) := dk_54 5 (dk_at dksX2_left_1 9 rfl rfl)
theorem dX2_left_35 : decode cX2_left 35 = .ok (.iload 4, 2) := dk_21 4 (dk_at dksX2_left_1 11 rfl rfl)
theorem dX2_left_37 : decode cX2_left 37 = .ok (.iconst 4, 1) := dk_7 (dk_at dksX2_left_1 13 rfl rfl)
theorem dX2_left_38 : decode cX2_left 38 = .ok (.irem, 1) := dk_112 (dk_at dksX2_left_1 14 rfl rfl)
theorem dX2_left_39 : decode cX2_left 39 = .ok (.istore 6, 2) := dk_54 6 (dk_at dksX2_left_1 15 rfl rfl)
theorem dX2_left_41 : decode cX2_left 41 = .ok (.aload_n 0, 1) := dk_42 (dk_at dksX2_left_1 17 rfl rfl)
theorem dX2_left_42 : decode cX2_left 42 = .ok (.iload 5, 2) := dk_21 5 (dk_at dksX2_left_1 18 rfl rfl)
theorem dX2_left_44 : decode cX2_left 44 = .ok (.iload 6, 2) := dk_21 6 (dk_at dksX2_left_1 20 rfl rfl)
theorem dX2_left_46 : decode cX2_left 46 = .ok (.invokevirtual 256, 3) := dk_182 1 0 (dk_at dksX2_left_2 0 rfl rfl)
theorem dX2_left_49 : decode cX2_left 49 = .ok (.istore 7, 2) := dk_54 7 (dk_at dksX2_left_2 3 rfl rfl)
theorem dX2_left_51 : decode cX2_left 51 = .ok (.iload 7, 2) := dk_21 7 (dk_at dksX2_left_2 5 rfl rfl)
theorem dX2_left_53 : decode cX2_left 53 = .ok (.ifCond .eq 15, 3) := dk_153 0 15 (dk_at dksX2_left_2 7 rfl rfl)
theorem dX2_left_56 : decode cX2_left 56 = .ok (.aload_n 0, 1) := dk_42 (dk_at dksX2_left_2 10 rfl rfl)
theorem dX2_left_57 : decode cX2_left 57 = .ok (.getfield 35, 3) := dk_180 0 35 (dk_at dksX2_left_2 11 rfl rfl)
theorem dX2_left_60 : decode cX2_left 60 = .ok (.iload 5, 2) := dk_21 5 (dk_at dksX2_left_2 14 rfl rfl)
theorem dX2_left_62 : decode cX2_left 62 = .ok (.iaload, 1) := dk_46 (dk_at dksX2_left_2 16 rfl rfl)
theorem dX2_left_63 : decode cX2_left 63 = .ok (.iconst 1, 1) := dk_4 (dk_at dksX2_left_2 17 rfl rfl)
theorem dX2_left_64 : decode cX2_left 64 = .ok (.iadd, 1) := dk_96 (dk_at dksX2_left_2 18 rfl rfl)
theorem dX2_left_65 : decode cX2_left 65 = .ok (.goto 4, 3) := dk_167 0 4 (dk_at dksX2_left_2 19 rfl rfl)
theorem dX2_left_68 : decode cX2_left 68 = .ok (.iconst 0, 1) := dk_3 (dk_at dksX2_left_2 22 rfl rfl)
theorem dX2_left_69 : decode cX2_left 69 = .ok (.istore 8, 2) := dk_54 8 (dk_at dksX2_left_3 0 rfl rfl)
theorem dX2_left_71 : decode cX2_left 71 = .ok (.iload 7, 2) := dk_21 7 (dk_at dksX2_left_3 2 rfl rfl)
theorem dX2_left_73 : decode cX2_left 73 = .ok (.ifCond .eq 59, 3) := dk_153 0 59 (dk_at dksX2_left_3 4 rfl rfl)
theorem dX2_left_76 : decode cX2_left 76 = .ok (.aload_n 0, 1) := dk_42 (dk_at dksX2_left_3 7 rfl rfl)
theorem dX2_left_77 : decode cX2_left 77 = .ok (.getfield 7, 3) := dk_180 0 7 (dk_at dksX2_left_3 8 rfl rfl)
theorem dX2_left_80 : decode cX2_left 80 = .ok (.iconst 1, 1) := dk_4 (dk_at dksX2_left_3 11 rfl rfl)
theorem dX2_left_81 : decode cX2_left 81 = .ok (.iload 5, 2) := dk_21 5 (dk_at dksX2_left_3 12 rfl rfl)
theorem dX2_left_83 : decode cX2_left 83 = .ok (.iadd, 1) := dk_96 (dk_at dksX2_left_3 14 rfl rfl)
theorem dX2_left_84 : decode cX2_left 84 = .ok (.iaload, 1) := dk_46 (dk_at dksX2_left_3 15 rfl rfl)
theorem dX2_left_85 : decode cX2_left 85 = .ok (.ifCond .le 47, 3) := dk_158 0 47 (dk_at dksX2_left_3 16 rfl rfl)
theorem dX2_left_88 : decode cX2_left 88 = .ok (.aload_n 0, 1) := dk_42 (dk_at dksX2_left_3 19 rfl rfl)
theorem dX2_left_89 : decode cX2_left 89 = .ok (.getfield 7, 3) := dk_180 0 7 (dk_at dksX2_left_3 20 rfl rfl)
theorem dX2_left_92 : decode cX2_left 92 = .ok (.iconst 1, 1) := dk_4 (dk_at dksX2_left_3 23 rfl rfl)
theorem dX2_left_93 : decode cX2_left 93 = .ok (.iload 6, 2) := dk_21 6 (dk_at dksX2_left_4 0 rfl rfl)
theorem dX2_left_95 : decode cX2_left 95 = .ok (.iadd, 1) := dk_96 (dk_at dksX2_left_4 2 rfl rfl)
theorem dX2_left_96 : decode cX2_left 96 = .ok (.iaload, 1) := dk_46 (dk_at dksX2_left_4 3 rfl rfl)
theorem dX2_left_97 : decode cX2_left 97 = .ok (.bipush 60, 2) := dk_16 60 (dk_at dksX2_left_4 4 rfl rfl)
theorem dX2_left_99 : decode cX2_left 99 = .ok (.if_icmp .ge 33, 3) := dk_162 0 33 (dk_at dksX2_left_4 6 rfl rfl)
theorem dX2_left_102 : decode cX2_left 102 = .ok (.aload_n 0, 1) := dk_42 (dk_at dksX2_left_4 9 rfl rfl)
theorem dX2_left_103 : decode cX2_left 103 = .ok (.getfield 7, 3) := dk_180 0 7 (dk_at dksX2_left_4 10 rfl rfl)
theorem dX2_left_106 : decode cX2_left 106 = .ok (.iconst 5, 1) := dk_8 (dk_at dksX2_left_4 13 rfl rfl)
theorem dX2_left_107 : decode cX2_left 107 = .ok (.iload 6, 2) := dk_21 6 (dk_at dksX2_left_4 14 rfl rfl)
theorem dX2_left_109 : decode cX2_left 109 = .ok (.iadd, 1) := dk_96 (dk_at dksX2_left_4 16 rfl rfl)
theorem dX2_left_110 : decode cX2_left 110 = .ok (.iaload, 1) := dk_46 (dk_at dksX2_left_4 17 rfl rfl)
theorem dX2_left_111 : decode cX2_left 111 = .ok (.iload 8, 2) := dk_21 8 (dk_at dksX2_left_4 18 rfl rfl)
theorem dX2_left_113 : decode cX2_left 113 = .ok (.if_icmp .lt 19, 3) := dk_161 0 19 (dk_at dksX2_left_4 20 rfl rfl)
theorem dX2_left_116 : decode cX2_left 116 = .ok (.aload_n 0, 1) := dk_42 (dk_at dksX2_left_4 23 rfl rfl)
theorem dX2_left_117 : decode cX2_left 117 = .ok (.getfield 35, 3) := dk_180 0 35 (dk_at dksX2_left_5 0 rfl rfl)
theorem dX2_left_120 : decode cX2_left 120 = .ok (.iload 6, 2) := dk_21 6 (dk_at dksX2_left_5 3 rfl rfl)
theorem dX2_left_122 : decode cX2_left 122 = .ok (.iaload, 1) := dk_46 (dk_at dksX2_left_5 5 rfl rfl)
theorem dX2_left_123 : decode cX2_left 123 = .ok (.iload 8, 2) := dk_21 8 (dk_at dksX2_left_5 6 rfl rfl)
theorem dX2_left_125 : decode cX2_left 125 = .ok (.if_icmp .le 7, 3) := dk_164 0 7 (dk_at dksX2_left_5 8 rfl rfl)
theorem dX2_left_128 : decode cX2_left 128 = .ok (.iconst 1, 1) := dk_4 (dk_at dksX2_left_5 11 rfl rfl)
theorem dX2_left_129 : decode cX2_left 129 = .ok (.goto 4, 3) := dk_167 0 4 (dk_at dksX2_left_5 12 rfl rfl)
theorem dX2_left_132 : decode cX2_left 132 = .ok (.iconst 0, 1) := dk_3 (dk_at dksX2_left_5 15 rfl rfl)
theorem dX2_left_133 : decode cX2_left 133 = .ok (.istore 9, 2) := dk_54 9 (dk_at dksX2_left_5 16 rfl rfl)
theorem dX2_left_135 : decode cX2_left 135 = .ok (.iload 9, 2) := dk_21 9 (dk_at dksX2_left_5 18 rfl rfl)
theorem dX2_left_137 : decode cX2_left 137 = .ok (.ifCond .eq 12, 3) := dk_153 0 12 (dk_at dksX2_left_5 20 rfl rfl)
theorem dX2_left_140 : decode cX2_left 140 = .ok (.iload_n 2, 1) := dk_28 (dk_at dksX2_left_5 23 rfl rfl)
theorem dX2_left_141 : decode cX2_left 141 = .ok (.ifCond .ne 8, 3) := dk_154 0 8 (dk_at dksX2_left_6 0 rfl rfl)
theorem dX2_left_144 : decode cX2_left 144 = .ok (.iload 4, 2) := dk_21 4 (dk_at dksX2_left_6 3 rfl rfl)
theorem dX2_left_146 : decode cX2_left 146 = .ok (.goto 4, 3) := dk_167 0 4 (dk_at dksX2_left_6 5 rfl rfl)
theorem dX2_left_149 : decode cX2_left 149 = .ok (.iload_n 3, 1) := dk_29 (dk_at dksX2_left_6 8 rfl rfl)
theorem dX2_left_150 : decode cX2_left 150 = .ok (.istore_n 3, 1) := dk_62 (dk_at dksX2_left_6 9 rfl rfl)
theorem dX2_left_151 : decode cX2_left 151 = .ok (.iload_n 2, 1) := dk_28 (dk_at dksX2_left_6 10 rfl rfl)
theorem dX2_left_152 : decode cX2_left 152 = .ok (.iload 9, 2) := dk_21 9 (dk_at dksX2_left_6 11 rfl rfl)
theorem dX2_left_154 : decode cX2_left 154 = .ok (.ifCond .eq 7, 3) := dk_153 0 7 (dk_at dksX2_left_6 13 rfl rfl)
theorem dX2_left_157 : decode cX2_left 157 = .ok (.iconst 1, 1) := dk_4 (dk_at dksX2_left_6 16 rfl rfl)
theorem dX2_left_158 : decode cX2_left 158 = .ok (.goto 4, 3) := dk_167 0 4 (dk_at dksX2_left_6 17 rfl rfl)
theorem dX2_left_161 : decode cX2_left 161 = .ok (.iconst 0, 1) := dk_3 (dk_at dksX2_left_6 20 rfl rfl)
theorem dX2_left_162 : decode cX2_left 162 = .ok (.iadd, 1) := dk_96 (dk_at dksX2_left_6 21 rfl rfl)
theorem dX2_left_163 : decode cX2_left 163 = .ok (.istore_n 2, 1) := dk_61 (dk_at dksX2_left_6 22 rfl rfl)
theorem dX2_left_164 : decode cX2_left 164 = .ok (.iinc 4 1, 3) := dk_132 4 1 (dk_at dksX2_left_7 0 rfl rfl)
theorem dX2_left_167 : decode cX2_left 167 = .ok (.goto (-145), 3) := dk_167 255 111 (dk_at dksX2_left_7 3 rfl rfl)
theorem dX2_left_170 : decode cX2_left 170 = .ok (.iload_n 1, 1) := dk_27 (dk_at dksX2_left_7 6 rfl rfl)
theorem dX2_left_171 : decode cX2_left 171 = .ok (.ifCond .ne 7, 3) := dk_154 0 7 (dk_at dksX2_left_7 7 rfl rfl)
theorem dX2_left_174 : decode cX2_left 174 = .ok (.iload_n 2, 1) := dk_28 (dk_at dksX2_left_7 10 rfl rfl)
theorem dX2_left_175 : decode cX2_left 175 = .ok (.goto 26, 3) := dk_167 0 26 (dk_at dksX2_left_7 11 rfl rfl)
theorem dX2_left_178 : decode cX2_left 178 = .ok (.iload_n 3, 1) := dk_29 (dk_at dksX2_left_7 14 rfl rfl)
theorem dX2_left_179 : decode cX2_left 179 = .ok (.iconst (-1), 1) := dk_2 (dk_at dksX2_left_7 15 rfl rfl)
theorem dX2_left_180 : decode cX2_left 180 = .ok (.if_icmp .ne 7, 3) := dk_160 0 7 (dk_at dksX2_left_7 16 rfl rfl)
theorem dX2_left_183 : decode cX2_left 183 = .ok (.iconst (-1), 1) := dk_2 (dk_at dksX2_left_7 19 rfl rfl)
theorem dX2_left_184 : decode cX2_left 184 = .ok (.goto 17, 3) := dk_167 0 17 (dk_at dksX2_left_7 20 rfl rfl)
theorem dX2_left_187 : decode cX2_left 187 = .ok (.iload_n 1, 1) := dk_27 (dk_at dksX2_left_7 23 rfl rfl)
theorem dX2_left_188 : decode cX2_left 188 = .ok (.iconst 1, 1) := dk_4 (dk_at dksX2_left_8 0 rfl rfl)
theorem dX2_left_189 : decode cX2_left 189 = .ok (.if_icmp .ne 9, 3) := dk_160 0 9 (dk_at dksX2_left_8 1 rfl rfl)
theorem dX2_left_192 : decode cX2_left 192 = .ok (.iload_n 3, 1) := dk_29 (dk_at dksX2_left_8 4 rfl rfl)
theorem dX2_left_193 : decode cX2_left 193 = .ok (.iconst 4, 1) := dk_7 (dk_at dksX2_left_8 5 rfl rfl)
theorem dX2_left_194 : decode cX2_left 194 = .ok (.idiv, 1) := dk_108 (dk_at dksX2_left_8 6 rfl rfl)
theorem dX2_left_195 : decode cX2_left 195 = .ok (.goto 6, 3) := dk_167 0 6 (dk_at dksX2_left_8 7 rfl rfl)
theorem dX2_left_198 : decode cX2_left 198 = .ok (.iload_n 3, 1) := dk_29 (dk_at dksX2_left_8 10 rfl rfl)
theorem dX2_left_199 : decode cX2_left 199 = .ok (.iconst 4, 1) := dk_7 (dk_at dksX2_left_8 11 rfl rfl)
theorem dX2_left_200 : decode cX2_left 200 = .ok (.irem, 1) := dk_112 (dk_at dksX2_left_8 12 rfl rfl)
theorem dX2_left_201 : decode cX2_left 201 = .ok (.ireturn, 1) := dk_172 (dk_at dksX2_left_8 13 rfl rfl)
abbrev cX2_net : ByteArray := prog_19_method_84_code
def yX2_net : MethodName := ⟨RX2, "net", "(I)I"⟩
def dkwX2_net_0 : List UInt8 := [42, 27, 182, 0, 228, 153, 0, 15, 17, 39, 15, 42, 27, 182, 1, 57, 96, 167, 0, 5, 16, 254, 172]
abbrev dktX2_net_0 : List UInt8 := dkwX2_net_0 ++ []
theorem dksX2_net_0 : cX2_net.data.toList.drop 0 = dktX2_net_0 := by decide +kernel
theorem dX2_net_0 : decode cX2_net 0 = .ok (.aload_n 0, 1) := dk_42 (dk_at dksX2_net_0 0 rfl rfl)
theorem dX2_net_1 : decode cX2_net 1 = .ok (.iload_n 1, 1) := dk_27 (dk_at dksX2_net_0 1 rfl rfl)
theorem dX2_net_2 : decode cX2_net 2 = .ok (.invokevirtual 228, 3) := dk_182 0 228 (dk_at dksX2_net_0 2 rfl rfl)
theorem dX2_net_5 : decode cX2_net 5 = .ok (.ifCond .eq 15, 3) := dk_153 0 15 (dk_at dksX2_net_0 5 rfl rfl)
theorem dX2_net_8 : decode cX2_net 8 = .ok (.sipush 9999, 3) := dk_17 39 15 (dk_at dksX2_net_0 8 rfl rfl)
theorem dX2_net_11 : decode cX2_net 11 = .ok (.aload_n 0, 1) := dk_42 (dk_at dksX2_net_0 11 rfl rfl)
theorem dX2_net_12 : decode cX2_net 12 = .ok (.iload_n 1, 1) := dk_27 (dk_at dksX2_net_0 12 rfl rfl)
theorem dX2_net_13 : decode cX2_net 13 = .ok (.invokevirtual 313, 3) := dk_182 1 57 (dk_at dksX2_net_0 13 rfl rfl)
theorem dX2_net_16 : decode cX2_net 16 = .ok (.iadd, 1) := dk_96 (dk_at dksX2_net_0 16 rfl rfl)
theorem dX2_net_17 : decode cX2_net 17 = .ok (.goto 5, 3) := dk_167 0 5 (dk_at dksX2_net_0 17 rfl rfl)
theorem dX2_net_20 : decode cX2_net 20 = .ok (.bipush (-2), 2) := dk_16 254 (dk_at dksX2_net_0 20 rfl rfl)
theorem dX2_net_22 : decode cX2_net 22 = .ok (.ireturn, 1) := dk_172 (dk_at dksX2_net_0 22 rfl rfl)
abbrev cX2_netOf : ByteArray := prog_19_method_83_code
def yX2_netOf : MethodName := ⟨RX2, "netOf", "(I)I"⟩
def dkwX2_netOf_1 : List UInt8 := [180, 0, 7, 16, 57, 7, 27, 104, 96, 29, 96, 46, 100, 96, 61, 132, 3, 1, 167, 255, 218, 28, 172]
abbrev dktX2_netOf_1 : List UInt8 := dkwX2_netOf_1 ++ []
def dkwX2_netOf_0 : List UInt8 := [3, 61, 3, 62, 29, 7, 162, 0, 39, 28, 42, 180, 0, 7, 16, 57, 7, 29, 104, 96, 27, 96, 46, 42]
abbrev dktX2_netOf_0 : List UInt8 := dkwX2_netOf_0 ++ dktX2_netOf_1
theorem dksX2_netOf_0 : cX2_netOf.data.toList.drop 0 = dktX2_netOf_0 := by decide +kernel
theorem dksX2_netOf_1 : cX2_netOf.data.toList.drop 24 = dktX2_netOf_1 := dk_seg dksX2_netOf_0 24 rfl rfl
theorem dX2_netOf_0 : decode cX2_netOf 0 = .ok (.iconst 0, 1) := dk_3 (dk_at dksX2_netOf_0 0 rfl rfl)
theorem dX2_netOf_1 : decode cX2_netOf 1 = .ok (.istore_n 2, 1) := dk_61 (dk_at dksX2_netOf_0 1 rfl rfl)
theorem dX2_netOf_2 : decode cX2_netOf 2 = .ok (.iconst 0, 1) := dk_3 (dk_at dksX2_netOf_0 2 rfl rfl)
theorem dX2_netOf_3 : decode cX2_netOf 3 = .ok (.istore_n 3, 1) := dk_62 (dk_at dksX2_netOf_0 3 rfl rfl)
theorem dX2_netOf_4 : decode cX2_netOf 4 = .ok (.iload_n 3, 1) := dk_29 (dk_at dksX2_netOf_0 4 rfl rfl)
theorem dX2_netOf_5 : decode cX2_netOf 5 = .ok (.iconst 4, 1) := dk_7 (dk_at dksX2_netOf_0 5 rfl rfl)
theorem dX2_netOf_6 : decode cX2_netOf 6 = .ok (.if_icmp .ge 39, 3) := dk_162 0 39 (dk_at dksX2_netOf_0 6 rfl rfl)
theorem dX2_netOf_9 : decode cX2_netOf 9 = .ok (.iload_n 2, 1) := dk_28 (dk_at dksX2_netOf_0 9 rfl rfl)
theorem dX2_netOf_10 : decode cX2_netOf 10 = .ok (.aload_n 0, 1) := dk_42 (dk_at dksX2_netOf_0 10 rfl rfl)
theorem dX2_netOf_11 : decode cX2_netOf 11 = .ok (.getfield 7, 3) := dk_180 0 7 (dk_at dksX2_netOf_0 11 rfl rfl)
theorem dX2_netOf_14 : decode cX2_netOf 14 = .ok (.bipush 57, 2) := dk_16 57 (dk_at dksX2_netOf_0 14 rfl rfl)
theorem dX2_netOf_16 : decode cX2_netOf 16 = .ok (.iconst 4, 1) := dk_7 (dk_at dksX2_netOf_0 16 rfl rfl)
theorem dX2_netOf_17 : decode cX2_netOf 17 = .ok (.iload_n 3, 1) := dk_29 (dk_at dksX2_netOf_0 17 rfl rfl)
theorem dX2_netOf_18 : decode cX2_netOf 18 = .ok (.imul, 1) := dk_104 (dk_at dksX2_netOf_0 18 rfl rfl)
theorem dX2_netOf_19 : decode cX2_netOf 19 = .ok (.iadd, 1) := dk_96 (dk_at dksX2_netOf_0 19 rfl rfl)
theorem dX2_netOf_20 : decode cX2_netOf 20 = .ok (.iload_n 1, 1) := dk_27 (dk_at dksX2_netOf_0 20 rfl rfl)
theorem dX2_netOf_21 : decode cX2_netOf 21 = .ok (.iadd, 1) := dk_96 (dk_at dksX2_netOf_0 21 rfl rfl)
theorem dX2_netOf_22 : decode cX2_netOf 22 = .ok (.iaload, 1) := dk_46 (dk_at dksX2_netOf_0 22 rfl rfl)
theorem dX2_netOf_23 : decode cX2_netOf 23 = .ok (.aload_n 0, 1) := dk_42 (dk_at dksX2_netOf_0 23 rfl rfl)
theorem dX2_netOf_24 : decode cX2_netOf 24 = .ok (.getfield 7, 3) := dk_180 0 7 (dk_at dksX2_netOf_1 0 rfl rfl)
theorem dX2_netOf_27 : decode cX2_netOf 27 = .ok (.bipush 57, 2) := dk_16 57 (dk_at dksX2_netOf_1 3 rfl rfl)
theorem dX2_netOf_29 : decode cX2_netOf 29 = .ok (.iconst 4, 1) := dk_7 (dk_at dksX2_netOf_1 5 rfl rfl)
theorem dX2_netOf_30 : decode cX2_netOf 30 = .ok (.iload_n 1, 1) := dk_27 (dk_at dksX2_netOf_1 6 rfl rfl)
theorem dX2_netOf_31 : decode cX2_netOf 31 = .ok (.imul, 1) := dk_104 (dk_at dksX2_netOf_1 7 rfl rfl)
theorem dX2_netOf_32 : decode cX2_netOf 32 = .ok (.iadd, 1) := dk_96 (dk_at dksX2_netOf_1 8 rfl rfl)
theorem dX2_netOf_33 : decode cX2_netOf 33 = .ok (.iload_n 3, 1) := dk_29 (dk_at dksX2_netOf_1 9 rfl rfl)
theorem dX2_netOf_34 : decode cX2_netOf 34 = .ok (.iadd, 1) := dk_96 (dk_at dksX2_netOf_1 10 rfl rfl)
theorem dX2_netOf_35 : decode cX2_netOf 35 = .ok (.iaload, 1) := dk_46 (dk_at dksX2_netOf_1 11 rfl rfl)
theorem dX2_netOf_36 : decode cX2_netOf 36 = .ok (.isub, 1) := dk_100 (dk_at dksX2_netOf_1 12 rfl rfl)
theorem dX2_netOf_37 : decode cX2_netOf 37 = .ok (.iadd, 1) := dk_96 (dk_at dksX2_netOf_1 13 rfl rfl)
theorem dX2_netOf_38 : decode cX2_netOf 38 = .ok (.istore_n 2, 1) := dk_61 (dk_at dksX2_netOf_1 14 rfl rfl)
theorem dX2_netOf_39 : decode cX2_netOf 39 = .ok (.iinc 3 1, 3) := dk_132 3 1 (dk_at dksX2_netOf_1 15 rfl rfl)
theorem dX2_netOf_42 : decode cX2_netOf 42 = .ok (.goto (-38), 3) := dk_167 255 218 (dk_at dksX2_netOf_1 18 rfl rfl)
theorem dX2_netOf_45 : decode cX2_netOf 45 = .ok (.iload_n 2, 1) := dk_28 (dk_at dksX2_netOf_1 21 rfl rfl)
theorem dX2_netOf_46 : decode cX2_netOf 46 = .ok (.ireturn, 1) := dk_172 (dk_at dksX2_netOf_1 22 rfl rfl)
abbrev cX2_payments : ByteArray := prog_19_method_86_code
def yX2_payments : MethodName := ⟨RX2, "payments", "()I"⟩
def dkwX2_payments_6 : List UInt8 := [180, 0, 60, 27, 46, 100, 172]
abbrev dktX2_payments_6 : List UInt8 := dkwX2_payments_6 ++ []
def dkwX2_payments_5 : List UInt8 := [167, 255, 166, 132, 1, 1, 167, 255, 137, 4, 42, 180, 0, 155, 120, 4, 100, 60, 27, 184, 1, 34, 42]
abbrev dktX2_payments_5 : List UInt8 := dkwX2_payments_5 ++ dktX2_payments_6
def dkwX2_payments_4 : List UInt8 := [180, 0, 60, 27, 46, 164, 0, 8, 21, 4, 167, 0, 9, 42, 180, 0, 60, 27, 46, 79, 132, 2, 1]
abbrev dktX2_payments_4 : List UInt8 := dkwX2_payments_4 ++ dktX2_payments_5
def dkwX2_payments_3 : List UInt8 := [180, 0, 60, 27, 28, 130, 46, 4, 96, 167, 0, 4, 2, 54, 4, 42, 180, 0, 60, 27, 21, 4, 42]
abbrev dktX2_payments_3 : List UInt8 := dkwX2_payments_3 ++ dktX2_payments_4
def dkwX2_payments_2 : List UInt8 := [180, 0, 60, 27, 28, 130, 46, 2, 159, 0, 7, 4, 167, 0, 4, 3, 62, 29, 153, 0, 16, 42]
abbrev dktX2_payments_2 : List UInt8 := dkwX2_payments_2 ++ dktX2_payments_3
def dkwX2_payments_1 : List UInt8 := [61, 28, 27, 163, 0, 91, 28, 27, 2, 130, 126, 154, 0, 27, 42, 28, 182, 1, 60, 154, 0, 19, 42]
abbrev dktX2_payments_1 : List UInt8 := dkwX2_payments_1 ++ dktX2_payments_2
def dkwX2_payments_0 : List UInt8 := [3, 60, 27, 16, 16, 162, 0, 119, 42, 180, 0, 60, 27, 27, 154, 0, 7, 3, 167, 0, 4, 2, 79, 4]
abbrev dktX2_payments_0 : List UInt8 := dkwX2_payments_0 ++ dktX2_payments_1
theorem dksX2_payments_0 : cX2_payments.data.toList.drop 0 = dktX2_payments_0 := by decide +kernel
theorem dksX2_payments_1 : cX2_payments.data.toList.drop 24 = dktX2_payments_1 := dk_seg dksX2_payments_0 24 rfl rfl
theorem dksX2_payments_2 : cX2_payments.data.toList.drop 47 = dktX2_payments_2 := dk_seg dksX2_payments_1 23 rfl rfl
theorem dksX2_payments_3 : cX2_payments.data.toList.drop 69 = dktX2_payments_3 := dk_seg dksX2_payments_2 22 rfl rfl
theorem dksX2_payments_4 : cX2_payments.data.toList.drop 92 = dktX2_payments_4 := dk_seg dksX2_payments_3 23 rfl rfl
theorem dksX2_payments_5 : cX2_payments.data.toList.drop 115 = dktX2_payments_5 := dk_seg dksX2_payments_4 23 rfl rfl
theorem dksX2_payments_6 : cX2_payments.data.toList.drop 138 = dktX2_payments_6 := dk_seg dksX2_payments_5 23 rfl rfl
theorem dX2_payments_0 : decode cX2_payments 0 = .ok (.iconst 0, 1) := dk_3 (dk_at dksX2_payments_0 0 rfl rfl)
theorem dX2_payments_1 : decode cX2_payments 1 = .ok (.istore_n 1, 1) := dk_60 (dk_at dksX2_payments_0 1 rfl rfl)
theorem dX2_payments_2 : decode cX2_payments 2 = .ok (.iload_n 1, 1) := dk_27 (dk_at dksX2_payments_0 2 rfl rfl)
theorem dX2_payments_3 : decode cX2_payments 3 = .ok (.bipush 16, 2) := dk_16 16 (dk_at dksX2_payments_0 3 rfl rfl)
theorem dX2_payments_5 : decode cX2_payments 5 = .ok (.if_icmp .ge 119, 3) := dk_162 0 119 (dk_at dksX2_payments_0 5 rfl rfl)
theorem dX2_payments_8 : decode cX2_payments 8 = .ok (.aload_n 0, 1) := dk_42 (dk_at dksX2_payments_0 8 rfl rfl)
theorem dX2_payments_9 : decode cX2_payments 9 = .ok (.getfield 60, 3) := dk_180 0 60 (dk_at dksX2_payments_0 9 rfl rfl)
theorem dX2_payments_12 : decode cX2_payments 12 = .ok (.iload_n 1, 1) := dk_27 (dk_at dksX2_payments_0 12 rfl rfl)
theorem dX2_payments_13 : decode cX2_payments 13 = .ok (.iload_n 1, 1) := dk_27 (dk_at dksX2_payments_0 13 rfl rfl)
theorem dX2_payments_14 : decode cX2_payments 14 = .ok (.ifCond .ne 7, 3) := dk_154 0 7 (dk_at dksX2_payments_0 14 rfl rfl)
theorem dX2_payments_17 : decode cX2_payments 17 = .ok (.iconst 0, 1) := dk_3 (dk_at dksX2_payments_0 17 rfl rfl)
theorem dX2_payments_18 : decode cX2_payments 18 = .ok (.goto 4, 3) := dk_167 0 4 (dk_at dksX2_payments_0 18 rfl rfl)
theorem dX2_payments_21 : decode cX2_payments 21 = .ok (.iconst (-1), 1) := dk_2 (dk_at dksX2_payments_0 21 rfl rfl)
theorem dX2_payments_22 : decode cX2_payments 22 = .ok (.iastore, 1) := dk_79 (dk_at dksX2_payments_0 22 rfl rfl)
theorem dX2_payments_23 : decode cX2_payments 23 = .ok (.iconst 1, 1) := dk_4 (dk_at dksX2_payments_0 23 rfl rfl)
theorem dX2_payments_24 : decode cX2_payments 24 = .ok (.istore_n 2, 1) := dk_61 (dk_at dksX2_payments_1 0 rfl rfl)
theorem dX2_payments_25 : decode cX2_payments 25 = .ok (.iload_n 2, 1) := dk_28 (dk_at dksX2_payments_1 1 rfl rfl)
theorem dX2_payments_26 : decode cX2_payments 26 = .ok (.iload_n 1, 1) := dk_27 (dk_at dksX2_payments_1 2 rfl rfl)
theorem dX2_payments_27 : decode cX2_payments 27 = .ok (.if_icmp .gt 91, 3) := dk_163 0 91 (dk_at dksX2_payments_1 3 rfl rfl)
theorem dX2_payments_30 : decode cX2_payments 30 = .ok (.iload_n 2, 1) := dk_28 (dk_at dksX2_payments_1 6 rfl rfl)
theorem dX2_payments_31 : decode cX2_payments 31 = .ok (.iload_n 1, 1) := dk_27 (dk_at dksX2_payments_1 7 rfl rfl)
theorem dX2_payments_32 : decode cX2_payments 32 = .ok (.iconst (-1), 1) := dk_2 (dk_at dksX2_payments_1 8 rfl rfl)
theorem dX2_payments_33 : decode cX2_payments 33 = .ok (.ixor, 1) := dk_130 (dk_at dksX2_payments_1 9 rfl rfl)
theorem dX2_payments_34 : decode cX2_payments 34 = .ok (.iand, 1) := dk_126 (dk_at dksX2_payments_1 10 rfl rfl)
theorem dX2_payments_35 : decode cX2_payments 35 = .ok (.ifCond .ne 27, 3) := dk_154 0 27 (dk_at dksX2_payments_1 11 rfl rfl)
theorem dX2_payments_38 : decode cX2_payments 38 = .ok (.aload_n 0, 1) := dk_42 (dk_at dksX2_payments_1 14 rfl rfl)
theorem dX2_payments_39 : decode cX2_payments 39 = .ok (.iload_n 2, 1) := dk_28 (dk_at dksX2_payments_1 15 rfl rfl)
theorem dX2_payments_40 : decode cX2_payments 40 = .ok (.invokevirtual 316, 3) := dk_182 1 60 (dk_at dksX2_payments_1 16 rfl rfl)
theorem dX2_payments_43 : decode cX2_payments 43 = .ok (.ifCond .ne 19, 3) := dk_154 0 19 (dk_at dksX2_payments_1 19 rfl rfl)
theorem dX2_payments_46 : decode cX2_payments 46 = .ok (.aload_n 0, 1) := dk_42 (dk_at dksX2_payments_1 22 rfl rfl)
theorem dX2_payments_47 : decode cX2_payments 47 = .ok (.getfield 60, 3) := dk_180 0 60 (dk_at dksX2_payments_2 0 rfl rfl)
theorem dX2_payments_50 : decode cX2_payments 50 = .ok (.iload_n 1, 1) := dk_27 (dk_at dksX2_payments_2 3 rfl rfl)
theorem dX2_payments_51 : decode cX2_payments 51 = .ok (.iload_n 2, 1) := dk_28 (dk_at dksX2_payments_2 4 rfl rfl)
theorem dX2_payments_52 : decode cX2_payments 52 = .ok (.ixor, 1) := dk_130 (dk_at dksX2_payments_2 5 rfl rfl)
theorem dX2_payments_53 : decode cX2_payments 53 = .ok (.iaload, 1) := dk_46 (dk_at dksX2_payments_2 6 rfl rfl)
theorem dX2_payments_54 : decode cX2_payments 54 = .ok (.iconst (-1), 1) := dk_2 (dk_at dksX2_payments_2 7 rfl rfl)
theorem dX2_payments_55 : decode cX2_payments 55 = .ok (.if_icmp .eq 7, 3) := dk_159 0 7 (dk_at dksX2_payments_2 8 rfl rfl)
theorem dX2_payments_58 : decode cX2_payments 58 = .ok (.iconst 1, 1) := dk_4 (dk_at dksX2_payments_2 11 rfl rfl)
theorem dX2_payments_59 : decode cX2_payments 59 = .ok (.goto 4, 3) := dk_167 0 4 (dk_at dksX2_payments_2 12 rfl rfl)
theorem dX2_payments_62 : decode cX2_payments 62 = .ok (.iconst 0, 1) := dk_3 (dk_at dksX2_payments_2 15 rfl rfl)
theorem dX2_payments_63 : decode cX2_payments 63 = .ok (.istore_n 3, 1) := dk_62 (dk_at dksX2_payments_2 16 rfl rfl)
theorem dX2_payments_64 : decode cX2_payments 64 = .ok (.iload_n 3, 1) := dk_29 (dk_at dksX2_payments_2 17 rfl rfl)
theorem dX2_payments_65 : decode cX2_payments 65 = .ok (.ifCond .eq 16, 3) := dk_153 0 16 (dk_at dksX2_payments_2 18 rfl rfl)
theorem dX2_payments_68 : decode cX2_payments 68 = .ok (.aload_n 0, 1) := dk_42 (dk_at dksX2_payments_2 21 rfl rfl)
theorem dX2_payments_69 : decode cX2_payments 69 = .ok (.getfield 60, 3) := dk_180 0 60 (dk_at dksX2_payments_3 0 rfl rfl)
theorem dX2_payments_72 : decode cX2_payments 72 = .ok (.iload_n 1, 1) := dk_27 (dk_at dksX2_payments_3 3 rfl rfl)
theorem dX2_payments_73 : decode cX2_payments 73 = .ok (.iload_n 2, 1) := dk_28 (dk_at dksX2_payments_3 4 rfl rfl)
theorem dX2_payments_74 : decode cX2_payments 74 = .ok (.ixor, 1) := dk_130 (dk_at dksX2_payments_3 5 rfl rfl)
theorem dX2_payments_75 : decode cX2_payments 75 = .ok (.iaload, 1) := dk_46 (dk_at dksX2_payments_3 6 rfl rfl)
theorem dX2_payments_76 : decode cX2_payments 76 = .ok (.iconst 1, 1) := dk_4 (dk_at dksX2_payments_3 7 rfl rfl)
theorem dX2_payments_77 : decode cX2_payments 77 = .ok (.iadd, 1) := dk_96 (dk_at dksX2_payments_3 8 rfl rfl)
theorem dX2_payments_78 : decode cX2_payments 78 = .ok (.goto 4, 3) := dk_167 0 4 (dk_at dksX2_payments_3 9 rfl rfl)
theorem dX2_payments_81 : decode cX2_payments 81 = .ok (.iconst (-1), 1) := dk_2 (dk_at dksX2_payments_3 12 rfl rfl)
theorem dX2_payments_82 : decode cX2_payments 82 = .ok (.istore 4, 2) := dk_54 4 (dk_at dksX2_payments_3 13 rfl rfl)
theorem dX2_payments_84 : decode cX2_payments 84 = .ok (.aload_n 0, 1) := dk_42 (dk_at dksX2_payments_3 15 rfl rfl)
theorem dX2_payments_85 : decode cX2_payments 85 = .ok (.getfield 60, 3) := dk_180 0 60 (dk_at dksX2_payments_3 16 rfl rfl)
theorem dX2_payments_88 : decode cX2_payments 88 = .ok (.iload_n 1, 1) := dk_27 (dk_at dksX2_payments_3 19 rfl rfl)
theorem dX2_payments_89 : decode cX2_payments 89 = .ok (.iload 4, 2) := dk_21 4 (dk_at dksX2_payments_3 20 rfl rfl)
theorem dX2_payments_91 : decode cX2_payments 91 = .ok (.aload_n 0, 1) := dk_42 (dk_at dksX2_payments_3 22 rfl rfl)
theorem dX2_payments_92 : decode cX2_payments 92 = .ok (.getfield 60, 3) := dk_180 0 60 (dk_at dksX2_payments_4 0 rfl rfl)
theorem dX2_payments_95 : decode cX2_payments 95 = .ok (.iload_n 1, 1) := dk_27 (dk_at dksX2_payments_4 3 rfl rfl)
theorem dX2_payments_96 : decode cX2_payments 96 = .ok (.iaload, 1) := dk_46 (dk_at dksX2_payments_4 4 rfl rfl)
theorem dX2_payments_97 : decode cX2_payments 97 = .ok (.if_icmp .le 8, 3) := dk_164 0 8 (dk_at dksX2_payments_4 5 rfl rfl)
theorem dX2_payments_100 : decode cX2_payments 100 = .ok (.iload 4, 2) := dk_21 4 (dk_at dksX2_payments_4 8 rfl rfl)
theorem dX2_payments_102 : decode cX2_payments 102 = .ok (.goto 9, 3) := dk_167 0 9 (dk_at dksX2_payments_4 10 rfl rfl)
theorem dX2_payments_105 : decode cX2_payments 105 = .ok (.aload_n 0, 1) := dk_42 (dk_at dksX2_payments_4 13 rfl rfl)
theorem dX2_payments_106 : decode cX2_payments 106 = .ok (.getfield 60, 3) := dk_180 0 60 (dk_at dksX2_payments_4 14 rfl rfl)
theorem dX2_payments_109 : decode cX2_payments 109 = .ok (.iload_n 1, 1) := dk_27 (dk_at dksX2_payments_4 17 rfl rfl)
theorem dX2_payments_110 : decode cX2_payments 110 = .ok (.iaload, 1) := dk_46 (dk_at dksX2_payments_4 18 rfl rfl)
theorem dX2_payments_111 : decode cX2_payments 111 = .ok (.iastore, 1) := dk_79 (dk_at dksX2_payments_4 19 rfl rfl)
theorem dX2_payments_112 : decode cX2_payments 112 = .ok (.iinc 2 1, 3) := dk_132 2 1 (dk_at dksX2_payments_4 20 rfl rfl)
theorem dX2_payments_115 : decode cX2_payments 115 = .ok (.goto (-90), 3) := dk_167 255 166 (dk_at dksX2_payments_5 0 rfl rfl)
theorem dX2_payments_118 : decode cX2_payments 118 = .ok (.iinc 1 1, 3) := dk_132 1 1 (dk_at dksX2_payments_5 3 rfl rfl)
theorem dX2_payments_121 : decode cX2_payments 121 = .ok (.goto (-119), 3) := dk_167 255 137 (dk_at dksX2_payments_5 6 rfl rfl)
theorem dX2_payments_124 : decode cX2_payments 124 = .ok (.iconst 1, 1) := dk_4 (dk_at dksX2_payments_5 9 rfl rfl)
theorem dX2_payments_125 : decode cX2_payments 125 = .ok (.aload_n 0, 1) := dk_42 (dk_at dksX2_payments_5 10 rfl rfl)
theorem dX2_payments_126 : decode cX2_payments 126 = .ok (.getfield 155, 3) := dk_180 0 155 (dk_at dksX2_payments_5 11 rfl rfl)
theorem dX2_payments_129 : decode cX2_payments 129 = .ok (.ishl, 1) := dk_120 (dk_at dksX2_payments_5 14 rfl rfl)
theorem dX2_payments_130 : decode cX2_payments 130 = .ok (.iconst 1, 1) := dk_4 (dk_at dksX2_payments_5 15 rfl rfl)
theorem dX2_payments_131 : decode cX2_payments 131 = .ok (.isub, 1) := dk_100 (dk_at dksX2_payments_5 16 rfl rfl)
theorem dX2_payments_132 : decode cX2_payments 132 = .ok (.istore_n 1, 1) := dk_60 (dk_at dksX2_payments_5 17 rfl rfl)
theorem dX2_payments_133 : decode cX2_payments 133 = .ok (.iload_n 1, 1) := dk_27 (dk_at dksX2_payments_5 18 rfl rfl)
theorem dX2_payments_134 : decode cX2_payments 134 = .ok (.invokestatic 290, 3) := dk_184 1 34 (dk_at dksX2_payments_5 19 rfl rfl)
theorem dX2_payments_137 : decode cX2_payments 137 = .ok (.aload_n 0, 1) := dk_42 (dk_at dksX2_payments_5 22 rfl rfl)
theorem dX2_payments_138 : decode cX2_payments 138 = .ok (.getfield 60, 3) := dk_180 0 60 (dk_at dksX2_payments_6 0 rfl rfl)
theorem dX2_payments_141 : decode cX2_payments 141 = .ok (.iload_n 1, 1) := dk_27 (dk_at dksX2_payments_6 3 rfl rfl)
theorem dX2_payments_142 : decode cX2_payments 142 = .ok (.iaload, 1) := dk_46 (dk_at dksX2_payments_6 4 rfl rfl)
theorem dX2_payments_143 : decode cX2_payments 143 = .ok (.isub, 1) := dk_100 (dk_at dksX2_payments_6 5 rfl rfl)
theorem dX2_payments_144 : decode cX2_payments 144 = .ok (.ireturn, 1) := dk_172 (dk_at dksX2_payments_6 6 rfl rfl)
abbrev cX2_netOfSet : ByteArray := prog_19_method_85_code
def yX2_netOfSet : MethodName := ⟨RX2, "netOfSet", "(I)I"⟩
def dkwX2_netOfSet_1 : List UInt8 := [182, 1, 57, 167, 0, 4, 3, 96, 61, 132, 3, 1, 167, 255, 225, 28, 172]
abbrev dktX2_netOfSet_1 : List UInt8 := dkwX2_netOfSet_1 ++ []
def dkwX2_netOfSet_0 : List UInt8 := [3, 61, 3, 62, 29, 42, 180, 0, 155, 162, 0, 29, 28, 27, 29, 184, 0, 203, 153, 0, 11, 42, 29]
abbrev dktX2_netOfSet_0 : List UInt8 := dkwX2_netOfSet_0 ++ dktX2_netOfSet_1
theorem dksX2_netOfSet_0 : cX2_netOfSet.data.toList.drop 0 = dktX2_netOfSet_0 := by decide +kernel
theorem dksX2_netOfSet_1 : cX2_netOfSet.data.toList.drop 23 = dktX2_netOfSet_1 := dk_seg dksX2_netOfSet_0 23 rfl rfl
theorem dX2_netOfSet_0 : decode cX2_netOfSet 0 = .ok (.iconst 0, 1) := dk_3 (dk_at dksX2_netOfSet_0 0 rfl rfl)
theorem dX2_netOfSet_1 : decode cX2_netOfSet 1 = .ok (.istore_n 2, 1) := dk_61 (dk_at dksX2_netOfSet_0 1 rfl rfl)
theorem dX2_netOfSet_2 : decode cX2_netOfSet 2 = .ok (.iconst 0, 1) := dk_3 (dk_at dksX2_netOfSet_0 2 rfl rfl)
theorem dX2_netOfSet_3 : decode cX2_netOfSet 3 = .ok (.istore_n 3, 1) := dk_62 (dk_at dksX2_netOfSet_0 3 rfl rfl)
theorem dX2_netOfSet_4 : decode cX2_netOfSet 4 = .ok (.iload_n 3, 1) := dk_29 (dk_at dksX2_netOfSet_0 4 rfl rfl)
theorem dX2_netOfSet_5 : decode cX2_netOfSet 5 = .ok (.aload_n 0, 1) := dk_42 (dk_at dksX2_netOfSet_0 5 rfl rfl)
theorem dX2_netOfSet_6 : decode cX2_netOfSet 6 = .ok (.getfield 155, 3) := dk_180 0 155 (dk_at dksX2_netOfSet_0 6 rfl rfl)
theorem dX2_netOfSet_9 : decode cX2_netOfSet 9 = .ok (.if_icmp .ge 29, 3) := dk_162 0 29 (dk_at dksX2_netOfSet_0 9 rfl rfl)
theorem dX2_netOfSet_12 : decode cX2_netOfSet 12 = .ok (.iload_n 2, 1) := dk_28 (dk_at dksX2_netOfSet_0 12 rfl rfl)
theorem dX2_netOfSet_13 : decode cX2_netOfSet 13 = .ok (.iload_n 1, 1) := dk_27 (dk_at dksX2_netOfSet_0 13 rfl rfl)
theorem dX2_netOfSet_14 : decode cX2_netOfSet 14 = .ok (.iload_n 3, 1) := dk_29 (dk_at dksX2_netOfSet_0 14 rfl rfl)
theorem dX2_netOfSet_15 : decode cX2_netOfSet 15 = .ok (.invokestatic 203, 3) := dk_184 0 203 (dk_at dksX2_netOfSet_0 15 rfl rfl)
theorem dX2_netOfSet_18 : decode cX2_netOfSet 18 = .ok (.ifCond .eq 11, 3) := dk_153 0 11 (dk_at dksX2_netOfSet_0 18 rfl rfl)
theorem dX2_netOfSet_21 : decode cX2_netOfSet 21 = .ok (.aload_n 0, 1) := dk_42 (dk_at dksX2_netOfSet_0 21 rfl rfl)
theorem dX2_netOfSet_22 : decode cX2_netOfSet 22 = .ok (.iload_n 3, 1) := dk_29 (dk_at dksX2_netOfSet_0 22 rfl rfl)
theorem dX2_netOfSet_23 : decode cX2_netOfSet 23 = .ok (.invokevirtual 313, 3) := dk_182 1 57 (dk_at dksX2_netOfSet_1 0 rfl rfl)
theorem dX2_netOfSet_26 : decode cX2_netOfSet 26 = .ok (.goto 4, 3) := dk_167 0 4 (dk_at dksX2_netOfSet_1 3 rfl rfl)
theorem dX2_netOfSet_29 : decode cX2_netOfSet 29 = .ok (.iconst 0, 1) := dk_3 (dk_at dksX2_netOfSet_1 6 rfl rfl)
theorem dX2_netOfSet_30 : decode cX2_netOfSet 30 = .ok (.iadd, 1) := dk_96 (dk_at dksX2_netOfSet_1 7 rfl rfl)
theorem dX2_netOfSet_31 : decode cX2_netOfSet 31 = .ok (.istore_n 2, 1) := dk_61 (dk_at dksX2_netOfSet_1 8 rfl rfl)
theorem dX2_netOfSet_32 : decode cX2_netOfSet 32 = .ok (.iinc 3 1, 3) := dk_132 3 1 (dk_at dksX2_netOfSet_1 9 rfl rfl)
theorem dX2_netOfSet_35 : decode cX2_netOfSet 35 = .ok (.goto (-31), 3) := dk_167 255 225 (dk_at dksX2_netOfSet_1 12 rfl rfl)
theorem dX2_netOfSet_38 : decode cX2_netOfSet 38 = .ok (.iload_n 2, 1) := dk_28 (dk_at dksX2_netOfSet_1 15 rfl rfl)
theorem dX2_netOfSet_39 : decode cX2_netOfSet 39 = .ok (.ireturn, 1) := dk_172 (dk_at dksX2_netOfSet_1 16 rfl rfl)
abbrev cX2_count : ByteArray := prog_19_method_87_code
def yX2_count : MethodName := ⟨RX2, "count", "(I)I"⟩
def dkwX2_count_5 : List UInt8 := [172, 29, 172, 42, 180, 0, 69, 172, 16, 253, 172]
abbrev dktX2_count_5 : List UInt8 := dkwX2_count_5 ++ []
def dkwX2_count_4 : List UInt8 := [172, 42, 180, 0, 7, 3, 46, 172, 42, 180, 0, 185, 172, 42, 180, 0, 188, 172, 42, 180, 0, 191, 172, 28]
abbrev dktX2_count_4 : List UInt8 := dkwX2_count_4 ++ dktX2_count_5
def dkwX2_count_3 : List UInt8 := [42, 180, 0, 149, 172, 42, 180, 0, 155, 172, 42, 180, 0, 152, 172, 42, 180, 0, 38, 172, 42, 180, 0, 162]
abbrev dktX2_count_3 : List UInt8 := dkwX2_count_3 ++ dktX2_count_4
def dkwX2_count_2 : List UInt8 := [170, 0, 0, 0, 117, 0, 0, 0, 0, 0, 0, 0, 11, 0, 0, 0, 61, 0, 0, 0, 66, 0, 0, 0, 71, 0, 0, 0, 76, 0, 0, 0, 81, 0, 0, 0, 86, 0, 0, 0, 93, 0, 0, 0, 98, 0, 0, 0, 103, 0, 0, 0, 108, 0, 0, 0, 110, 0, 0, 0, 112]
abbrev dktX2_count_2 : List UInt8 := dkwX2_count_2 ++ dktX2_count_3
def dkwX2_count_1 : List UInt8 := [96, 46, 96, 61, 29, 42, 180, 0, 7, 8, 21, 4, 96, 46, 96, 62, 132, 4, 1, 167, 255, 220, 27]
abbrev dktX2_count_1 : List UInt8 := dkwX2_count_1 ++ dktX2_count_2
def dkwX2_count_0 : List UInt8 := [3, 61, 3, 62, 3, 54, 4, 21, 4, 42, 180, 0, 155, 162, 0, 33, 28, 42, 180, 0, 7, 4, 21, 4]
abbrev dktX2_count_0 : List UInt8 := dkwX2_count_0 ++ dktX2_count_1
theorem dksX2_count_0 : cX2_count.data.toList.drop 0 = dktX2_count_0 := by decide +kernel
theorem dksX2_count_1 : cX2_count.data.toList.drop 24 = dktX2_count_1 := dk_seg dksX2_count_0 24 rfl rfl
theorem dksX2_count_2 : cX2_count.data.toList.drop 47 = dktX2_count_2 := dk_seg dksX2_count_1 23 rfl rfl
theorem dksX2_count_3 : cX2_count.data.toList.drop 108 = dktX2_count_3 := dk_seg dksX2_count_2 61 rfl rfl
theorem dksX2_count_4 : cX2_count.data.toList.drop 132 = dktX2_count_4 := dk_seg dksX2_count_3 24 rfl rfl
theorem dksX2_count_5 : cX2_count.data.toList.drop 156 = dktX2_count_5 := dk_seg dksX2_count_4 24 rfl rfl
theorem dX2_count_0 : decode cX2_count 0 = .ok (.iconst 0, 1) := dk_3 (dk_at dksX2_count_0 0 rfl rfl)
theorem dX2_count_1 : decode cX2_count 1 = .ok (.istore_n 2, 1) := dk_61 (dk_at dksX2_count_0 1 rfl rfl)
theorem dX2_count_2 : decode cX2_count 2 = .ok (.iconst 0, 1) := dk_3 (dk_at dksX2_count_0 2 rfl rfl)
theorem dX2_count_3 : decode cX2_count 3 = .ok (.istore_n 3, 1) := dk_62 (dk_at dksX2_count_0 3 rfl rfl)
theorem dX2_count_4 : decode cX2_count 4 = .ok (.iconst 0, 1) := dk_3 (dk_at dksX2_count_0 4 rfl rfl)
theorem dX2_count_5 : decode cX2_count 5 = .ok (.istore 4, 2) := dk_54 4 (dk_at dksX2_count_0 5 rfl rfl)
theorem dX2_count_7 : decode cX2_count 7 = .ok (.iload 4, 2) := dk_21 4 (dk_at dksX2_count_0 7 rfl rfl)
theorem dX2_count_9 : decode cX2_count 9 = .ok (.aload_n 0, 1) := dk_42 (dk_at dksX2_count_0 9 rfl rfl)
theorem dX2_count_10 : decode cX2_count 10 = .ok (.getfield 155, 3) := dk_180 0 155 (dk_at dksX2_count_0 10 rfl rfl)
theorem dX2_count_13 : decode cX2_count 13 = .ok (.if_icmp .ge 33, 3) := dk_162 0 33 (dk_at dksX2_count_0 13 rfl rfl)
theorem dX2_count_16 : decode cX2_count 16 = .ok (.iload_n 2, 1) := dk_28 (dk_at dksX2_count_0 16 rfl rfl)
theorem dX2_count_17 : decode cX2_count 17 = .ok (.aload_n 0, 1) := dk_42 (dk_at dksX2_count_0 17 rfl rfl)
theorem dX2_count_18 : decode cX2_count 18 = .ok (.getfield 7, 3) := dk_180 0 7 (dk_at dksX2_count_0 18 rfl rfl)
theorem dX2_count_21 : decode cX2_count 21 = .ok (.iconst 1, 1) := dk_4 (dk_at dksX2_count_0 21 rfl rfl)
theorem dX2_count_22 : decode cX2_count 22 = .ok (.iload 4, 2) := dk_21 4 (dk_at dksX2_count_0 22 rfl rfl)
theorem dX2_count_24 : decode cX2_count 24 = .ok (.iadd, 1) := dk_96 (dk_at dksX2_count_1 0 rfl rfl)
theorem dX2_count_25 : decode cX2_count 25 = .ok (.iaload, 1) := dk_46 (dk_at dksX2_count_1 1 rfl rfl)
theorem dX2_count_26 : decode cX2_count 26 = .ok (.iadd, 1) := dk_96 (dk_at dksX2_count_1 2 rfl rfl)
theorem dX2_count_27 : decode cX2_count 27 = .ok (.istore_n 2, 1) := dk_61 (dk_at dksX2_count_1 3 rfl rfl)
theorem dX2_count_28 : decode cX2_count 28 = .ok (.iload_n 3, 1) := dk_29 (dk_at dksX2_count_1 4 rfl rfl)
theorem dX2_count_29 : decode cX2_count 29 = .ok (.aload_n 0, 1) := dk_42 (dk_at dksX2_count_1 5 rfl rfl)
theorem dX2_count_30 : decode cX2_count 30 = .ok (.getfield 7, 3) := dk_180 0 7 (dk_at dksX2_count_1 6 rfl rfl)
theorem dX2_count_33 : decode cX2_count 33 = .ok (.iconst 5, 1) := dk_8 (dk_at dksX2_count_1 9 rfl rfl)
theorem dX2_count_34 : decode cX2_count 34 = .ok (.iload 4, 2) := dk_21 4 (dk_at dksX2_count_1 10 rfl rfl)
theorem dX2_count_36 : decode cX2_count 36 = .ok (.iadd, 1) := dk_96 (dk_at dksX2_count_1 12 rfl rfl)
theorem dX2_count_37 : decode cX2_count 37 = .ok (.iaload, 1) := dk_46 (dk_at dksX2_count_1 13 rfl rfl)
theorem dX2_count_38 : decode cX2_count 38 = .ok (.iadd, 1) := dk_96 (dk_at dksX2_count_1 14 rfl rfl)
theorem dX2_count_39 : decode cX2_count 39 = .ok (.istore_n 3, 1) := dk_62 (dk_at dksX2_count_1 15 rfl rfl)
theorem dX2_count_40 : decode cX2_count 40 = .ok (.iinc 4 1, 3) := dk_132 4 1 (dk_at dksX2_count_1 16 rfl rfl)
theorem dX2_count_43 : decode cX2_count 43 = .ok (.goto (-36), 3) := dk_167 255 220 (dk_at dksX2_count_1 19 rfl rfl)
theorem dX2_count_46 : decode cX2_count 46 = .ok (.iload_n 1, 1) := dk_27 (dk_at dksX2_count_1 22 rfl rfl)
theorem dX2_count_47 : decode cX2_count 47 = .ok (.tableswitch 117 0 11 #[61, 66, 71, 76, 81, 86, 93, 98, 103, 108, 110, 112], 61) := by decide +kernel
theorem dX2_count_108 : decode cX2_count 108 = .ok (.aload_n 0, 1) := dk_42 (dk_at dksX2_count_3 0 rfl rfl)
theorem dX2_count_109 : decode cX2_count 109 = .ok (.getfield 149, 3) := dk_180 0 149 (dk_at dksX2_count_3 1 rfl rfl)
theorem dX2_count_112 : decode cX2_count 112 = .ok (.ireturn, 1) := dk_172 (dk_at dksX2_count_3 4 rfl rfl)
theorem dX2_count_113 : decode cX2_count 113 = .ok (.aload_n 0, 1) := dk_42 (dk_at dksX2_count_3 5 rfl rfl)
theorem dX2_count_114 : decode cX2_count 114 = .ok (.getfield 155, 3) := dk_180 0 155 (dk_at dksX2_count_3 6 rfl rfl)
theorem dX2_count_117 : decode cX2_count 117 = .ok (.ireturn, 1) := dk_172 (dk_at dksX2_count_3 9 rfl rfl)
theorem dX2_count_118 : decode cX2_count 118 = .ok (.aload_n 0, 1) := dk_42 (dk_at dksX2_count_3 10 rfl rfl)
theorem dX2_count_119 : decode cX2_count 119 = .ok (.getfield 152, 3) := dk_180 0 152 (dk_at dksX2_count_3 11 rfl rfl)
theorem dX2_count_122 : decode cX2_count 122 = .ok (.ireturn, 1) := dk_172 (dk_at dksX2_count_3 14 rfl rfl)
theorem dX2_count_123 : decode cX2_count 123 = .ok (.aload_n 0, 1) := dk_42 (dk_at dksX2_count_3 15 rfl rfl)
theorem dX2_count_124 : decode cX2_count 124 = .ok (.getfield 38, 3) := dk_180 0 38 (dk_at dksX2_count_3 16 rfl rfl)
theorem dX2_count_127 : decode cX2_count 127 = .ok (.ireturn, 1) := dk_172 (dk_at dksX2_count_3 19 rfl rfl)
theorem dX2_count_128 : decode cX2_count 128 = .ok (.aload_n 0, 1) := dk_42 (dk_at dksX2_count_3 20 rfl rfl)
theorem dX2_count_129 : decode cX2_count 129 = .ok (.getfield 162, 3) := dk_180 0 162 (dk_at dksX2_count_3 21 rfl rfl)
theorem dX2_count_132 : decode cX2_count 132 = .ok (.ireturn, 1) := dk_172 (dk_at dksX2_count_4 0 rfl rfl)
theorem dX2_count_133 : decode cX2_count 133 = .ok (.aload_n 0, 1) := dk_42 (dk_at dksX2_count_4 1 rfl rfl)
theorem dX2_count_134 : decode cX2_count 134 = .ok (.getfield 7, 3) := dk_180 0 7 (dk_at dksX2_count_4 2 rfl rfl)
theorem dX2_count_137 : decode cX2_count 137 = .ok (.iconst 0, 1) := dk_3 (dk_at dksX2_count_4 5 rfl rfl)
theorem dX2_count_138 : decode cX2_count 138 = .ok (.iaload, 1) := dk_46 (dk_at dksX2_count_4 6 rfl rfl)
theorem dX2_count_139 : decode cX2_count 139 = .ok (.ireturn, 1) := dk_172 (dk_at dksX2_count_4 7 rfl rfl)
theorem dX2_count_140 : decode cX2_count 140 = .ok (.aload_n 0, 1) := dk_42 (dk_at dksX2_count_4 8 rfl rfl)
theorem dX2_count_141 : decode cX2_count 141 = .ok (.getfield 185, 3) := dk_180 0 185 (dk_at dksX2_count_4 9 rfl rfl)
theorem dX2_count_144 : decode cX2_count 144 = .ok (.ireturn, 1) := dk_172 (dk_at dksX2_count_4 12 rfl rfl)
theorem dX2_count_145 : decode cX2_count 145 = .ok (.aload_n 0, 1) := dk_42 (dk_at dksX2_count_4 13 rfl rfl)
theorem dX2_count_146 : decode cX2_count 146 = .ok (.getfield 188, 3) := dk_180 0 188 (dk_at dksX2_count_4 14 rfl rfl)
theorem dX2_count_149 : decode cX2_count 149 = .ok (.ireturn, 1) := dk_172 (dk_at dksX2_count_4 17 rfl rfl)
theorem dX2_count_150 : decode cX2_count 150 = .ok (.aload_n 0, 1) := dk_42 (dk_at dksX2_count_4 18 rfl rfl)
theorem dX2_count_151 : decode cX2_count 151 = .ok (.getfield 191, 3) := dk_180 0 191 (dk_at dksX2_count_4 19 rfl rfl)
theorem dX2_count_154 : decode cX2_count 154 = .ok (.ireturn, 1) := dk_172 (dk_at dksX2_count_4 22 rfl rfl)
theorem dX2_count_155 : decode cX2_count 155 = .ok (.iload_n 2, 1) := dk_28 (dk_at dksX2_count_4 23 rfl rfl)
theorem dX2_count_156 : decode cX2_count 156 = .ok (.ireturn, 1) := dk_172 (dk_at dksX2_count_5 0 rfl rfl)
theorem dX2_count_157 : decode cX2_count 157 = .ok (.iload_n 3, 1) := dk_29 (dk_at dksX2_count_5 1 rfl rfl)
theorem dX2_count_158 : decode cX2_count 158 = .ok (.ireturn, 1) := dk_172 (dk_at dksX2_count_5 2 rfl rfl)
theorem dX2_count_159 : decode cX2_count 159 = .ok (.aload_n 0, 1) := dk_42 (dk_at dksX2_count_5 3 rfl rfl)
theorem dX2_count_160 : decode cX2_count 160 = .ok (.getfield 69, 3) := dk_180 0 69 (dk_at dksX2_count_5 4 rfl rfl)
theorem dX2_count_163 : decode cX2_count 163 = .ok (.ireturn, 1) := dk_172 (dk_at dksX2_count_5 7 rfl rfl)
theorem dX2_count_164 : decode cX2_count 164 = .ok (.bipush (-3), 2) := dk_16 253 (dk_at dksX2_count_5 8 rfl rfl)
theorem dX2_count_166 : decode cX2_count 166 = .ok (.ireturn, 1) := dk_172 (dk_at dksX2_count_5 10 rfl rfl)
theorem q81 : (Jvm.Cond.initialized "AdjectiveCouponsModel") ∈ lw_all := lw_g (lw_at lw_m1 4 rfl) rfl
theorem q1151 : (Jvm.Cond.instantiable "AdjectiveCouponsModel" (35 : Nat)) ∈ lw_all := lw_g (lw_at lw_m5 114 rfl) rfl
theorem q1153 : (Jvm.Cond.instanceMethod ({ cls := "AdjectiveCouponsModel", name := "<init>", desc := "()V" } : Jvm.MethodName)) ∈ lw_all := lw_g (lw_at lw_m5 116 rfl) rfl
theorem q1154 : (Jvm.Cond.code ({ cls := "AdjectiveCouponsModel", name := "<init>", desc := "()V" } : Jvm.MethodName) prog_19_method_1_code (1 : Nat) (Option.none : Option Jvm.ClassFile.FieldType)) ∈ lw_all := lw_g (lw_at lw_m5 117 rfl) rfl
theorem q1155 : (Jvm.Cond.methodLink "AdjectiveCouponsModel" (1 : Nat) ({ cls := "java/lang/Object", name := "<init>", desc := "()V" } : Jvm.MethodName)) ∈ lw_all := lw_g (lw_at lw_m5 118 rfl) rfl
theorem q1156 : (Jvm.Cond.fieldLink "AdjectiveCouponsModel" (7 : Nat) "AdjectiveCouponsModel" "row" "[I") ∈ lw_all := lw_g (lw_at lw_m5 119 rfl) rfl
theorem q1157 : (Jvm.Cond.fieldLink "AdjectiveCouponsModel" (191 : Nat) "AdjectiveCouponsModel" "pastMany" "I") ∈ lw_all := lw_g (lw_at lw_m5 120 rfl) rfl
theorem q1158 : (Jvm.Cond.fieldLink "AdjectiveCouponsModel" (13 : Nat) "AdjectiveCouponsModel" "isKept" "[Z") ∈ lw_all := lw_g (lw_at lw_m5 121 rfl) rfl
theorem q1159 : (Jvm.Cond.fieldLink "AdjectiveCouponsModel" (17 : Nat) "AdjectiveCouponsModel" "text" "[I") ∈ lw_all := lw_g (lw_at lw_m5 122 rfl) rfl
theorem q1160 : (Jvm.Cond.fieldLink "AdjectiveCouponsModel" (69 : Nat) "AdjectiveCouponsModel" "length" "I") ∈ lw_all := lw_g (lw_at lw_m5 123 rfl) rfl
theorem q1161 : (Jvm.Cond.fieldLink "AdjectiveCouponsModel" (20 : Nat) "AdjectiveCouponsModel" "read" "[I") ∈ lw_all := lw_g (lw_at lw_m5 124 rfl) rfl
theorem q1162 : (Jvm.Cond.fieldLink "AdjectiveCouponsModel" (112 : Nat) "AdjectiveCouponsModel" "readMany" "I") ∈ lw_all := lw_g (lw_at lw_m5 125 rfl) rfl
theorem q1163 : (Jvm.Cond.fieldLink "AdjectiveCouponsModel" (23 : Nat) "AdjectiveCouponsModel" "kinds" "[I") ∈ lw_all := lw_g (lw_at lw_m5 126 rfl) rfl
theorem q1164 : (Jvm.Cond.fieldLink "AdjectiveCouponsModel" (26 : Nat) "AdjectiveCouponsModel" "worths" "[I") ∈ lw_all := lw_g (lw_at lw_m5 127 rfl) rfl
theorem q1165 : (Jvm.Cond.fieldLink "AdjectiveCouponsModel" (149 : Nat) "AdjectiveCouponsModel" "words" "I") ∈ lw_all := lw_g (lw_at lw_m5 128 rfl) rfl
theorem q1166 : (Jvm.Cond.fieldLink "AdjectiveCouponsModel" (29 : Nat) "AdjectiveCouponsModel" "changes" "[I") ∈ lw_all := lw_g (lw_at lw_m5 129 rfl) rfl
theorem q1167 : (Jvm.Cond.fieldLink "AdjectiveCouponsModel" (152 : Nat) "AdjectiveCouponsModel" "changeMany" "I") ∈ lw_all := lw_g (lw_at lw_m5 130 rfl) rfl
theorem q1168 : (Jvm.Cond.fieldLink "AdjectiveCouponsModel" (32 : Nat) "AdjectiveCouponsModel" "folk" "[I") ∈ lw_all := lw_g (lw_at lw_m5 131 rfl) rfl
theorem q1169 : (Jvm.Cond.fieldLink "AdjectiveCouponsModel" (35 : Nat) "AdjectiveCouponsModel" "wants" "[I") ∈ lw_all := lw_g (lw_at lw_m5 132 rfl) rfl
theorem q1170 : (Jvm.Cond.fieldLink "AdjectiveCouponsModel" (155 : Nat) "AdjectiveCouponsModel" "people" "I") ∈ lw_all := lw_g (lw_at lw_m5 133 rfl) rfl
theorem q1171 : (Jvm.Cond.fieldLink "AdjectiveCouponsModel" (38 : Nat) "AdjectiveCouponsModel" "ration" "I") ∈ lw_all := lw_g (lw_at lw_m5 134 rfl) rfl
theorem q1172 : (Jvm.Cond.fieldLink "AdjectiveCouponsModel" (162 : Nat) "AdjectiveCouponsModel" "law" "I") ∈ lw_all := lw_g (lw_at lw_m5 135 rfl) rfl
theorem q1173 : (Jvm.Cond.fieldLink "AdjectiveCouponsModel" (42 : Nat) "AdjectiveCouponsModel" "line" "[I") ∈ lw_all := lw_g (lw_at lw_m5 136 rfl) rfl
theorem q1174 : (Jvm.Cond.fieldLink "AdjectiveCouponsModel" (185 : Nat) "AdjectiveCouponsModel" "lineMany" "I") ∈ lw_all := lw_g (lw_at lw_m5 137 rfl) rfl
theorem q1175 : (Jvm.Cond.fieldLink "AdjectiveCouponsModel" (45 : Nat) "AdjectiveCouponsModel" "drafts" "[I") ∈ lw_all := lw_g (lw_at lw_m5 138 rfl) rfl
theorem q1176 : (Jvm.Cond.fieldLink "AdjectiveCouponsModel" (48 : Nat) "AdjectiveCouponsModel" "draftLengths" "[I") ∈ lw_all := lw_g (lw_at lw_m5 139 rfl) rfl
theorem q1177 : (Jvm.Cond.fieldLink "AdjectiveCouponsModel" (188 : Nat) "AdjectiveCouponsModel" "draftMany" "I") ∈ lw_all := lw_g (lw_at lw_m5 140 rfl) rfl
theorem q1178 : (Jvm.Cond.fieldLink "AdjectiveCouponsModel" (72 : Nat) "AdjectiveCouponsModel" "at" "I") ∈ lw_all := lw_g (lw_at lw_m5 141 rfl) rfl
theorem q1179 : (Jvm.Cond.fieldLink "AdjectiveCouponsModel" (75 : Nat) "AdjectiveCouponsModel" "place" "I") ∈ lw_all := lw_g (lw_at lw_m5 142 rfl) rfl
theorem q1180 : (Jvm.Cond.fieldLink "AdjectiveCouponsModel" (82 : Nat) "AdjectiveCouponsModel" "end" "I") ∈ lw_all := lw_g (lw_at lw_m5 143 rfl) rfl
theorem q1181 : (Jvm.Cond.fieldLink "AdjectiveCouponsModel" (134 : Nat) "AdjectiveCouponsModel" "readWords" "I") ∈ lw_all := lw_g (lw_at lw_m5 144 rfl) rfl
theorem q1182 : (Jvm.Cond.fieldLink "AdjectiveCouponsModel" (143 : Nat) "AdjectiveCouponsModel" "readChanges" "I") ∈ lw_all := lw_g (lw_at lw_m5 145 rfl) rfl
theorem q1183 : (Jvm.Cond.fieldLink "AdjectiveCouponsModel" (140 : Nat) "AdjectiveCouponsModel" "readPeople" "I") ∈ lw_all := lw_g (lw_at lw_m5 146 rfl) rfl
theorem q1184 : (Jvm.Cond.fieldLink "AdjectiveCouponsModel" (51 : Nat) "AdjectiveCouponsModel" "tried" "[I") ∈ lw_all := lw_g (lw_at lw_m5 147 rfl) rfl
theorem q1185 : (Jvm.Cond.fieldLink "AdjectiveCouponsModel" (194 : Nat) "AdjectiveCouponsModel" "triedMany" "I") ∈ lw_all := lw_g (lw_at lw_m5 148 rfl) rfl
theorem q1186 : (Jvm.Cond.fieldLink "AdjectiveCouponsModel" (54 : Nat) "AdjectiveCouponsModel" "triedKinds" "[I") ∈ lw_all := lw_g (lw_at lw_m5 149 rfl) rfl
theorem q1187 : (Jvm.Cond.fieldLink "AdjectiveCouponsModel" (57 : Nat) "AdjectiveCouponsModel" "best" "[I") ∈ lw_all := lw_g (lw_at lw_m5 150 rfl) rfl
theorem q1188 : (Jvm.Cond.fieldLink "AdjectiveCouponsModel" (266 : Nat) "AdjectiveCouponsModel" "least" "I") ∈ lw_all := lw_g (lw_at lw_m5 151 rfl) rfl
theorem q1189 : (Jvm.Cond.fieldLink "AdjectiveCouponsModel" (269 : Nat) "AdjectiveCouponsModel" "most" "I") ∈ lw_all := lw_g (lw_at lw_m5 152 rfl) rfl
theorem q1190 : (Jvm.Cond.fieldLink "AdjectiveCouponsModel" (60 : Nat) "AdjectiveCouponsModel" "groups" "[I") ∈ lw_all := lw_g (lw_at lw_m5 153 rfl) rfl
theorem q1191 : (Jvm.Cond.laysFinal "AdjectiveCouponsModel" "AdjectiveCouponsModel" "row" "[I") ∈ lw_all := lw_g (lw_at lw_m5 154 rfl) rfl
theorem q1192 : (Jvm.Cond.soleField "AdjectiveCouponsModel" "row") ∈ lw_all := lw_g (lw_at lw_m5 155 rfl) rfl
theorem q1193 : (Jvm.Cond.lays "AdjectiveCouponsModel" "AdjectiveCouponsModel" "pastMany" "I") ∈ lw_all := lw_g (lw_at lw_m5 156 rfl) rfl
theorem q1194 : (Jvm.Cond.soleField "AdjectiveCouponsModel" "pastMany") ∈ lw_all := lw_g (lw_at lw_m5 157 rfl) rfl
theorem q1195 : (Jvm.Cond.laysFinal "AdjectiveCouponsModel" "AdjectiveCouponsModel" "isKept" "[Z") ∈ lw_all := lw_g (lw_at lw_m5 158 rfl) rfl
theorem q1196 : (Jvm.Cond.soleField "AdjectiveCouponsModel" "isKept") ∈ lw_all := lw_g (lw_at lw_m5 159 rfl) rfl
theorem q1197 : (Jvm.Cond.laysFinal "AdjectiveCouponsModel" "AdjectiveCouponsModel" "text" "[I") ∈ lw_all := lw_g (lw_at lw_m5 160 rfl) rfl
theorem q1198 : (Jvm.Cond.soleField "AdjectiveCouponsModel" "text") ∈ lw_all := lw_g (lw_at lw_m5 161 rfl) rfl
theorem q1199 : (Jvm.Cond.lays "AdjectiveCouponsModel" "AdjectiveCouponsModel" "length" "I") ∈ lw_all := lw_g (lw_at lw_m5 162 rfl) rfl
theorem q1200 : (Jvm.Cond.soleField "AdjectiveCouponsModel" "length") ∈ lw_all := lw_g (lw_at lw_m5 163 rfl) rfl
theorem q1201 : (Jvm.Cond.laysFinal "AdjectiveCouponsModel" "AdjectiveCouponsModel" "read" "[I") ∈ lw_all := lw_g (lw_at lw_m5 164 rfl) rfl
theorem q1202 : (Jvm.Cond.soleField "AdjectiveCouponsModel" "read") ∈ lw_all := lw_g (lw_at lw_m5 165 rfl) rfl
theorem q1203 : (Jvm.Cond.lays "AdjectiveCouponsModel" "AdjectiveCouponsModel" "readMany" "I") ∈ lw_all := lw_g (lw_at lw_m5 166 rfl) rfl
theorem q1204 : (Jvm.Cond.soleField "AdjectiveCouponsModel" "readMany") ∈ lw_all := lw_g (lw_at lw_m5 167 rfl) rfl
theorem q1205 : (Jvm.Cond.laysFinal "AdjectiveCouponsModel" "AdjectiveCouponsModel" "kinds" "[I") ∈ lw_all := lw_g (lw_at lw_m5 168 rfl) rfl
theorem q1206 : (Jvm.Cond.soleField "AdjectiveCouponsModel" "kinds") ∈ lw_all := lw_g (lw_at lw_m5 169 rfl) rfl
theorem q1207 : (Jvm.Cond.laysFinal "AdjectiveCouponsModel" "AdjectiveCouponsModel" "worths" "[I") ∈ lw_all := lw_g (lw_at lw_m5 170 rfl) rfl
theorem q1208 : (Jvm.Cond.soleField "AdjectiveCouponsModel" "worths") ∈ lw_all := lw_g (lw_at lw_m5 171 rfl) rfl
theorem q1209 : (Jvm.Cond.lays "AdjectiveCouponsModel" "AdjectiveCouponsModel" "words" "I") ∈ lw_all := lw_g (lw_at lw_m5 172 rfl) rfl
theorem q1210 : (Jvm.Cond.soleField "AdjectiveCouponsModel" "words") ∈ lw_all := lw_g (lw_at lw_m5 173 rfl) rfl
theorem q1211 : (Jvm.Cond.laysFinal "AdjectiveCouponsModel" "AdjectiveCouponsModel" "changes" "[I") ∈ lw_all := lw_g (lw_at lw_m5 174 rfl) rfl
theorem q1212 : (Jvm.Cond.soleField "AdjectiveCouponsModel" "changes") ∈ lw_all := lw_g (lw_at lw_m5 175 rfl) rfl
theorem q1213 : (Jvm.Cond.lays "AdjectiveCouponsModel" "AdjectiveCouponsModel" "changeMany" "I") ∈ lw_all := lw_g (lw_at lw_m5 176 rfl) rfl
theorem q1214 : (Jvm.Cond.soleField "AdjectiveCouponsModel" "changeMany") ∈ lw_all := lw_g (lw_at lw_m5 177 rfl) rfl
theorem q1215 : (Jvm.Cond.laysFinal "AdjectiveCouponsModel" "AdjectiveCouponsModel" "folk" "[I") ∈ lw_all := lw_g (lw_at lw_m5 178 rfl) rfl
theorem q1216 : (Jvm.Cond.soleField "AdjectiveCouponsModel" "folk") ∈ lw_all := lw_g (lw_at lw_m5 179 rfl) rfl
theorem q1217 : (Jvm.Cond.laysFinal "AdjectiveCouponsModel" "AdjectiveCouponsModel" "wants" "[I") ∈ lw_all := lw_g (lw_at lw_m5 180 rfl) rfl
theorem q1218 : (Jvm.Cond.soleField "AdjectiveCouponsModel" "wants") ∈ lw_all := lw_g (lw_at lw_m5 181 rfl) rfl
theorem q1219 : (Jvm.Cond.lays "AdjectiveCouponsModel" "AdjectiveCouponsModel" "people" "I") ∈ lw_all := lw_g (lw_at lw_m5 182 rfl) rfl
theorem q1220 : (Jvm.Cond.soleField "AdjectiveCouponsModel" "people") ∈ lw_all := lw_g (lw_at lw_m5 183 rfl) rfl
theorem q1221 : (Jvm.Cond.lays "AdjectiveCouponsModel" "AdjectiveCouponsModel" "ration" "I") ∈ lw_all := lw_g (lw_at lw_m5 184 rfl) rfl
theorem q1222 : (Jvm.Cond.soleField "AdjectiveCouponsModel" "ration") ∈ lw_all := lw_g (lw_at lw_m5 185 rfl) rfl
theorem q1223 : (Jvm.Cond.lays "AdjectiveCouponsModel" "AdjectiveCouponsModel" "law" "I") ∈ lw_all := lw_g (lw_at lw_m5 186 rfl) rfl
theorem q1224 : (Jvm.Cond.soleField "AdjectiveCouponsModel" "law") ∈ lw_all := lw_g (lw_at lw_m5 187 rfl) rfl
theorem q1225 : (Jvm.Cond.laysFinal "AdjectiveCouponsModel" "AdjectiveCouponsModel" "line" "[I") ∈ lw_all := lw_g (lw_at lw_m5 188 rfl) rfl
theorem q1226 : (Jvm.Cond.soleField "AdjectiveCouponsModel" "line") ∈ lw_all := lw_g (lw_at lw_m5 189 rfl) rfl
theorem q1227 : (Jvm.Cond.lays "AdjectiveCouponsModel" "AdjectiveCouponsModel" "lineMany" "I") ∈ lw_all := lw_g (lw_at lw_m5 190 rfl) rfl
theorem q1228 : (Jvm.Cond.soleField "AdjectiveCouponsModel" "lineMany") ∈ lw_all := lw_g (lw_at lw_m5 191 rfl) rfl
theorem q1229 : (Jvm.Cond.laysFinal "AdjectiveCouponsModel" "AdjectiveCouponsModel" "drafts" "[I") ∈ lw_all := lw_g (lw_at lw_m5 192 rfl) rfl
theorem q1230 : (Jvm.Cond.soleField "AdjectiveCouponsModel" "drafts") ∈ lw_all := lw_g (lw_at lw_m5 193 rfl) rfl
theorem q1231 : (Jvm.Cond.laysFinal "AdjectiveCouponsModel" "AdjectiveCouponsModel" "draftLengths" "[I") ∈ lw_all := lw_g (lw_at lw_m5 194 rfl) rfl
theorem q1232 : (Jvm.Cond.soleField "AdjectiveCouponsModel" "draftLengths") ∈ lw_all := lw_g (lw_at lw_m5 195 rfl) rfl
theorem q1233 : (Jvm.Cond.lays "AdjectiveCouponsModel" "AdjectiveCouponsModel" "draftMany" "I") ∈ lw_all := lw_g (lw_at lw_m5 196 rfl) rfl
theorem q1234 : (Jvm.Cond.soleField "AdjectiveCouponsModel" "draftMany") ∈ lw_all := lw_g (lw_at lw_m5 197 rfl) rfl
theorem q1235 : (Jvm.Cond.lays "AdjectiveCouponsModel" "AdjectiveCouponsModel" "at" "I") ∈ lw_all := lw_g (lw_at lw_m5 198 rfl) rfl
theorem q1236 : (Jvm.Cond.soleField "AdjectiveCouponsModel" "at") ∈ lw_all := lw_g (lw_at lw_m5 199 rfl) rfl
theorem q1237 : (Jvm.Cond.lays "AdjectiveCouponsModel" "AdjectiveCouponsModel" "place" "I") ∈ lw_all := lw_g (lw_at lw_m5 200 rfl) rfl
theorem q1238 : (Jvm.Cond.soleField "AdjectiveCouponsModel" "place") ∈ lw_all := lw_g (lw_at lw_m5 201 rfl) rfl
theorem q1239 : (Jvm.Cond.lays "AdjectiveCouponsModel" "AdjectiveCouponsModel" "end" "I") ∈ lw_all := lw_g (lw_at lw_m5 202 rfl) rfl
theorem q1240 : (Jvm.Cond.soleField "AdjectiveCouponsModel" "end") ∈ lw_all := lw_g (lw_at lw_m5 203 rfl) rfl
theorem q1241 : (Jvm.Cond.lays "AdjectiveCouponsModel" "AdjectiveCouponsModel" "readWords" "I") ∈ lw_all := lw_g (lw_at lw_m5 204 rfl) rfl
theorem q1242 : (Jvm.Cond.soleField "AdjectiveCouponsModel" "readWords") ∈ lw_all := lw_g (lw_at lw_m5 205 rfl) rfl
theorem q1243 : (Jvm.Cond.lays "AdjectiveCouponsModel" "AdjectiveCouponsModel" "readChanges" "I") ∈ lw_all := lw_g (lw_at lw_m5 206 rfl) rfl
theorem q1244 : (Jvm.Cond.soleField "AdjectiveCouponsModel" "readChanges") ∈ lw_all := lw_g (lw_at lw_m5 207 rfl) rfl
theorem q1245 : (Jvm.Cond.lays "AdjectiveCouponsModel" "AdjectiveCouponsModel" "readPeople" "I") ∈ lw_all := lw_g (lw_at lw_m5 208 rfl) rfl
theorem q1246 : (Jvm.Cond.soleField "AdjectiveCouponsModel" "readPeople") ∈ lw_all := lw_g (lw_at lw_m5 209 rfl) rfl
theorem q1247 : (Jvm.Cond.laysFinal "AdjectiveCouponsModel" "AdjectiveCouponsModel" "tried" "[I") ∈ lw_all := lw_g (lw_at lw_m5 210 rfl) rfl
theorem q1248 : (Jvm.Cond.soleField "AdjectiveCouponsModel" "tried") ∈ lw_all := lw_g (lw_at lw_m5 211 rfl) rfl
theorem q1249 : (Jvm.Cond.lays "AdjectiveCouponsModel" "AdjectiveCouponsModel" "triedMany" "I") ∈ lw_all := lw_g (lw_at lw_m5 212 rfl) rfl
theorem q1250 : (Jvm.Cond.soleField "AdjectiveCouponsModel" "triedMany") ∈ lw_all := lw_g (lw_at lw_m5 213 rfl) rfl
theorem q1251 : (Jvm.Cond.laysFinal "AdjectiveCouponsModel" "AdjectiveCouponsModel" "triedKinds" "[I") ∈ lw_all := lw_g (lw_at lw_m5 214 rfl) rfl
theorem q1252 : (Jvm.Cond.soleField "AdjectiveCouponsModel" "triedKinds") ∈ lw_all := lw_g (lw_at lw_m5 215 rfl) rfl
theorem q1253 : (Jvm.Cond.laysFinal "AdjectiveCouponsModel" "AdjectiveCouponsModel" "best" "[I") ∈ lw_all := lw_g (lw_at lw_m5 216 rfl) rfl
theorem q1254 : (Jvm.Cond.soleField "AdjectiveCouponsModel" "best") ∈ lw_all := lw_g (lw_at lw_m5 217 rfl) rfl
theorem q1255 : (Jvm.Cond.lays "AdjectiveCouponsModel" "AdjectiveCouponsModel" "least" "I") ∈ lw_all := lw_g (lw_at lw_m5 218 rfl) rfl
theorem q1256 : (Jvm.Cond.soleField "AdjectiveCouponsModel" "least") ∈ lw_all := lw_g (lw_at lw_m5 219 rfl) rfl
theorem q1257 : (Jvm.Cond.lays "AdjectiveCouponsModel" "AdjectiveCouponsModel" "most" "I") ∈ lw_all := lw_g (lw_at lw_m5 220 rfl) rfl
theorem q1258 : (Jvm.Cond.soleField "AdjectiveCouponsModel" "most") ∈ lw_all := lw_g (lw_at lw_m5 221 rfl) rfl
theorem q1259 : (Jvm.Cond.laysFinal "AdjectiveCouponsModel" "AdjectiveCouponsModel" "groups" "[I") ∈ lw_all := lw_g (lw_at lw_m5 222 rfl) rfl
theorem q1260 : (Jvm.Cond.soleField "AdjectiveCouponsModel" "groups") ∈ lw_all := lw_g (lw_at lw_m5 223 rfl) rfl
theorem q1261 : (Jvm.Cond.superclass "AdjectiveCouponsModel" "java/lang/Object") ∈ lw_all := lw_g (lw_at lw_m5 224 rfl) rfl
theorem q1263 : (Jvm.Cond.instanceMethod ({ cls := "AdjectiveCouponsModel", name := "write", desc := "(I)I" } : Jvm.MethodName)) ∈ lw_all := lw_g (lw_at lw_m5 226 rfl) rfl
theorem q1264 : (Jvm.Cond.selects "AdjectiveCouponsModel" ({ cls := "AdjectiveCouponsModel", name := "write", desc := "(I)I" } : Jvm.MethodName) ({ cls := "AdjectiveCouponsModel", name := "write", desc := "(I)I" } : Jvm.MethodName)) ∈ lw_all := lw_g (lw_at lw_m5 227 rfl) rfl
theorem q1265 : (Jvm.Cond.code ({ cls := "AdjectiveCouponsModel", name := "write", desc := "(I)I" } : Jvm.MethodName) prog_19_method_5_code (2 : Nat) (Option.some Jvm.ClassFile.FieldType.int)) ∈ lw_all := lw_g (lw_at lw_m5 228 rfl) rfl
theorem q1266 : (Jvm.Cond.constantLong "AdjectiveCouponsModel" (63 : Nat) (255 : Int64)) ∈ lw_all := lw_g (lw_at lw_m5 229 rfl) rfl
theorem q1267 : (Jvm.Cond.methodLink "AdjectiveCouponsModel" (65 : Nat) ({ cls := "AdjectiveCouponsModel", name := "in", desc := "(JJJ)Z" } : Jvm.MethodName)) ∈ lw_all := lw_g (lw_at lw_m5 230 rfl) rfl
theorem q1268 : (Jvm.Cond.static ({ cls := "AdjectiveCouponsModel", name := "in", desc := "(JJJ)Z" } : Jvm.MethodName)) ∈ lw_all := lw_g (lw_at lw_m5 231 rfl) rfl
theorem q1269 : (Jvm.Cond.code ({ cls := "AdjectiveCouponsModel", name := "in", desc := "(JJJ)Z" } : Jvm.MethodName) prog_19_method_2_code (6 : Nat) (Option.some Jvm.ClassFile.FieldType.boolean)) ∈ lw_all := lw_g (lw_at lw_m5 232 rfl) rfl
theorem q1271 : (Jvm.Cond.instanceMethod ({ cls := "AdjectiveCouponsModel", name := "erase", desc := "()I" } : Jvm.MethodName)) ∈ lw_all := lw_g (lw_at lw_m5 234 rfl) rfl
theorem q1272 : (Jvm.Cond.selects "AdjectiveCouponsModel" ({ cls := "AdjectiveCouponsModel", name := "erase", desc := "()I" } : Jvm.MethodName) ({ cls := "AdjectiveCouponsModel", name := "erase", desc := "()I" } : Jvm.MethodName)) ∈ lw_all := lw_g (lw_at lw_m5 235 rfl) rfl
theorem q1273 : (Jvm.Cond.code ({ cls := "AdjectiveCouponsModel", name := "erase", desc := "()I" } : Jvm.MethodName) prog_19_method_6_code (2 : Nat) (Option.some Jvm.ClassFile.FieldType.int)) ∈ lw_all := lw_g (lw_at lw_m5 236 rfl) rfl
theorem q1275 : (Jvm.Cond.instanceMethod ({ cls := "AdjectiveCouponsModel", name := "fault", desc := "()I" } : Jvm.MethodName)) ∈ lw_all := lw_g (lw_at lw_m5 238 rfl) rfl
theorem q1276 : (Jvm.Cond.selects "AdjectiveCouponsModel" ({ cls := "AdjectiveCouponsModel", name := "fault", desc := "()I" } : Jvm.MethodName) ({ cls := "AdjectiveCouponsModel", name := "fault", desc := "()I" } : Jvm.MethodName)) ∈ lw_all := lw_g (lw_at lw_m5 239 rfl) rfl
theorem q1277 : (Jvm.Cond.code ({ cls := "AdjectiveCouponsModel", name := "fault", desc := "()I" } : Jvm.MethodName) prog_19_method_18_code (2 : Nat) (Option.some Jvm.ClassFile.FieldType.int)) ∈ lw_all := lw_g (lw_at lw_m6 0 rfl) rfl
theorem q1278 : (Jvm.Cond.methodLink "AdjectiveCouponsModel" (115 : Nat) ({ cls := "AdjectiveCouponsModel", name := "token", desc := "()V" } : Jvm.MethodName)) ∈ lw_all := lw_g (lw_at lw_m6 1 rfl) rfl
theorem q1279 : (Jvm.Cond.privateMethod ({ cls := "AdjectiveCouponsModel", name := "token", desc := "()V" } : Jvm.MethodName)) ∈ lw_tbl := lw_at lw_m6 2 rfl
theorem q1280 : (Jvm.Cond.instanceMethod ({ cls := "AdjectiveCouponsModel", name := "token", desc := "()V" } : Jvm.MethodName)) ∈ lw_all := lw_g (lw_at lw_m6 3 rfl) rfl
theorem q1281 : (Jvm.Cond.code ({ cls := "AdjectiveCouponsModel", name := "token", desc := "()V" } : Jvm.MethodName) prog_19_method_8_code (1 : Nat) (Option.none : Option Jvm.ClassFile.FieldType)) ∈ lw_all := lw_g (lw_at lw_m6 4 rfl) rfl
theorem q1282 : (Jvm.Cond.methodLink "AdjectiveCouponsModel" (78 : Nat) ({ cls := "AdjectiveCouponsModel", name := "sort", desc := "(I)I" } : Jvm.MethodName)) ∈ lw_all := lw_g (lw_at lw_m6 5 rfl) rfl
theorem q1283 : (Jvm.Cond.static ({ cls := "AdjectiveCouponsModel", name := "sort", desc := "(I)I" } : Jvm.MethodName)) ∈ lw_all := lw_g (lw_at lw_m6 6 rfl) rfl
theorem q1284 : (Jvm.Cond.code ({ cls := "AdjectiveCouponsModel", name := "sort", desc := "(I)I" } : Jvm.MethodName) prog_19_method_7_code (1 : Nat) (Option.some Jvm.ClassFile.FieldType.int)) ∈ lw_all := lw_g (lw_at lw_m6 7 rfl) rfl
theorem q1285 : (Jvm.Cond.methodLink "AdjectiveCouponsModel" (158 : Nat) ({ cls := "AdjectiveCouponsModel", name := "readsClause", desc := "()Z" } : Jvm.MethodName)) ∈ lw_all := lw_g (lw_at lw_m6 8 rfl) rfl
theorem q1286 : (Jvm.Cond.privateMethod ({ cls := "AdjectiveCouponsModel", name := "readsClause", desc := "()Z" } : Jvm.MethodName)) ∈ lw_tbl := lw_at lw_m6 9 rfl
theorem q1287 : (Jvm.Cond.instanceMethod ({ cls := "AdjectiveCouponsModel", name := "readsClause", desc := "()Z" } : Jvm.MethodName)) ∈ lw_all := lw_g (lw_at lw_m6 10 rfl) rfl
theorem q1288 : (Jvm.Cond.code ({ cls := "AdjectiveCouponsModel", name := "readsClause", desc := "()Z" } : Jvm.MethodName) prog_19_method_17_code (2 : Nat) (Option.some Jvm.ClassFile.FieldType.boolean)) ∈ lw_all := lw_g (lw_at lw_m6 11 rfl) rfl
theorem q1289 : (Jvm.Cond.methodLink "AdjectiveCouponsModel" (137 : Nat) ({ cls := "AdjectiveCouponsModel", name := "wordOf", desc := "()I" } : Jvm.MethodName)) ∈ lw_all := lw_g (lw_at lw_m6 12 rfl) rfl
theorem q1290 : (Jvm.Cond.privateMethod ({ cls := "AdjectiveCouponsModel", name := "wordOf", desc := "()I" } : Jvm.MethodName)) ∈ lw_tbl := lw_at lw_m6 13 rfl
theorem q1291 : (Jvm.Cond.instanceMethod ({ cls := "AdjectiveCouponsModel", name := "wordOf", desc := "()I" } : Jvm.MethodName)) ∈ lw_all := lw_g (lw_at lw_m6 14 rfl) rfl
theorem q1292 : (Jvm.Cond.code ({ cls := "AdjectiveCouponsModel", name := "wordOf", desc := "()I" } : Jvm.MethodName) prog_19_method_12_code (2 : Nat) (Option.some Jvm.ClassFile.FieldType.int)) ∈ lw_all := lw_g (lw_at lw_m6 15 rfl) rfl
theorem q1293 : (Jvm.Cond.methodLink "AdjectiveCouponsModel" (98 : Nat) ({ cls := "AdjectiveCouponsModel", name := "kindWord", desc := "()I" } : Jvm.MethodName)) ∈ lw_all := lw_g (lw_at lw_m6 16 rfl) rfl
theorem q1294 : (Jvm.Cond.privateMethod ({ cls := "AdjectiveCouponsModel", name := "kindWord", desc := "()I" } : Jvm.MethodName)) ∈ lw_tbl := lw_at lw_m6 17 rfl
theorem q1295 : (Jvm.Cond.instanceMethod ({ cls := "AdjectiveCouponsModel", name := "kindWord", desc := "()I" } : Jvm.MethodName)) ∈ lw_all := lw_g (lw_at lw_m6 18 rfl) rfl
theorem q1296 : (Jvm.Cond.code ({ cls := "AdjectiveCouponsModel", name := "kindWord", desc := "()I" } : Jvm.MethodName) prog_19_method_10_code (1 : Nat) (Option.some Jvm.ClassFile.FieldType.int)) ∈ lw_all := lw_g (lw_at lw_m6 19 rfl) rfl
theorem q1297 : (Jvm.Cond.constant "AdjectiveCouponsModel" (85 : Nat) (480750 : Int32)) ∈ lw_all := lw_g (lw_at lw_m6 20 rfl) rfl
theorem q1298 : (Jvm.Cond.methodLink "AdjectiveCouponsModel" (86 : Nat) ({ cls := "AdjectiveCouponsModel", name := "isWord", desc := "(III)Z" } : Jvm.MethodName)) ∈ lw_all := lw_g (lw_at lw_m6 21 rfl) rfl
theorem q1299 : (Jvm.Cond.privateMethod ({ cls := "AdjectiveCouponsModel", name := "isWord", desc := "(III)Z" } : Jvm.MethodName)) ∈ lw_tbl := lw_at lw_m6 22 rfl
theorem q1300 : (Jvm.Cond.instanceMethod ({ cls := "AdjectiveCouponsModel", name := "isWord", desc := "(III)Z" } : Jvm.MethodName)) ∈ lw_all := lw_g (lw_at lw_m6 23 rfl) rfl
theorem q1301 : (Jvm.Cond.code ({ cls := "AdjectiveCouponsModel", name := "isWord", desc := "(III)Z" } : Jvm.MethodName) prog_19_method_9_code (6 : Nat) (Option.some Jvm.ClassFile.FieldType.boolean)) ∈ lw_all := lw_g (lw_at lw_m6 24 rfl) rfl
theorem q1302 : (Jvm.Cond.constant "AdjectiveCouponsModel" (90 : Nat) (14976400 : Int32)) ∈ lw_all := lw_g (lw_at lw_m6 25 rfl) rfl
theorem q1303 : (Jvm.Cond.constant "AdjectiveCouponsModel" (91 : Nat) (626504163 : Int32)) ∈ lw_all := lw_g (lw_at lw_m6 26 rfl) rfl
theorem q1304 : (Jvm.Cond.constant "AdjectiveCouponsModel" (92 : Nat) (208936 : Int32)) ∈ lw_all := lw_g (lw_at lw_m6 27 rfl) rfl
theorem q1305 : (Jvm.Cond.constant "AdjectiveCouponsModel" (93 : Nat) (177198 : Int32)) ∈ lw_all := lw_g (lw_at lw_m6 28 rfl) rfl
theorem q1306 : (Jvm.Cond.methodLink "AdjectiveCouponsModel" (102 : Nat) ({ cls := "AdjectiveCouponsModel", name := "folkWord", desc := "()I" } : Jvm.MethodName)) ∈ lw_all := lw_g (lw_at lw_m6 29 rfl) rfl
theorem q1307 : (Jvm.Cond.privateMethod ({ cls := "AdjectiveCouponsModel", name := "folkWord", desc := "()I" } : Jvm.MethodName)) ∈ lw_tbl := lw_at lw_m6 30 rfl
theorem q1308 : (Jvm.Cond.instanceMethod ({ cls := "AdjectiveCouponsModel", name := "folkWord", desc := "()I" } : Jvm.MethodName)) ∈ lw_all := lw_g (lw_at lw_m6 31 rfl) rfl
theorem q1309 : (Jvm.Cond.code ({ cls := "AdjectiveCouponsModel", name := "folkWord", desc := "()I" } : Jvm.MethodName) prog_19_method_11_code (1 : Nat) (Option.some Jvm.ClassFile.FieldType.int)) ∈ lw_all := lw_g (lw_at lw_m6 32 rfl) rfl
theorem q1310 : (Jvm.Cond.constant "AdjectiveCouponsModel" (94 : Nat) (195350819 : Int32)) ∈ lw_all := lw_g (lw_at lw_m6 33 rfl) rfl
theorem q1311 : (Jvm.Cond.constant "AdjectiveCouponsModel" (95 : Nat) (19061228 : Int32)) ∈ lw_all := lw_g (lw_at lw_m6 34 rfl) rfl
theorem q1312 : (Jvm.Cond.constant "AdjectiveCouponsModel" (96 : Nat) (110765635 : Int32)) ∈ lw_all := lw_g (lw_at lw_m6 35 rfl) rfl
theorem q1313 : (Jvm.Cond.constant "AdjectiveCouponsModel" (97 : Nat) (660976 : Int32)) ∈ lw_all := lw_g (lw_at lw_m6 36 rfl) rfl
theorem q1314 : (Jvm.Cond.constant "AdjectiveCouponsModel" (105 : Nat) (14025906 : Int32)) ∈ lw_all := lw_g (lw_at lw_m6 37 rfl) rfl
theorem q1315 : (Jvm.Cond.constant "AdjectiveCouponsModel" (106 : Nat) (175572227 : Int32)) ∈ lw_all := lw_g (lw_at lw_m6 38 rfl) rfl
theorem q1316 : (Jvm.Cond.constant "AdjectiveCouponsModel" (107 : Nat) (485806130 : Int32)) ∈ lw_all := lw_g (lw_at lw_m6 39 rfl) rfl
theorem q1317 : (Jvm.Cond.constant "AdjectiveCouponsModel" (108 : Nat) (20100142 : Int32)) ∈ lw_all := lw_g (lw_at lw_m6 40 rfl) rfl
theorem q1318 : (Jvm.Cond.constant "AdjectiveCouponsModel" (109 : Nat) (5351156 : Int32)) ∈ lw_all := lw_g (lw_at lw_m6 41 rfl) rfl
theorem q1319 : (Jvm.Cond.constant "AdjectiveCouponsModel" (110 : Nat) (12982003 : Int32)) ∈ lw_all := lw_g (lw_at lw_m6 42 rfl) rfl
theorem q1320 : (Jvm.Cond.constant "AdjectiveCouponsModel" (111 : Nat) (143661 : Int32)) ∈ lw_all := lw_g (lw_at lw_m6 43 rfl) rfl
theorem q1321 : (Jvm.Cond.methodLink "AdjectiveCouponsModel" (124 : Nat) ({ cls := "AdjectiveCouponsModel", name := "isKindWord", desc := "(I)Z" } : Jvm.MethodName)) ∈ lw_all := lw_g (lw_at lw_m6 44 rfl) rfl
theorem q1322 : (Jvm.Cond.static ({ cls := "AdjectiveCouponsModel", name := "isKindWord", desc := "(I)Z" } : Jvm.MethodName)) ∈ lw_all := lw_g (lw_at lw_m6 45 rfl) rfl
theorem q1323 : (Jvm.Cond.code ({ cls := "AdjectiveCouponsModel", name := "isKindWord", desc := "(I)Z" } : Jvm.MethodName) prog_19_method_14_code (1 : Nat) (Option.some Jvm.ClassFile.FieldType.boolean)) ∈ lw_all := lw_g (lw_at lw_m6 46 rfl) rfl
theorem q1324 : (Jvm.Cond.constantLong "AdjectiveCouponsModel" (118 : Nat) (5 : Int64)) ∈ lw_all := lw_g (lw_at lw_m6 47 rfl) rfl
theorem q1325 : (Jvm.Cond.methodLink "AdjectiveCouponsModel" (131 : Nat) ({ cls := "AdjectiveCouponsModel", name := "isFolkWord", desc := "(I)Z" } : Jvm.MethodName)) ∈ lw_all := lw_g (lw_at lw_m6 48 rfl) rfl
theorem q1326 : (Jvm.Cond.static ({ cls := "AdjectiveCouponsModel", name := "isFolkWord", desc := "(I)Z" } : Jvm.MethodName)) ∈ lw_all := lw_g (lw_at lw_m6 49 rfl) rfl
theorem q1327 : (Jvm.Cond.code ({ cls := "AdjectiveCouponsModel", name := "isFolkWord", desc := "(I)Z" } : Jvm.MethodName) prog_19_method_15_code (1 : Nat) (Option.some Jvm.ClassFile.FieldType.boolean)) ∈ lw_all := lw_g (lw_at lw_m6 50 rfl) rfl
theorem q1328 : (Jvm.Cond.constantLong "AdjectiveCouponsModel" (120 : Nat) (7 : Int64)) ∈ lw_all := lw_g (lw_at lw_m6 51 rfl) rfl
theorem q1329 : (Jvm.Cond.constantLong "AdjectiveCouponsModel" (122 : Nat) (10 : Int64)) ∈ lw_all := lw_g (lw_at lw_m6 52 rfl) rfl
theorem q1330 : (Jvm.Cond.methodLink "AdjectiveCouponsModel" (146 : Nat) ({ cls := "AdjectiveCouponsModel", name := "readsRest", desc := "(I)Z" } : Jvm.MethodName)) ∈ lw_all := lw_g (lw_at lw_m6 53 rfl) rfl
theorem q1331 : (Jvm.Cond.privateMethod ({ cls := "AdjectiveCouponsModel", name := "readsRest", desc := "(I)Z" } : Jvm.MethodName)) ∈ lw_tbl := lw_at lw_m6 54 rfl
theorem q1332 : (Jvm.Cond.instanceMethod ({ cls := "AdjectiveCouponsModel", name := "readsRest", desc := "(I)Z" } : Jvm.MethodName)) ∈ lw_all := lw_g (lw_at lw_m6 55 rfl) rfl
theorem q1333 : (Jvm.Cond.code ({ cls := "AdjectiveCouponsModel", name := "readsRest", desc := "(I)Z" } : Jvm.MethodName) prog_19_method_16_code (2 : Nat) (Option.some Jvm.ClassFile.FieldType.boolean)) ∈ lw_all := lw_g (lw_at lw_m6 56 rfl) rfl
theorem q1334 : (Jvm.Cond.methodLink "AdjectiveCouponsModel" (128 : Nat) ({ cls := "AdjectiveCouponsModel", name := "reads", desc := "(III)Z" } : Jvm.MethodName)) ∈ lw_all := lw_g (lw_at lw_m6 57 rfl) rfl
theorem q1335 : (Jvm.Cond.privateMethod ({ cls := "AdjectiveCouponsModel", name := "reads", desc := "(III)Z" } : Jvm.MethodName)) ∈ lw_tbl := lw_at lw_m6 58 rfl
theorem q1336 : (Jvm.Cond.instanceMethod ({ cls := "AdjectiveCouponsModel", name := "reads", desc := "(III)Z" } : Jvm.MethodName)) ∈ lw_all := lw_g (lw_at lw_m6 59 rfl) rfl
theorem q1337 : (Jvm.Cond.code ({ cls := "AdjectiveCouponsModel", name := "reads", desc := "(III)Z" } : Jvm.MethodName) prog_19_method_13_code (6 : Nat) (Option.some Jvm.ClassFile.FieldType.boolean)) ∈ lw_all := lw_g (lw_at lw_m6 60 rfl) rfl
theorem q1339 : (Jvm.Cond.instanceMethod ({ cls := "AdjectiveCouponsModel", name := "realm", desc := "()I" } : Jvm.MethodName)) ∈ lw_all := lw_g (lw_at lw_m6 62 rfl) rfl
theorem q1340 : (Jvm.Cond.selects "AdjectiveCouponsModel" ({ cls := "AdjectiveCouponsModel", name := "realm", desc := "()I" } : Jvm.MethodName) ({ cls := "AdjectiveCouponsModel", name := "realm", desc := "()I" } : Jvm.MethodName)) ∈ lw_all := lw_g (lw_at lw_m6 63 rfl) rfl
theorem q1341 : (Jvm.Cond.code ({ cls := "AdjectiveCouponsModel", name := "realm", desc := "()I" } : Jvm.MethodName) prog_19_method_24_code (3 : Nat) (Option.some Jvm.ClassFile.FieldType.int)) ∈ lw_all := lw_g (lw_at lw_m6 64 rfl) rfl
theorem q1342 : (Jvm.Cond.methodLink "AdjectiveCouponsModel" (179 : Nat) ({ cls := "AdjectiveCouponsModel", name := "fault", desc := "()I" } : Jvm.MethodName)) ∈ lw_all := lw_g (lw_at lw_m6 65 rfl) rfl
theorem q1343 : (Jvm.Cond.methodLink "AdjectiveCouponsModel" (182 : Nat) ({ cls := "AdjectiveCouponsModel", name := "tell", desc := "(I)V" } : Jvm.MethodName)) ∈ lw_all := lw_g (lw_at lw_m6 66 rfl) rfl
theorem q1344 : (Jvm.Cond.privateMethod ({ cls := "AdjectiveCouponsModel", name := "tell", desc := "(I)V" } : Jvm.MethodName)) ∈ lw_tbl := lw_at lw_m6 67 rfl
theorem q1345 : (Jvm.Cond.instanceMethod ({ cls := "AdjectiveCouponsModel", name := "tell", desc := "(I)V" } : Jvm.MethodName)) ∈ lw_all := lw_g (lw_at lw_m6 68 rfl) rfl
theorem q1346 : (Jvm.Cond.code ({ cls := "AdjectiveCouponsModel", name := "tell", desc := "(I)V" } : Jvm.MethodName) prog_19_method_23_code (4 : Nat) (Option.none : Option Jvm.ClassFile.FieldType)) ∈ lw_all := lw_g (lw_at lw_m6 69 rfl) rfl
theorem q1347 : (Jvm.Cond.methodLink "AdjectiveCouponsModel" (165 : Nat) ({ cls := "AdjectiveCouponsModel", name := "addWord", desc := "(II)V" } : Jvm.MethodName)) ∈ lw_all := lw_g (lw_at lw_m6 70 rfl) rfl
theorem q1348 : (Jvm.Cond.privateMethod ({ cls := "AdjectiveCouponsModel", name := "addWord", desc := "(II)V" } : Jvm.MethodName)) ∈ lw_tbl := lw_at lw_m6 71 rfl
theorem q1349 : (Jvm.Cond.instanceMethod ({ cls := "AdjectiveCouponsModel", name := "addWord", desc := "(II)V" } : Jvm.MethodName)) ∈ lw_all := lw_g (lw_at lw_m6 72 rfl) rfl
theorem q1350 : (Jvm.Cond.code ({ cls := "AdjectiveCouponsModel", name := "addWord", desc := "(II)V" } : Jvm.MethodName) prog_19_method_20_code (3 : Nat) (Option.none : Option Jvm.ClassFile.FieldType)) ∈ lw_all := lw_g (lw_at lw_m6 73 rfl) rfl
theorem q1351 : (Jvm.Cond.methodLink "AdjectiveCouponsModel" (169 : Nat) ({ cls := "AdjectiveCouponsModel", name := "addOne", desc := "(II)V" } : Jvm.MethodName)) ∈ lw_all := lw_g (lw_at lw_m6 74 rfl) rfl
theorem q1352 : (Jvm.Cond.privateMethod ({ cls := "AdjectiveCouponsModel", name := "addOne", desc := "(II)V" } : Jvm.MethodName)) ∈ lw_tbl := lw_at lw_m6 75 rfl
theorem q1353 : (Jvm.Cond.instanceMethod ({ cls := "AdjectiveCouponsModel", name := "addOne", desc := "(II)V" } : Jvm.MethodName)) ∈ lw_all := lw_g (lw_at lw_m6 76 rfl) rfl
theorem q1354 : (Jvm.Cond.code ({ cls := "AdjectiveCouponsModel", name := "addOne", desc := "(II)V" } : Jvm.MethodName) prog_19_method_21_code (3 : Nat) (Option.none : Option Jvm.ClassFile.FieldType)) ∈ lw_all := lw_g (lw_at lw_m6 77 rfl) rfl
theorem q1355 : (Jvm.Cond.methodLink "AdjectiveCouponsModel" (172 : Nat) ({ cls := "AdjectiveCouponsModel", name := "addChange", desc := "(I)V" } : Jvm.MethodName)) ∈ lw_all := lw_g (lw_at lw_m6 78 rfl) rfl
theorem q1356 : (Jvm.Cond.privateMethod ({ cls := "AdjectiveCouponsModel", name := "addChange", desc := "(I)V" } : Jvm.MethodName)) ∈ lw_tbl := lw_at lw_m6 79 rfl
theorem q1357 : (Jvm.Cond.instanceMethod ({ cls := "AdjectiveCouponsModel", name := "addChange", desc := "(I)V" } : Jvm.MethodName)) ∈ lw_all := lw_g (lw_at lw_m6 80 rfl) rfl
theorem q1358 : (Jvm.Cond.code ({ cls := "AdjectiveCouponsModel", name := "addChange", desc := "(I)V" } : Jvm.MethodName) prog_19_method_22_code (3 : Nat) (Option.none : Option Jvm.ClassFile.FieldType)) ∈ lw_all := lw_g (lw_at lw_m6 81 rfl) rfl
theorem q1359 : (Jvm.Cond.methodLink "AdjectiveCouponsModel" (176 : Nat) ({ cls := "AdjectiveCouponsModel", name := "clear", desc := "()V" } : Jvm.MethodName)) ∈ lw_all := lw_g (lw_at lw_m6 82 rfl) rfl
theorem q1360 : (Jvm.Cond.privateMethod ({ cls := "AdjectiveCouponsModel", name := "clear", desc := "()V" } : Jvm.MethodName)) ∈ lw_tbl := lw_at lw_m6 83 rfl
theorem q1361 : (Jvm.Cond.instanceMethod ({ cls := "AdjectiveCouponsModel", name := "clear", desc := "()V" } : Jvm.MethodName)) ∈ lw_all := lw_g (lw_at lw_m6 84 rfl) rfl
theorem q1362 : (Jvm.Cond.code ({ cls := "AdjectiveCouponsModel", name := "clear", desc := "()V" } : Jvm.MethodName) prog_19_method_19_code (1 : Nat) (Option.none : Option Jvm.ClassFile.FieldType)) ∈ lw_all := lw_g (lw_at lw_m6 85 rfl) rfl
theorem q1364 : (Jvm.Cond.instanceMethod ({ cls := "AdjectiveCouponsModel", name := "word", desc := "(II)I" } : Jvm.MethodName)) ∈ lw_all := lw_g (lw_at lw_m6 87 rfl) rfl
theorem q1365 : (Jvm.Cond.selects "AdjectiveCouponsModel" ({ cls := "AdjectiveCouponsModel", name := "word", desc := "(II)I" } : Jvm.MethodName) ({ cls := "AdjectiveCouponsModel", name := "word", desc := "(II)I" } : Jvm.MethodName)) ∈ lw_all := lw_g (lw_at lw_m6 88 rfl) rfl
theorem q1366 : (Jvm.Cond.code ({ cls := "AdjectiveCouponsModel", name := "word", desc := "(II)I" } : Jvm.MethodName) prog_19_method_39_code (5 : Nat) (Option.some Jvm.ClassFile.FieldType.int)) ∈ lw_all := lw_g (lw_at lw_m6 89 rfl) rfl
theorem q1367 : (Jvm.Cond.methodLink "AdjectiveCouponsModel" (225 : Nat) ({ cls := "AdjectiveCouponsModel", name := "isWordThere", desc := "(I)Z" } : Jvm.MethodName)) ∈ lw_all := lw_g (lw_at lw_m6 90 rfl) rfl
theorem q1368 : (Jvm.Cond.privateMethod ({ cls := "AdjectiveCouponsModel", name := "isWordThere", desc := "(I)Z" } : Jvm.MethodName)) ∈ lw_tbl := lw_at lw_m6 91 rfl
theorem q1369 : (Jvm.Cond.instanceMethod ({ cls := "AdjectiveCouponsModel", name := "isWordThere", desc := "(I)Z" } : Jvm.MethodName)) ∈ lw_all := lw_g (lw_at lw_m6 92 rfl) rfl
theorem q1370 : (Jvm.Cond.code ({ cls := "AdjectiveCouponsModel", name := "isWordThere", desc := "(I)Z" } : Jvm.MethodName) prog_19_method_25_code (2 : Nat) (Option.some Jvm.ClassFile.FieldType.boolean)) ∈ lw_all := lw_g (lw_at lw_m6 93 rfl) rfl
theorem q1371 : (Jvm.Cond.methodLink "AdjectiveCouponsModel" (197 : Nat) ({ cls := "AdjectiveCouponsModel", name := "kindIn", desc := "(II)I" } : Jvm.MethodName)) ∈ lw_all := lw_g (lw_at lw_m6 94 rfl) rfl
theorem q1372 : (Jvm.Cond.privateMethod ({ cls := "AdjectiveCouponsModel", name := "kindIn", desc := "(II)I" } : Jvm.MethodName)) ∈ lw_tbl := lw_at lw_m6 95 rfl
theorem q1373 : (Jvm.Cond.instanceMethod ({ cls := "AdjectiveCouponsModel", name := "kindIn", desc := "(II)I" } : Jvm.MethodName)) ∈ lw_all := lw_g (lw_at lw_m6 96 rfl) rfl
theorem q1374 : (Jvm.Cond.code ({ cls := "AdjectiveCouponsModel", name := "kindIn", desc := "(II)I" } : Jvm.MethodName) prog_19_method_27_code (7 : Nat) (Option.some Jvm.ClassFile.FieldType.int)) ∈ lw_all := lw_g (lw_at lw_m6 97 rfl) rfl
theorem q1376 : (Jvm.Cond.instanceMethod ({ cls := "AdjectiveCouponsModel", name := "one", desc := "(II)I" } : Jvm.MethodName)) ∈ lw_all := lw_g (lw_at lw_m6 99 rfl) rfl
theorem q1377 : (Jvm.Cond.selects "AdjectiveCouponsModel" ({ cls := "AdjectiveCouponsModel", name := "one", desc := "(II)I" } : Jvm.MethodName) ({ cls := "AdjectiveCouponsModel", name := "one", desc := "(II)I" } : Jvm.MethodName)) ∈ lw_all := lw_g (lw_at lw_m6 100 rfl) rfl
theorem q1378 : (Jvm.Cond.code ({ cls := "AdjectiveCouponsModel", name := "one", desc := "(II)I" } : Jvm.MethodName) prog_19_method_41_code (3 : Nat) (Option.some Jvm.ClassFile.FieldType.int)) ∈ lw_all := lw_g (lw_at lw_m6 101 rfl) rfl
theorem q1379 : (Jvm.Cond.methodLink "AdjectiveCouponsModel" (228 : Nat) ({ cls := "AdjectiveCouponsModel", name := "isOne", desc := "(I)Z" } : Jvm.MethodName)) ∈ lw_all := lw_g (lw_at lw_m6 102 rfl) rfl
theorem q1380 : (Jvm.Cond.privateMethod ({ cls := "AdjectiveCouponsModel", name := "isOne", desc := "(I)Z" } : Jvm.MethodName)) ∈ lw_tbl := lw_at lw_m6 103 rfl
theorem q1381 : (Jvm.Cond.instanceMethod ({ cls := "AdjectiveCouponsModel", name := "isOne", desc := "(I)Z" } : Jvm.MethodName)) ∈ lw_all := lw_g (lw_at lw_m6 104 rfl) rfl
theorem q1382 : (Jvm.Cond.code ({ cls := "AdjectiveCouponsModel", name := "isOne", desc := "(I)Z" } : Jvm.MethodName) prog_19_method_26_code (2 : Nat) (Option.some Jvm.ClassFile.FieldType.boolean)) ∈ lw_all := lw_g (lw_at lw_m6 105 rfl) rfl
theorem q1383 : (Jvm.Cond.methodLink "AdjectiveCouponsModel" (231 : Nat) ({ cls := "AdjectiveCouponsModel", name := "saidBy", desc := "(I)I" } : Jvm.MethodName)) ∈ lw_all := lw_g (lw_at lw_m6 106 rfl) rfl
theorem q1384 : (Jvm.Cond.privateMethod ({ cls := "AdjectiveCouponsModel", name := "saidBy", desc := "(I)I" } : Jvm.MethodName)) ∈ lw_tbl := lw_at lw_m6 107 rfl
theorem q1385 : (Jvm.Cond.instanceMethod ({ cls := "AdjectiveCouponsModel", name := "saidBy", desc := "(I)I" } : Jvm.MethodName)) ∈ lw_all := lw_g (lw_at lw_m6 108 rfl) rfl
theorem q1386 : (Jvm.Cond.code ({ cls := "AdjectiveCouponsModel", name := "saidBy", desc := "(I)I" } : Jvm.MethodName) prog_19_method_40_code (4 : Nat) (Option.some Jvm.ClassFile.FieldType.int)) ∈ lw_all := lw_g (lw_at lw_m6 109 rfl) rfl
theorem q1388 : (Jvm.Cond.instanceMethod ({ cls := "AdjectiveCouponsModel", name := "as", desc := "(II)I" } : Jvm.MethodName)) ∈ lw_all := lw_g (lw_at lw_m6 111 rfl) rfl
theorem q1389 : (Jvm.Cond.selects "AdjectiveCouponsModel" ({ cls := "AdjectiveCouponsModel", name := "as", desc := "(II)I" } : Jvm.MethodName) ({ cls := "AdjectiveCouponsModel", name := "as", desc := "(II)I" } : Jvm.MethodName)) ∈ lw_all := lw_g (lw_at lw_m6 112 rfl) rfl
theorem q1390 : (Jvm.Cond.code ({ cls := "AdjectiveCouponsModel", name := "as", desc := "(II)I" } : Jvm.MethodName) prog_19_method_42_code (5 : Nat) (Option.some Jvm.ClassFile.FieldType.int)) ∈ lw_all := lw_g (lw_at lw_m6 113 rfl) rfl
theorem q1391 : (Jvm.Cond.constantLong "AdjectiveCouponsModel" (234 : Nat) (4 : Int64)) ∈ lw_all := lw_g (lw_at lw_m6 114 rfl) rfl
theorem q1392 : (Jvm.Cond.methodLink "AdjectiveCouponsModel" (236 : Nat) ({ cls := "AdjectiveCouponsModel", name := "layLine", desc := "()V" } : Jvm.MethodName)) ∈ lw_all := lw_g (lw_at lw_m6 115 rfl) rfl
theorem q1393 : (Jvm.Cond.privateMethod ({ cls := "AdjectiveCouponsModel", name := "layLine", desc := "()V" } : Jvm.MethodName)) ∈ lw_tbl := lw_at lw_m6 116 rfl
theorem q1394 : (Jvm.Cond.instanceMethod ({ cls := "AdjectiveCouponsModel", name := "layLine", desc := "()V" } : Jvm.MethodName)) ∈ lw_all := lw_g (lw_at lw_m6 117 rfl) rfl
theorem q1395 : (Jvm.Cond.code ({ cls := "AdjectiveCouponsModel", name := "layLine", desc := "()V" } : Jvm.MethodName) prog_19_method_28_code (2 : Nat) (Option.none : Option Jvm.ClassFile.FieldType)) ∈ lw_all := lw_g (lw_at lw_m6 118 rfl) rfl
theorem q1396 : (Jvm.Cond.methodLink "AdjectiveCouponsModel" (219 : Nat) ({ cls := "AdjectiveCouponsModel", name := "costTo", desc := "(II)I" } : Jvm.MethodName)) ∈ lw_all := lw_g (lw_at lw_m6 119 rfl) rfl
theorem q1397 : (Jvm.Cond.privateMethod ({ cls := "AdjectiveCouponsModel", name := "costTo", desc := "(II)I" } : Jvm.MethodName)) ∈ lw_tbl := lw_at lw_m6 120 rfl
theorem q1398 : (Jvm.Cond.instanceMethod ({ cls := "AdjectiveCouponsModel", name := "costTo", desc := "(II)I" } : Jvm.MethodName)) ∈ lw_all := lw_g (lw_at lw_m6 121 rfl) rfl
theorem q1399 : (Jvm.Cond.code ({ cls := "AdjectiveCouponsModel", name := "costTo", desc := "(II)I" } : Jvm.MethodName) prog_19_method_34_code (9 : Nat) (Option.some Jvm.ClassFile.FieldType.int)) ∈ lw_all := lw_g (lw_at lw_m6 122 rfl) rfl
theorem q1400 : (Jvm.Cond.methodLink "AdjectiveCouponsModel" (213 : Nat) ({ cls := "AdjectiveCouponsModel", name := "layKinds", desc := "(I)V" } : Jvm.MethodName)) ∈ lw_all := lw_g (lw_at lw_m6 123 rfl) rfl
theorem q1401 : (Jvm.Cond.privateMethod ({ cls := "AdjectiveCouponsModel", name := "layKinds", desc := "(I)V" } : Jvm.MethodName)) ∈ lw_tbl := lw_at lw_m6 124 rfl
theorem q1402 : (Jvm.Cond.instanceMethod ({ cls := "AdjectiveCouponsModel", name := "layKinds", desc := "(I)V" } : Jvm.MethodName)) ∈ lw_all := lw_g (lw_at lw_m6 125 rfl) rfl
theorem q1403 : (Jvm.Cond.code ({ cls := "AdjectiveCouponsModel", name := "layKinds", desc := "(I)V" } : Jvm.MethodName) prog_19_method_30_code (3 : Nat) (Option.none : Option Jvm.ClassFile.FieldType)) ∈ lw_all := lw_g (lw_at lw_m6 126 rfl) rfl
theorem q1404 : (Jvm.Cond.methodLink "AdjectiveCouponsModel" (216 : Nat) ({ cls := "AdjectiveCouponsModel", name := "costAt", desc := "(I)I" } : Jvm.MethodName)) ∈ lw_all := lw_g (lw_at lw_m6 127 rfl) rfl
theorem q1405 : (Jvm.Cond.privateMethod ({ cls := "AdjectiveCouponsModel", name := "costAt", desc := "(I)I" } : Jvm.MethodName)) ∈ lw_tbl := lw_at lw_m6 128 rfl
theorem q1406 : (Jvm.Cond.instanceMethod ({ cls := "AdjectiveCouponsModel", name := "costAt", desc := "(I)I" } : Jvm.MethodName)) ∈ lw_all := lw_g (lw_at lw_m6 129 rfl) rfl
theorem q1407 : (Jvm.Cond.code ({ cls := "AdjectiveCouponsModel", name := "costAt", desc := "(I)I" } : Jvm.MethodName) prog_19_method_33_code (4 : Nat) (Option.some Jvm.ClassFile.FieldType.int)) ∈ lw_all := lw_g (lw_at lw_m6 130 rfl) rfl
theorem q1408 : (Jvm.Cond.methodLink "AdjectiveCouponsModel" (203 : Nat) ({ cls := "AdjectiveCouponsModel", name := "has", desc := "(II)Z" } : Jvm.MethodName)) ∈ lw_all := lw_g (lw_at lw_m6 131 rfl) rfl
theorem q1409 : (Jvm.Cond.static ({ cls := "AdjectiveCouponsModel", name := "has", desc := "(II)Z" } : Jvm.MethodName)) ∈ lw_all := lw_g (lw_at lw_m6 132 rfl) rfl
theorem q1410 : (Jvm.Cond.code ({ cls := "AdjectiveCouponsModel", name := "has", desc := "(II)Z" } : Jvm.MethodName) prog_19_method_3_code (2 : Nat) (Option.some Jvm.ClassFile.FieldType.boolean)) ∈ lw_all := lw_g (lw_at lw_m6 133 rfl) rfl
theorem q1411 : (Jvm.Cond.methodLink "AdjectiveCouponsModel" (207 : Nat) ({ cls := "AdjectiveCouponsModel", name := "isAdjective", desc := "(I)Z" } : Jvm.MethodName)) ∈ lw_all := lw_g (lw_at lw_m6 134 rfl) rfl
theorem q1412 : (Jvm.Cond.privateMethod ({ cls := "AdjectiveCouponsModel", name := "isAdjective", desc := "(I)Z" } : Jvm.MethodName)) ∈ lw_tbl := lw_at lw_m6 135 rfl
theorem q1413 : (Jvm.Cond.instanceMethod ({ cls := "AdjectiveCouponsModel", name := "isAdjective", desc := "(I)Z" } : Jvm.MethodName)) ∈ lw_all := lw_g (lw_at lw_m6 136 rfl) rfl
theorem q1414 : (Jvm.Cond.code ({ cls := "AdjectiveCouponsModel", name := "isAdjective", desc := "(I)Z" } : Jvm.MethodName) prog_19_method_31_code (2 : Nat) (Option.some Jvm.ClassFile.FieldType.boolean)) ∈ lw_all := lw_g (lw_at lw_m6 137 rfl) rfl
theorem q1415 : (Jvm.Cond.constantLong "AdjectiveCouponsModel" (201 : Nat) (3 : Int64)) ∈ lw_all := lw_g (lw_at lw_m6 138 rfl) rfl
theorem q1416 : (Jvm.Cond.methodLink "AdjectiveCouponsModel" (210 : Nat) ({ cls := "AdjectiveCouponsModel", name := "wasAhead", desc := "(I)Z" } : Jvm.MethodName)) ∈ lw_all := lw_g (lw_at lw_m6 139 rfl) rfl
theorem q1417 : (Jvm.Cond.privateMethod ({ cls := "AdjectiveCouponsModel", name := "wasAhead", desc := "(I)Z" } : Jvm.MethodName)) ∈ lw_tbl := lw_at lw_m6 140 rfl
theorem q1418 : (Jvm.Cond.instanceMethod ({ cls := "AdjectiveCouponsModel", name := "wasAhead", desc := "(I)Z" } : Jvm.MethodName)) ∈ lw_all := lw_g (lw_at lw_m6 141 rfl) rfl
theorem q1419 : (Jvm.Cond.code ({ cls := "AdjectiveCouponsModel", name := "wasAhead", desc := "(I)Z" } : Jvm.MethodName) prog_19_method_32_code (4 : Nat) (Option.some Jvm.ClassFile.FieldType.boolean)) ∈ lw_all := lw_g (lw_at lw_m6 142 rfl) rfl
theorem q1421 : (Jvm.Cond.instanceMethod ({ cls := "AdjectiveCouponsModel", name := "put", desc := "(I)I" } : Jvm.MethodName)) ∈ lw_all := lw_g (lw_at lw_m6 144 rfl) rfl
theorem q1422 : (Jvm.Cond.selects "AdjectiveCouponsModel" ({ cls := "AdjectiveCouponsModel", name := "put", desc := "(I)I" } : Jvm.MethodName) ({ cls := "AdjectiveCouponsModel", name := "put", desc := "(I)I" } : Jvm.MethodName)) ∈ lw_all := lw_g (lw_at lw_m6 145 rfl) rfl
theorem q1423 : (Jvm.Cond.code ({ cls := "AdjectiveCouponsModel", name := "put", desc := "(I)I" } : Jvm.MethodName) prog_19_method_43_code (2 : Nat) (Option.some Jvm.ClassFile.FieldType.int)) ∈ lw_all := lw_g (lw_at lw_m6 146 rfl) rfl
theorem q1425 : (Jvm.Cond.instanceMethod ({ cls := "AdjectiveCouponsModel", name := "wipe", desc := "()I" } : Jvm.MethodName)) ∈ lw_all := lw_g (lw_at lw_m6 148 rfl) rfl
theorem q1426 : (Jvm.Cond.selects "AdjectiveCouponsModel" ({ cls := "AdjectiveCouponsModel", name := "wipe", desc := "()I" } : Jvm.MethodName) ({ cls := "AdjectiveCouponsModel", name := "wipe", desc := "()I" } : Jvm.MethodName)) ∈ lw_all := lw_g (lw_at lw_m6 149 rfl) rfl
theorem q1427 : (Jvm.Cond.code ({ cls := "AdjectiveCouponsModel", name := "wipe", desc := "()I" } : Jvm.MethodName) prog_19_method_44_code (2 : Nat) (Option.some Jvm.ClassFile.FieldType.int)) ∈ lw_all := lw_g (lw_at lw_m6 150 rfl) rfl
theorem q1429 : (Jvm.Cond.instanceMethod ({ cls := "AdjectiveCouponsModel", name := "line", desc := "(I)I" } : Jvm.MethodName)) ∈ lw_all := lw_g (lw_at lw_m6 152 rfl) rfl
theorem q1430 : (Jvm.Cond.selects "AdjectiveCouponsModel" ({ cls := "AdjectiveCouponsModel", name := "line", desc := "(I)I" } : Jvm.MethodName) ({ cls := "AdjectiveCouponsModel", name := "line", desc := "(I)I" } : Jvm.MethodName)) ∈ lw_all := lw_g (lw_at lw_m6 153 rfl) rfl
theorem q1431 : (Jvm.Cond.code ({ cls := "AdjectiveCouponsModel", name := "line", desc := "(I)I" } : Jvm.MethodName) prog_19_method_45_code (2 : Nat) (Option.some Jvm.ClassFile.FieldType.int)) ∈ lw_all := lw_g (lw_at lw_m6 154 rfl) rfl
theorem q1433 : (Jvm.Cond.instanceMethod ({ cls := "AdjectiveCouponsModel", name := "cost", desc := "(II)I" } : Jvm.MethodName)) ∈ lw_all := lw_g (lw_at lw_m6 156 rfl) rfl
theorem q1434 : (Jvm.Cond.selects "AdjectiveCouponsModel" ({ cls := "AdjectiveCouponsModel", name := "cost", desc := "(II)I" } : Jvm.MethodName) ({ cls := "AdjectiveCouponsModel", name := "cost", desc := "(II)I" } : Jvm.MethodName)) ∈ lw_all := lw_g (lw_at lw_m6 157 rfl) rfl
theorem q1435 : (Jvm.Cond.code ({ cls := "AdjectiveCouponsModel", name := "cost", desc := "(II)I" } : Jvm.MethodName) prog_19_method_46_code (3 : Nat) (Option.some Jvm.ClassFile.FieldType.int)) ∈ lw_all := lw_g (lw_at lw_m6 158 rfl) rfl
theorem q1436 : (Jvm.Cond.constantLong "AdjectiveCouponsModel" (239 : Nat) (999 : Int64)) ∈ lw_all := lw_g (lw_at lw_m6 159 rfl) rfl
theorem q1438 : (Jvm.Cond.instanceMethod ({ cls := "AdjectiveCouponsModel", name := "good", desc := "()I" } : Jvm.MethodName)) ∈ lw_all := lw_g (lw_at lw_m6 161 rfl) rfl
theorem q1439 : (Jvm.Cond.selects "AdjectiveCouponsModel" ({ cls := "AdjectiveCouponsModel", name := "good", desc := "()I" } : Jvm.MethodName) ({ cls := "AdjectiveCouponsModel", name := "good", desc := "()I" } : Jvm.MethodName)) ∈ lw_all := lw_g (lw_at lw_m6 162 rfl) rfl
theorem q1440 : (Jvm.Cond.code ({ cls := "AdjectiveCouponsModel", name := "good", desc := "()I" } : Jvm.MethodName) prog_19_method_47_code (1 : Nat) (Option.some Jvm.ClassFile.FieldType.int)) ∈ lw_all := lw_g (lw_at lw_m6 163 rfl) rfl
theorem q1441 : (Jvm.Cond.methodLink "AdjectiveCouponsModel" (241 : Nat) ({ cls := "AdjectiveCouponsModel", name := "isGood", desc := "()Z" } : Jvm.MethodName)) ∈ lw_all := lw_g (lw_at lw_m6 164 rfl) rfl
theorem q1442 : (Jvm.Cond.privateMethod ({ cls := "AdjectiveCouponsModel", name := "isGood", desc := "()Z" } : Jvm.MethodName)) ∈ lw_tbl := lw_at lw_m6 165 rfl
theorem q1443 : (Jvm.Cond.instanceMethod ({ cls := "AdjectiveCouponsModel", name := "isGood", desc := "()Z" } : Jvm.MethodName)) ∈ lw_all := lw_g (lw_at lw_m6 166 rfl) rfl
theorem q1444 : (Jvm.Cond.code ({ cls := "AdjectiveCouponsModel", name := "isGood", desc := "()Z" } : Jvm.MethodName) prog_19_method_37_code (3 : Nat) (Option.some Jvm.ClassFile.FieldType.boolean)) ∈ lw_all := lw_g (lw_at lw_m6 167 rfl) rfl
theorem q1445 : (Jvm.Cond.methodLink "AdjectiveCouponsModel" (222 : Nat) ({ cls := "AdjectiveCouponsModel", name := "hasHole", desc := "()Z" } : Jvm.MethodName)) ∈ lw_all := lw_g (lw_at lw_m6 168 rfl) rfl
theorem q1446 : (Jvm.Cond.privateMethod ({ cls := "AdjectiveCouponsModel", name := "hasHole", desc := "()Z" } : Jvm.MethodName)) ∈ lw_tbl := lw_at lw_m6 169 rfl
theorem q1447 : (Jvm.Cond.instanceMethod ({ cls := "AdjectiveCouponsModel", name := "hasHole", desc := "()Z" } : Jvm.MethodName)) ∈ lw_all := lw_g (lw_at lw_m6 170 rfl) rfl
theorem q1448 : (Jvm.Cond.code ({ cls := "AdjectiveCouponsModel", name := "hasHole", desc := "()Z" } : Jvm.MethodName) prog_19_method_36_code (3 : Nat) (Option.some Jvm.ClassFile.FieldType.boolean)) ∈ lw_all := lw_g (lw_at lw_m6 171 rfl) rfl
theorem q1450 : (Jvm.Cond.instanceMethod ({ cls := "AdjectiveCouponsModel", name := "say", desc := "(I)I" } : Jvm.MethodName)) ∈ lw_all := lw_g (lw_at lw_m6 173 rfl) rfl
theorem q1451 : (Jvm.Cond.selects "AdjectiveCouponsModel" ({ cls := "AdjectiveCouponsModel", name := "say", desc := "(I)I" } : Jvm.MethodName) ({ cls := "AdjectiveCouponsModel", name := "say", desc := "(I)I" } : Jvm.MethodName)) ∈ lw_all := lw_g (lw_at lw_m6 174 rfl) rfl
theorem q1452 : (Jvm.Cond.code ({ cls := "AdjectiveCouponsModel", name := "say", desc := "(I)I" } : Jvm.MethodName) prog_19_method_50_code (4 : Nat) (Option.some Jvm.ClassFile.FieldType.int)) ∈ lw_all := lw_g (lw_at lw_m6 175 rfl) rfl
theorem q1453 : (Jvm.Cond.methodLink "AdjectiveCouponsModel" (247 : Nat) ({ cls := "AdjectiveCouponsModel", name := "keepPast", desc := "()V" } : Jvm.MethodName)) ∈ lw_all := lw_g (lw_at lw_m6 176 rfl) rfl
theorem q1454 : (Jvm.Cond.privateMethod ({ cls := "AdjectiveCouponsModel", name := "keepPast", desc := "()V" } : Jvm.MethodName)) ∈ lw_tbl := lw_at lw_m6 177 rfl
theorem q1455 : (Jvm.Cond.instanceMethod ({ cls := "AdjectiveCouponsModel", name := "keepPast", desc := "()V" } : Jvm.MethodName)) ∈ lw_all := lw_g (lw_at lw_m6 178 rfl) rfl
theorem q1456 : (Jvm.Cond.code ({ cls := "AdjectiveCouponsModel", name := "keepPast", desc := "()V" } : Jvm.MethodName) prog_19_method_49_code (2 : Nat) (Option.none : Option Jvm.ClassFile.FieldType)) ∈ lw_all := lw_g (lw_at lw_m6 179 rfl) rfl
theorem q1457 : (Jvm.Cond.methodLink "AdjectiveCouponsModel" (244 : Nat) ({ cls := "AdjectiveCouponsModel", name := "copy", desc := "(II)V" } : Jvm.MethodName)) ∈ lw_all := lw_g (lw_at lw_m6 180 rfl) rfl
theorem q1458 : (Jvm.Cond.privateMethod ({ cls := "AdjectiveCouponsModel", name := "copy", desc := "(II)V" } : Jvm.MethodName)) ∈ lw_tbl := lw_at lw_m6 181 rfl
theorem q1459 : (Jvm.Cond.instanceMethod ({ cls := "AdjectiveCouponsModel", name := "copy", desc := "(II)V" } : Jvm.MethodName)) ∈ lw_all := lw_g (lw_at lw_m6 182 rfl) rfl
theorem q1460 : (Jvm.Cond.code ({ cls := "AdjectiveCouponsModel", name := "copy", desc := "(II)V" } : Jvm.MethodName) prog_19_method_48_code (4 : Nat) (Option.none : Option Jvm.ClassFile.FieldType)) ∈ lw_all := lw_g (lw_at lw_m6 183 rfl) rfl
theorem q1461 : (Jvm.Cond.methodLink "AdjectiveCouponsModel" (250 : Nat) ({ cls := "AdjectiveCouponsModel", name := "worthOf", desc := "()I" } : Jvm.MethodName)) ∈ lw_all := lw_g (lw_at lw_m6 184 rfl) rfl
theorem q1462 : (Jvm.Cond.privateMethod ({ cls := "AdjectiveCouponsModel", name := "worthOf", desc := "()I" } : Jvm.MethodName)) ∈ lw_tbl := lw_at lw_m6 185 rfl
theorem q1463 : (Jvm.Cond.instanceMethod ({ cls := "AdjectiveCouponsModel", name := "worthOf", desc := "()I" } : Jvm.MethodName)) ∈ lw_all := lw_g (lw_at lw_m6 186 rfl) rfl
theorem q1464 : (Jvm.Cond.code ({ cls := "AdjectiveCouponsModel", name := "worthOf", desc := "()I" } : Jvm.MethodName) prog_19_method_38_code (3 : Nat) (Option.some Jvm.ClassFile.FieldType.int)) ∈ lw_all := lw_g (lw_at lw_m6 187 rfl) rfl
theorem q1466 : (Jvm.Cond.instanceMethod ({ cls := "AdjectiveCouponsModel", name := "week", desc := "()I" } : Jvm.MethodName)) ∈ lw_all := lw_g (lw_at lw_m6 189 rfl) rfl
theorem q1467 : (Jvm.Cond.selects "AdjectiveCouponsModel" ({ cls := "AdjectiveCouponsModel", name := "week", desc := "()I" } : Jvm.MethodName) ({ cls := "AdjectiveCouponsModel", name := "week", desc := "()I" } : Jvm.MethodName)) ∈ lw_all := lw_g (lw_at lw_m6 190 rfl) rfl
theorem q1468 : (Jvm.Cond.code ({ cls := "AdjectiveCouponsModel", name := "week", desc := "()I" } : Jvm.MethodName) prog_19_method_52_code (2 : Nat) (Option.some Jvm.ClassFile.FieldType.int)) ∈ lw_all := lw_g (lw_at lw_m6 191 rfl) rfl
theorem q1469 : (Jvm.Cond.methodLink "AdjectiveCouponsModel" (253 : Nat) ({ cls := "AdjectiveCouponsModel", name := "rationed", desc := "(II)I" } : Jvm.MethodName)) ∈ lw_all := lw_g (lw_at lw_m6 192 rfl) rfl
theorem q1470 : (Jvm.Cond.privateMethod ({ cls := "AdjectiveCouponsModel", name := "rationed", desc := "(II)I" } : Jvm.MethodName)) ∈ lw_tbl := lw_at lw_m6 193 rfl
theorem q1471 : (Jvm.Cond.instanceMethod ({ cls := "AdjectiveCouponsModel", name := "rationed", desc := "(II)I" } : Jvm.MethodName)) ∈ lw_all := lw_g (lw_at lw_m6 194 rfl) rfl
theorem q1472 : (Jvm.Cond.code ({ cls := "AdjectiveCouponsModel", name := "rationed", desc := "(II)I" } : Jvm.MethodName) prog_19_method_51_code (4 : Nat) (Option.some Jvm.ClassFile.FieldType.int)) ∈ lw_all := lw_g (lw_at lw_m6 195 rfl) rfl
theorem q1474 : (Jvm.Cond.instanceMethod ({ cls := "AdjectiveCouponsModel", name := "trade", desc := "(IIII)I" } : Jvm.MethodName)) ∈ lw_all := lw_g (lw_at lw_m6 197 rfl) rfl
theorem q1475 : (Jvm.Cond.selects "AdjectiveCouponsModel" ({ cls := "AdjectiveCouponsModel", name := "trade", desc := "(IIII)I" } : Jvm.MethodName) ({ cls := "AdjectiveCouponsModel", name := "trade", desc := "(IIII)I" } : Jvm.MethodName)) ∈ lw_all := lw_g (lw_at lw_m6 198 rfl) rfl
theorem q1476 : (Jvm.Cond.code ({ cls := "AdjectiveCouponsModel", name := "trade", desc := "(IIII)I" } : Jvm.MethodName) prog_19_method_54_code (5 : Nat) (Option.some Jvm.ClassFile.FieldType.int)) ∈ lw_all := lw_g (lw_at lw_m6 199 rfl) rfl
theorem q1477 : (Jvm.Cond.methodLink "AdjectiveCouponsModel" (256 : Nat) ({ cls := "AdjectiveCouponsModel", name := "areTwo", desc := "(II)Z" } : Jvm.MethodName)) ∈ lw_all := lw_g (lw_at lw_m6 200 rfl) rfl
theorem q1478 : (Jvm.Cond.privateMethod ({ cls := "AdjectiveCouponsModel", name := "areTwo", desc := "(II)Z" } : Jvm.MethodName)) ∈ lw_tbl := lw_at lw_m6 201 rfl
theorem q1479 : (Jvm.Cond.instanceMethod ({ cls := "AdjectiveCouponsModel", name := "areTwo", desc := "(II)Z" } : Jvm.MethodName)) ∈ lw_all := lw_g (lw_at lw_m6 202 rfl) rfl
theorem q1480 : (Jvm.Cond.code ({ cls := "AdjectiveCouponsModel", name := "areTwo", desc := "(II)Z" } : Jvm.MethodName) prog_19_method_53_code (3 : Nat) (Option.some Jvm.ClassFile.FieldType.boolean)) ∈ lw_all := lw_g (lw_at lw_m6 203 rfl) rfl
theorem q1481 : (Jvm.Cond.constantLong "AdjectiveCouponsModel" (259 : Nat) (60 : Int64)) ∈ lw_all := lw_g (lw_at lw_m6 204 rfl) rfl
theorem q1482 : (Jvm.Cond.constantLong "AdjectiveCouponsModel" (261 : Nat) (99 : Int64)) ∈ lw_all := lw_g (lw_at lw_m6 205 rfl) rfl
theorem q1484 : (Jvm.Cond.instanceMethod ({ cls := "AdjectiveCouponsModel", name := "owe", desc := "(III)I" } : Jvm.MethodName)) ∈ lw_all := lw_g (lw_at lw_m6 207 rfl) rfl
theorem q1485 : (Jvm.Cond.selects "AdjectiveCouponsModel" ({ cls := "AdjectiveCouponsModel", name := "owe", desc := "(III)I" } : Jvm.MethodName) ({ cls := "AdjectiveCouponsModel", name := "owe", desc := "(III)I" } : Jvm.MethodName)) ∈ lw_all := lw_g (lw_at lw_m6 208 rfl) rfl
theorem q1486 : (Jvm.Cond.code ({ cls := "AdjectiveCouponsModel", name := "owe", desc := "(III)I" } : Jvm.MethodName) prog_19_method_55_code (4 : Nat) (Option.some Jvm.ClassFile.FieldType.int)) ∈ lw_all := lw_g (lw_at lw_m6 209 rfl) rfl
theorem q1488 : (Jvm.Cond.instanceMethod ({ cls := "AdjectiveCouponsModel", name := "owes", desc := "(II)I" } : Jvm.MethodName)) ∈ lw_all := lw_g (lw_at lw_m6 211 rfl) rfl
theorem q1489 : (Jvm.Cond.selects "AdjectiveCouponsModel" ({ cls := "AdjectiveCouponsModel", name := "owes", desc := "(II)I" } : Jvm.MethodName) ({ cls := "AdjectiveCouponsModel", name := "owes", desc := "(II)I" } : Jvm.MethodName)) ∈ lw_all := lw_g (lw_at lw_m6 212 rfl) rfl
theorem q1490 : (Jvm.Cond.code ({ cls := "AdjectiveCouponsModel", name := "owes", desc := "(II)I" } : Jvm.MethodName) prog_19_method_56_code (3 : Nat) (Option.some Jvm.ClassFile.FieldType.int)) ∈ lw_all := lw_g (lw_at lw_m6 213 rfl) rfl
theorem q1492 : (Jvm.Cond.instanceMethod ({ cls := "AdjectiveCouponsModel", name := "undo", desc := "()I" } : Jvm.MethodName)) ∈ lw_all := lw_g (lw_at lw_m6 215 rfl) rfl
theorem q1493 : (Jvm.Cond.selects "AdjectiveCouponsModel" ({ cls := "AdjectiveCouponsModel", name := "undo", desc := "()I" } : Jvm.MethodName) ({ cls := "AdjectiveCouponsModel", name := "undo", desc := "()I" } : Jvm.MethodName)) ∈ lw_all := lw_g (lw_at lw_m6 216 rfl) rfl
theorem q1494 : (Jvm.Cond.code ({ cls := "AdjectiveCouponsModel", name := "undo", desc := "()I" } : Jvm.MethodName) prog_19_method_57_code (1 : Nat) (Option.some Jvm.ClassFile.FieldType.int)) ∈ lw_all := lw_g (lw_at lw_m6 217 rfl) rfl
theorem q1496 : (Jvm.Cond.instanceMethod ({ cls := "AdjectiveCouponsModel", name := "keep", desc := "(I)I" } : Jvm.MethodName)) ∈ lw_all := lw_g (lw_at lw_m6 219 rfl) rfl
theorem q1497 : (Jvm.Cond.selects "AdjectiveCouponsModel" ({ cls := "AdjectiveCouponsModel", name := "keep", desc := "(I)I" } : Jvm.MethodName) ({ cls := "AdjectiveCouponsModel", name := "keep", desc := "(I)I" } : Jvm.MethodName)) ∈ lw_all := lw_g (lw_at lw_m6 220 rfl) rfl
theorem q1498 : (Jvm.Cond.code ({ cls := "AdjectiveCouponsModel", name := "keep", desc := "(I)I" } : Jvm.MethodName) prog_19_method_58_code (2 : Nat) (Option.some Jvm.ClassFile.FieldType.int)) ∈ lw_all := lw_g (lw_at lw_m6 221 rfl) rfl
theorem q1500 : (Jvm.Cond.instanceMethod ({ cls := "AdjectiveCouponsModel", name := "back", desc := "(I)I" } : Jvm.MethodName)) ∈ lw_all := lw_g (lw_at lw_m6 223 rfl) rfl
theorem q1501 : (Jvm.Cond.selects "AdjectiveCouponsModel" ({ cls := "AdjectiveCouponsModel", name := "back", desc := "(I)I" } : Jvm.MethodName) ({ cls := "AdjectiveCouponsModel", name := "back", desc := "(I)I" } : Jvm.MethodName)) ∈ lw_all := lw_g (lw_at lw_m6 224 rfl) rfl
theorem q1502 : (Jvm.Cond.code ({ cls := "AdjectiveCouponsModel", name := "back", desc := "(I)I" } : Jvm.MethodName) prog_19_method_59_code (2 : Nat) (Option.some Jvm.ClassFile.FieldType.int)) ∈ lw_all := lw_g (lw_at lw_m6 225 rfl) rfl
theorem q1504 : (Jvm.Cond.instanceMethod ({ cls := "AdjectiveCouponsModel", name := "cheapest", desc := "(I)I" } : Jvm.MethodName)) ∈ lw_all := lw_g (lw_at lw_m6 227 rfl) rfl
theorem q1505 : (Jvm.Cond.selects "AdjectiveCouponsModel" ({ cls := "AdjectiveCouponsModel", name := "cheapest", desc := "(I)I" } : Jvm.MethodName) ({ cls := "AdjectiveCouponsModel", name := "cheapest", desc := "(I)I" } : Jvm.MethodName)) ∈ lw_all := lw_g (lw_at lw_m6 228 rfl) rfl
theorem q1506 : (Jvm.Cond.code ({ cls := "AdjectiveCouponsModel", name := "cheapest", desc := "(I)I" } : Jvm.MethodName) prog_19_method_65_code (2 : Nat) (Option.some Jvm.ClassFile.FieldType.int)) ∈ lw_all := lw_g (lw_at lw_m6 229 rfl) rfl
theorem q1507 : (Jvm.Cond.methodLink "AdjectiveCouponsModel" (281 : Nat) ({ cls := "AdjectiveCouponsModel", name := "canBeOrdered", desc := "()Z" } : Jvm.MethodName)) ∈ lw_all := lw_g (lw_at lw_m6 230 rfl) rfl
theorem q1508 : (Jvm.Cond.privateMethod ({ cls := "AdjectiveCouponsModel", name := "canBeOrdered", desc := "()Z" } : Jvm.MethodName)) ∈ lw_tbl := lw_at lw_m6 231 rfl
theorem q1509 : (Jvm.Cond.instanceMethod ({ cls := "AdjectiveCouponsModel", name := "canBeOrdered", desc := "()Z" } : Jvm.MethodName)) ∈ lw_all := lw_g (lw_at lw_m6 232 rfl) rfl
theorem q1510 : (Jvm.Cond.code ({ cls := "AdjectiveCouponsModel", name := "canBeOrdered", desc := "()Z" } : Jvm.MethodName) prog_19_method_64_code (1 : Nat) (Option.some Jvm.ClassFile.FieldType.boolean)) ∈ lw_all := lw_g (lw_at lw_m6 233 rfl) rfl
theorem q1511 : (Jvm.Cond.methodLink "AdjectiveCouponsModel" (284 : Nat) ({ cls := "AdjectiveCouponsModel", name := "layOrders", desc := "()V" } : Jvm.MethodName)) ∈ lw_all := lw_g (lw_at lw_m6 234 rfl) rfl
theorem q1512 : (Jvm.Cond.privateMethod ({ cls := "AdjectiveCouponsModel", name := "layOrders", desc := "()V" } : Jvm.MethodName)) ∈ lw_tbl := lw_at lw_m6 235 rfl
theorem q1513 : (Jvm.Cond.instanceMethod ({ cls := "AdjectiveCouponsModel", name := "layOrders", desc := "()V" } : Jvm.MethodName)) ∈ lw_all := lw_g (lw_at lw_m6 236 rfl) rfl
theorem q1514 : (Jvm.Cond.code ({ cls := "AdjectiveCouponsModel", name := "layOrders", desc := "()V" } : Jvm.MethodName) prog_19_method_63_code (5 : Nat) (Option.none : Option Jvm.ClassFile.FieldType)) ∈ lw_all := lw_g (lw_at lw_m6 237 rfl) rfl
theorem q1515 : (Jvm.Cond.methodLink "AdjectiveCouponsModel" (263 : Nat) ({ cls := "AdjectiveCouponsModel", name := "factorial", desc := "(I)I" } : Jvm.MethodName)) ∈ lw_all := lw_g (lw_at lw_m6 238 rfl) rfl
theorem q1516 : (Jvm.Cond.static ({ cls := "AdjectiveCouponsModel", name := "factorial", desc := "(I)I" } : Jvm.MethodName)) ∈ lw_all := lw_g (lw_at lw_m6 239 rfl) rfl
theorem q1517 : (Jvm.Cond.code ({ cls := "AdjectiveCouponsModel", name := "factorial", desc := "(I)I" } : Jvm.MethodName) prog_19_method_60_code (3 : Nat) (Option.some Jvm.ClassFile.FieldType.int)) ∈ lw_all := lw_g (lw_at lw_m7 0 rfl) rfl
theorem q1518 : (Jvm.Cond.methodLink "AdjectiveCouponsModel" (272 : Nat) ({ cls := "AdjectiveCouponsModel", name := "layOrder", desc := "(I)V" } : Jvm.MethodName)) ∈ lw_all := lw_g (lw_at lw_m7 1 rfl) rfl
theorem q1519 : (Jvm.Cond.privateMethod ({ cls := "AdjectiveCouponsModel", name := "layOrder", desc := "(I)V" } : Jvm.MethodName)) ∈ lw_tbl := lw_at lw_m7 2 rfl
theorem q1520 : (Jvm.Cond.instanceMethod ({ cls := "AdjectiveCouponsModel", name := "layOrder", desc := "(I)V" } : Jvm.MethodName)) ∈ lw_all := lw_g (lw_at lw_m7 3 rfl) rfl
theorem q1521 : (Jvm.Cond.code ({ cls := "AdjectiveCouponsModel", name := "layOrder", desc := "(I)V" } : Jvm.MethodName) prog_19_method_61_code (8 : Nat) (Option.none : Option Jvm.ClassFile.FieldType)) ∈ lw_all := lw_g (lw_at lw_m7 4 rfl) rfl
theorem q1522 : (Jvm.Cond.methodLink "AdjectiveCouponsModel" (275 : Nat) ({ cls := "AdjectiveCouponsModel", name := "citizenCost", desc := "()I" } : Jvm.MethodName)) ∈ lw_all := lw_g (lw_at lw_m7 5 rfl) rfl
theorem q1523 : (Jvm.Cond.privateMethod ({ cls := "AdjectiveCouponsModel", name := "citizenCost", desc := "()I" } : Jvm.MethodName)) ∈ lw_tbl := lw_at lw_m7 6 rfl
theorem q1524 : (Jvm.Cond.instanceMethod ({ cls := "AdjectiveCouponsModel", name := "citizenCost", desc := "()I" } : Jvm.MethodName)) ∈ lw_all := lw_g (lw_at lw_m7 7 rfl) rfl
theorem q1525 : (Jvm.Cond.code ({ cls := "AdjectiveCouponsModel", name := "citizenCost", desc := "()I" } : Jvm.MethodName) prog_19_method_35_code (1 : Nat) (Option.some Jvm.ClassFile.FieldType.int)) ∈ lw_all := lw_g (lw_at lw_m7 8 rfl) rfl
theorem q1526 : (Jvm.Cond.methodLink "AdjectiveCouponsModel" (278 : Nat) ({ cls := "AdjectiveCouponsModel", name := "isAheadOfBest", desc := "()Z" } : Jvm.MethodName)) ∈ lw_all := lw_g (lw_at lw_m7 9 rfl) rfl
theorem q1527 : (Jvm.Cond.privateMethod ({ cls := "AdjectiveCouponsModel", name := "isAheadOfBest", desc := "()Z" } : Jvm.MethodName)) ∈ lw_tbl := lw_at lw_m7 10 rfl
theorem q1528 : (Jvm.Cond.instanceMethod ({ cls := "AdjectiveCouponsModel", name := "isAheadOfBest", desc := "()Z" } : Jvm.MethodName)) ∈ lw_all := lw_g (lw_at lw_m7 11 rfl) rfl
theorem q1529 : (Jvm.Cond.code ({ cls := "AdjectiveCouponsModel", name := "isAheadOfBest", desc := "()Z" } : Jvm.MethodName) prog_19_method_62_code (2 : Nat) (Option.some Jvm.ClassFile.FieldType.boolean)) ∈ lw_all := lw_g (lw_at lw_m7 12 rfl) rfl
theorem q1531 : (Jvm.Cond.instanceMethod ({ cls := "AdjectiveCouponsModel", name := "loophole", desc := "()I" } : Jvm.MethodName)) ∈ lw_all := lw_g (lw_at lw_m7 14 rfl) rfl
theorem q1532 : (Jvm.Cond.selects "AdjectiveCouponsModel" ({ cls := "AdjectiveCouponsModel", name := "loophole", desc := "()I" } : Jvm.MethodName) ({ cls := "AdjectiveCouponsModel", name := "loophole", desc := "()I" } : Jvm.MethodName)) ∈ lw_all := lw_g (lw_at lw_m7 15 rfl) rfl
theorem q1533 : (Jvm.Cond.code ({ cls := "AdjectiveCouponsModel", name := "loophole", desc := "()I" } : Jvm.MethodName) prog_19_method_66_code (1 : Nat) (Option.some Jvm.ClassFile.FieldType.int)) ∈ lw_all := lw_g (lw_at lw_m7 16 rfl) rfl
theorem q1535 : (Jvm.Cond.instanceMethod ({ cls := "AdjectiveCouponsModel", name := "leftOut", desc := "(II)I" } : Jvm.MethodName)) ∈ lw_all := lw_g (lw_at lw_m7 18 rfl) rfl
theorem q1536 : (Jvm.Cond.selects "AdjectiveCouponsModel" ({ cls := "AdjectiveCouponsModel", name := "leftOut", desc := "(II)I" } : Jvm.MethodName) ({ cls := "AdjectiveCouponsModel", name := "leftOut", desc := "(II)I" } : Jvm.MethodName)) ∈ lw_all := lw_g (lw_at lw_m7 19 rfl) rfl
theorem q1537 : (Jvm.Cond.code ({ cls := "AdjectiveCouponsModel", name := "leftOut", desc := "(II)I" } : Jvm.MethodName) prog_19_method_69_code (5 : Nat) (Option.some Jvm.ClassFile.FieldType.int)) ∈ lw_all := lw_g (lw_at lw_m7 20 rfl) rfl
theorem q1538 : (Jvm.Cond.methodLink "AdjectiveCouponsModel" (287 : Nat) ({ cls := "AdjectiveCouponsModel", name := "areWords", desc := "(I)Z" } : Jvm.MethodName)) ∈ lw_all := lw_g (lw_at lw_m7 21 rfl) rfl
theorem q1539 : (Jvm.Cond.privateMethod ({ cls := "AdjectiveCouponsModel", name := "areWords", desc := "(I)Z" } : Jvm.MethodName)) ∈ lw_tbl := lw_at lw_m7 22 rfl
theorem q1540 : (Jvm.Cond.instanceMethod ({ cls := "AdjectiveCouponsModel", name := "areWords", desc := "(I)Z" } : Jvm.MethodName)) ∈ lw_all := lw_g (lw_at lw_m7 23 rfl) rfl
theorem q1541 : (Jvm.Cond.code ({ cls := "AdjectiveCouponsModel", name := "areWords", desc := "(I)Z" } : Jvm.MethodName) prog_19_method_68_code (4 : Nat) (Option.some Jvm.ClassFile.FieldType.boolean)) ∈ lw_all := lw_g (lw_at lw_m7 24 rfl) rfl
theorem q1542 : (Jvm.Cond.methodLink "AdjectiveCouponsModel" (290 : Nat) ({ cls := "AdjectiveCouponsModel", name := "bits", desc := "(I)I" } : Jvm.MethodName)) ∈ lw_all := lw_g (lw_at lw_m7 25 rfl) rfl
theorem q1543 : (Jvm.Cond.static ({ cls := "AdjectiveCouponsModel", name := "bits", desc := "(I)I" } : Jvm.MethodName)) ∈ lw_all := lw_g (lw_at lw_m7 26 rfl) rfl
theorem q1544 : (Jvm.Cond.code ({ cls := "AdjectiveCouponsModel", name := "bits", desc := "(I)I" } : Jvm.MethodName) prog_19_method_4_code (3 : Nat) (Option.some Jvm.ClassFile.FieldType.int)) ∈ lw_all := lw_g (lw_at lw_m7 27 rfl) rfl
theorem q1545 : (Jvm.Cond.methodLink "AdjectiveCouponsModel" (293 : Nat) ({ cls := "AdjectiveCouponsModel", name := "layWithout", desc := "(I)V" } : Jvm.MethodName)) ∈ lw_all := lw_g (lw_at lw_m7 28 rfl) rfl
theorem q1546 : (Jvm.Cond.privateMethod ({ cls := "AdjectiveCouponsModel", name := "layWithout", desc := "(I)V" } : Jvm.MethodName)) ∈ lw_tbl := lw_at lw_m7 29 rfl
theorem q1547 : (Jvm.Cond.instanceMethod ({ cls := "AdjectiveCouponsModel", name := "layWithout", desc := "(I)V" } : Jvm.MethodName)) ∈ lw_all := lw_g (lw_at lw_m7 30 rfl) rfl
theorem q1548 : (Jvm.Cond.code ({ cls := "AdjectiveCouponsModel", name := "layWithout", desc := "(I)V" } : Jvm.MethodName) prog_19_method_67_code (3 : Nat) (Option.none : Option Jvm.ClassFile.FieldType)) ∈ lw_all := lw_g (lw_at lw_m7 31 rfl) rfl
theorem q1550 : (Jvm.Cond.instanceMethod ({ cls := "AdjectiveCouponsModel", name := "holes", desc := "(II)I" } : Jvm.MethodName)) ∈ lw_all := lw_g (lw_at lw_m7 33 rfl) rfl
theorem q1551 : (Jvm.Cond.selects "AdjectiveCouponsModel" ({ cls := "AdjectiveCouponsModel", name := "holes", desc := "(II)I" } : Jvm.MethodName) ({ cls := "AdjectiveCouponsModel", name := "holes", desc := "(II)I" } : Jvm.MethodName)) ∈ lw_all := lw_g (lw_at lw_m7 34 rfl) rfl
theorem q1552 : (Jvm.Cond.code ({ cls := "AdjectiveCouponsModel", name := "holes", desc := "(II)I" } : Jvm.MethodName) prog_19_method_71_code (9 : Nat) (Option.some Jvm.ClassFile.FieldType.int)) ∈ lw_all := lw_g (lw_at lw_m7 35 rfl) rfl
theorem q1553 : (Jvm.Cond.methodLink "AdjectiveCouponsModel" (296 : Nat) ({ cls := "AdjectiveCouponsModel", name := "layFilled", desc := "(I)V" } : Jvm.MethodName)) ∈ lw_all := lw_g (lw_at lw_m7 36 rfl) rfl
theorem q1554 : (Jvm.Cond.privateMethod ({ cls := "AdjectiveCouponsModel", name := "layFilled", desc := "(I)V" } : Jvm.MethodName)) ∈ lw_tbl := lw_at lw_m7 37 rfl
theorem q1555 : (Jvm.Cond.instanceMethod ({ cls := "AdjectiveCouponsModel", name := "layFilled", desc := "(I)V" } : Jvm.MethodName)) ∈ lw_all := lw_g (lw_at lw_m7 38 rfl) rfl
theorem q1556 : (Jvm.Cond.code ({ cls := "AdjectiveCouponsModel", name := "layFilled", desc := "(I)V" } : Jvm.MethodName) prog_19_method_70_code (4 : Nat) (Option.none : Option Jvm.ClassFile.FieldType)) ∈ lw_all := lw_g (lw_at lw_m7 39 rfl) rfl
theorem q1558 : (Jvm.Cond.instanceMethod ({ cls := "AdjectiveCouponsModel", name := "draft", desc := "()I" } : Jvm.MethodName)) ∈ lw_all := lw_g (lw_at lw_m7 41 rfl) rfl
theorem q1559 : (Jvm.Cond.selects "AdjectiveCouponsModel" ({ cls := "AdjectiveCouponsModel", name := "draft", desc := "()I" } : Jvm.MethodName) ({ cls := "AdjectiveCouponsModel", name := "draft", desc := "()I" } : Jvm.MethodName)) ∈ lw_all := lw_g (lw_at lw_m7 42 rfl) rfl
theorem q1560 : (Jvm.Cond.code ({ cls := "AdjectiveCouponsModel", name := "draft", desc := "()I" } : Jvm.MethodName) prog_19_method_72_code (2 : Nat) (Option.some Jvm.ClassFile.FieldType.int)) ∈ lw_all := lw_g (lw_at lw_m7 43 rfl) rfl
theorem q1562 : (Jvm.Cond.instanceMethod ({ cls := "AdjectiveCouponsModel", name := "burn", desc := "()I" } : Jvm.MethodName)) ∈ lw_all := lw_g (lw_at lw_m7 45 rfl) rfl
theorem q1563 : (Jvm.Cond.selects "AdjectiveCouponsModel" ({ cls := "AdjectiveCouponsModel", name := "burn", desc := "()I" } : Jvm.MethodName) ({ cls := "AdjectiveCouponsModel", name := "burn", desc := "()I" } : Jvm.MethodName)) ∈ lw_all := lw_g (lw_at lw_m7 46 rfl) rfl
theorem q1564 : (Jvm.Cond.code ({ cls := "AdjectiveCouponsModel", name := "burn", desc := "()I" } : Jvm.MethodName) prog_19_method_73_code (2 : Nat) (Option.some Jvm.ClassFile.FieldType.int)) ∈ lw_all := lw_g (lw_at lw_m7 47 rfl) rfl
theorem q1566 : (Jvm.Cond.instanceMethod ({ cls := "AdjectiveCouponsModel", name := "drafted", desc := "(III)I" } : Jvm.MethodName)) ∈ lw_all := lw_g (lw_at lw_m7 49 rfl) rfl
theorem q1567 : (Jvm.Cond.selects "AdjectiveCouponsModel" ({ cls := "AdjectiveCouponsModel", name := "drafted", desc := "(III)I" } : Jvm.MethodName) ({ cls := "AdjectiveCouponsModel", name := "drafted", desc := "(III)I" } : Jvm.MethodName)) ∈ lw_all := lw_g (lw_at lw_m7 50 rfl) rfl
theorem q1568 : (Jvm.Cond.code ({ cls := "AdjectiveCouponsModel", name := "drafted", desc := "(III)I" } : Jvm.MethodName) prog_19_method_74_code (4 : Nat) (Option.some Jvm.ClassFile.FieldType.int)) ∈ lw_all := lw_g (lw_at lw_m7 51 rfl) rfl
theorem q1569 : (Jvm.Cond.methodLink "AdjectiveCouponsModel" (299 : Nat) ({ cls := "AdjectiveCouponsModel", name := "layDraft", desc := "(I)V" } : Jvm.MethodName)) ∈ lw_all := lw_g (lw_at lw_m7 52 rfl) rfl
theorem q1570 : (Jvm.Cond.privateMethod ({ cls := "AdjectiveCouponsModel", name := "layDraft", desc := "(I)V" } : Jvm.MethodName)) ∈ lw_tbl := lw_at lw_m7 53 rfl
theorem q1571 : (Jvm.Cond.instanceMethod ({ cls := "AdjectiveCouponsModel", name := "layDraft", desc := "(I)V" } : Jvm.MethodName)) ∈ lw_all := lw_g (lw_at lw_m7 54 rfl) rfl
theorem q1572 : (Jvm.Cond.code ({ cls := "AdjectiveCouponsModel", name := "layDraft", desc := "(I)V" } : Jvm.MethodName) prog_19_method_29_code (3 : Nat) (Option.none : Option Jvm.ClassFile.FieldType)) ∈ lw_all := lw_g (lw_at lw_m7 55 rfl) rfl
theorem q1574 : (Jvm.Cond.instanceMethod ({ cls := "AdjectiveCouponsModel", name := "page", desc := "(II)I" } : Jvm.MethodName)) ∈ lw_all := lw_g (lw_at lw_m7 57 rfl) rfl
theorem q1575 : (Jvm.Cond.selects "AdjectiveCouponsModel" ({ cls := "AdjectiveCouponsModel", name := "page", desc := "(II)I" } : Jvm.MethodName) ({ cls := "AdjectiveCouponsModel", name := "page", desc := "(II)I" } : Jvm.MethodName)) ∈ lw_all := lw_g (lw_at lw_m7 58 rfl) rfl
theorem q1576 : (Jvm.Cond.code ({ cls := "AdjectiveCouponsModel", name := "page", desc := "(II)I" } : Jvm.MethodName) prog_19_method_76_code (7 : Nat) (Option.some Jvm.ClassFile.FieldType.int)) ∈ lw_all := lw_g (lw_at lw_m7 59 rfl) rfl
theorem q1577 : (Jvm.Cond.methodLink "AdjectiveCouponsModel" (302 : Nat) ({ cls := "AdjectiveCouponsModel", name := "worthOfSet", desc := "(I)I" } : Jvm.MethodName)) ∈ lw_all := lw_g (lw_at lw_m7 60 rfl) rfl
theorem q1578 : (Jvm.Cond.privateMethod ({ cls := "AdjectiveCouponsModel", name := "worthOfSet", desc := "(I)I" } : Jvm.MethodName)) ∈ lw_tbl := lw_at lw_m7 61 rfl
theorem q1579 : (Jvm.Cond.instanceMethod ({ cls := "AdjectiveCouponsModel", name := "worthOfSet", desc := "(I)I" } : Jvm.MethodName)) ∈ lw_all := lw_g (lw_at lw_m7 62 rfl) rfl
theorem q1580 : (Jvm.Cond.code ({ cls := "AdjectiveCouponsModel", name := "worthOfSet", desc := "(I)I" } : Jvm.MethodName) prog_19_method_75_code (4 : Nat) (Option.some Jvm.ClassFile.FieldType.int)) ∈ lw_all := lw_g (lw_at lw_m7 63 rfl) rfl
theorem q1582 : (Jvm.Cond.instanceMethod ({ cls := "AdjectiveCouponsModel", name := "plan", desc := "(II)I" } : Jvm.MethodName)) ∈ lw_all := lw_g (lw_at lw_m7 65 rfl) rfl
theorem q1583 : (Jvm.Cond.selects "AdjectiveCouponsModel" ({ cls := "AdjectiveCouponsModel", name := "plan", desc := "(II)I" } : Jvm.MethodName) ({ cls := "AdjectiveCouponsModel", name := "plan", desc := "(II)I" } : Jvm.MethodName)) ∈ lw_all := lw_g (lw_at lw_m7 66 rfl) rfl
theorem q1584 : (Jvm.Cond.code ({ cls := "AdjectiveCouponsModel", name := "plan", desc := "(II)I" } : Jvm.MethodName) prog_19_method_78_code (5 : Nat) (Option.some Jvm.ClassFile.FieldType.int)) ∈ lw_all := lw_g (lw_at lw_m7 67 rfl) rfl
theorem q1585 : (Jvm.Cond.methodLink "AdjectiveCouponsModel" (305 : Nat) ({ cls := "AdjectiveCouponsModel", name := "canPay", desc := "(II)Z" } : Jvm.MethodName)) ∈ lw_all := lw_g (lw_at lw_m7 68 rfl) rfl
theorem q1586 : (Jvm.Cond.privateMethod ({ cls := "AdjectiveCouponsModel", name := "canPay", desc := "(II)Z" } : Jvm.MethodName)) ∈ lw_tbl := lw_at lw_m7 69 rfl
theorem q1587 : (Jvm.Cond.instanceMethod ({ cls := "AdjectiveCouponsModel", name := "canPay", desc := "(II)Z" } : Jvm.MethodName)) ∈ lw_all := lw_g (lw_at lw_m7 70 rfl) rfl
theorem q1588 : (Jvm.Cond.code ({ cls := "AdjectiveCouponsModel", name := "canPay", desc := "(II)Z" } : Jvm.MethodName) prog_19_method_77_code (7 : Nat) (Option.some Jvm.ClassFile.FieldType.boolean)) ∈ lw_all := lw_g (lw_at lw_m7 71 rfl) rfl
theorem q1590 : (Jvm.Cond.instanceMethod ({ cls := "AdjectiveCouponsModel", name := "likeness", desc := "(I)I" } : Jvm.MethodName)) ∈ lw_all := lw_g (lw_at lw_m7 73 rfl) rfl
theorem q1591 : (Jvm.Cond.selects "AdjectiveCouponsModel" ({ cls := "AdjectiveCouponsModel", name := "likeness", desc := "(I)I" } : Jvm.MethodName) ({ cls := "AdjectiveCouponsModel", name := "likeness", desc := "(I)I" } : Jvm.MethodName)) ∈ lw_all := lw_g (lw_at lw_m7 74 rfl) rfl
theorem q1592 : (Jvm.Cond.code ({ cls := "AdjectiveCouponsModel", name := "likeness", desc := "(I)I" } : Jvm.MethodName) prog_19_method_80_code (2 : Nat) (Option.some Jvm.ClassFile.FieldType.int)) ∈ lw_all := lw_g (lw_at lw_m7 75 rfl) rfl
theorem q1593 : (Jvm.Cond.methodLink "AdjectiveCouponsModel" (308 : Nat) ({ cls := "AdjectiveCouponsModel", name := "likenessOf", desc := "(I)I" } : Jvm.MethodName)) ∈ lw_all := lw_g (lw_at lw_m7 76 rfl) rfl
theorem q1594 : (Jvm.Cond.privateMethod ({ cls := "AdjectiveCouponsModel", name := "likenessOf", desc := "(I)I" } : Jvm.MethodName)) ∈ lw_tbl := lw_at lw_m7 77 rfl
theorem q1595 : (Jvm.Cond.instanceMethod ({ cls := "AdjectiveCouponsModel", name := "likenessOf", desc := "(I)I" } : Jvm.MethodName)) ∈ lw_all := lw_g (lw_at lw_m7 78 rfl) rfl
theorem q1596 : (Jvm.Cond.code ({ cls := "AdjectiveCouponsModel", name := "likenessOf", desc := "(I)I" } : Jvm.MethodName) prog_19_method_79_code (5 : Nat) (Option.some Jvm.ClassFile.FieldType.int)) ∈ lw_all := lw_g (lw_at lw_m7 79 rfl) rfl
theorem q1598 : (Jvm.Cond.instanceMethod ({ cls := "AdjectiveCouponsModel", name := "author", desc := "()I" } : Jvm.MethodName)) ∈ lw_all := lw_g (lw_at lw_m7 81 rfl) rfl
theorem q1599 : (Jvm.Cond.selects "AdjectiveCouponsModel" ({ cls := "AdjectiveCouponsModel", name := "author", desc := "()I" } : Jvm.MethodName) ({ cls := "AdjectiveCouponsModel", name := "author", desc := "()I" } : Jvm.MethodName)) ∈ lw_all := lw_g (lw_at lw_m7 82 rfl) rfl
theorem q1600 : (Jvm.Cond.code ({ cls := "AdjectiveCouponsModel", name := "author", desc := "()I" } : Jvm.MethodName) prog_19_method_81_code (4 : Nat) (Option.some Jvm.ClassFile.FieldType.int)) ∈ lw_all := lw_g (lw_at lw_m7 83 rfl) rfl
theorem q1602 : (Jvm.Cond.instanceMethod ({ cls := "AdjectiveCouponsModel", name := "left", desc := "(I)I" } : Jvm.MethodName)) ∈ lw_all := lw_g (lw_at lw_m7 85 rfl) rfl
theorem q1603 : (Jvm.Cond.selects "AdjectiveCouponsModel" ({ cls := "AdjectiveCouponsModel", name := "left", desc := "(I)I" } : Jvm.MethodName) ({ cls := "AdjectiveCouponsModel", name := "left", desc := "(I)I" } : Jvm.MethodName)) ∈ lw_all := lw_g (lw_at lw_m7 86 rfl) rfl
theorem q1604 : (Jvm.Cond.code ({ cls := "AdjectiveCouponsModel", name := "left", desc := "(I)I" } : Jvm.MethodName) prog_19_method_82_code (10 : Nat) (Option.some Jvm.ClassFile.FieldType.int)) ∈ lw_all := lw_g (lw_at lw_m7 87 rfl) rfl
theorem q1605 : (Jvm.Cond.constantLong "AdjectiveCouponsModel" (311 : Nat) (2 : Int64)) ∈ lw_all := lw_g (lw_at lw_m7 88 rfl) rfl
theorem q1607 : (Jvm.Cond.instanceMethod ({ cls := "AdjectiveCouponsModel", name := "net", desc := "(I)I" } : Jvm.MethodName)) ∈ lw_all := lw_g (lw_at lw_m7 90 rfl) rfl
theorem q1608 : (Jvm.Cond.selects "AdjectiveCouponsModel" ({ cls := "AdjectiveCouponsModel", name := "net", desc := "(I)I" } : Jvm.MethodName) ({ cls := "AdjectiveCouponsModel", name := "net", desc := "(I)I" } : Jvm.MethodName)) ∈ lw_all := lw_g (lw_at lw_m7 91 rfl) rfl
theorem q1609 : (Jvm.Cond.code ({ cls := "AdjectiveCouponsModel", name := "net", desc := "(I)I" } : Jvm.MethodName) prog_19_method_84_code (2 : Nat) (Option.some Jvm.ClassFile.FieldType.int)) ∈ lw_all := lw_g (lw_at lw_m7 92 rfl) rfl
theorem q1610 : (Jvm.Cond.methodLink "AdjectiveCouponsModel" (313 : Nat) ({ cls := "AdjectiveCouponsModel", name := "netOf", desc := "(I)I" } : Jvm.MethodName)) ∈ lw_all := lw_g (lw_at lw_m7 93 rfl) rfl
theorem q1611 : (Jvm.Cond.privateMethod ({ cls := "AdjectiveCouponsModel", name := "netOf", desc := "(I)I" } : Jvm.MethodName)) ∈ lw_tbl := lw_at lw_m7 94 rfl
theorem q1612 : (Jvm.Cond.instanceMethod ({ cls := "AdjectiveCouponsModel", name := "netOf", desc := "(I)I" } : Jvm.MethodName)) ∈ lw_all := lw_g (lw_at lw_m7 95 rfl) rfl
theorem q1613 : (Jvm.Cond.code ({ cls := "AdjectiveCouponsModel", name := "netOf", desc := "(I)I" } : Jvm.MethodName) prog_19_method_83_code (4 : Nat) (Option.some Jvm.ClassFile.FieldType.int)) ∈ lw_all := lw_g (lw_at lw_m7 96 rfl) rfl
theorem q1615 : (Jvm.Cond.instanceMethod ({ cls := "AdjectiveCouponsModel", name := "payments", desc := "()I" } : Jvm.MethodName)) ∈ lw_all := lw_g (lw_at lw_m7 98 rfl) rfl
theorem q1616 : (Jvm.Cond.selects "AdjectiveCouponsModel" ({ cls := "AdjectiveCouponsModel", name := "payments", desc := "()I" } : Jvm.MethodName) ({ cls := "AdjectiveCouponsModel", name := "payments", desc := "()I" } : Jvm.MethodName)) ∈ lw_all := lw_g (lw_at lw_m7 99 rfl) rfl
theorem q1617 : (Jvm.Cond.code ({ cls := "AdjectiveCouponsModel", name := "payments", desc := "()I" } : Jvm.MethodName) prog_19_method_86_code (5 : Nat) (Option.some Jvm.ClassFile.FieldType.int)) ∈ lw_all := lw_g (lw_at lw_m7 100 rfl) rfl
theorem q1618 : (Jvm.Cond.methodLink "AdjectiveCouponsModel" (316 : Nat) ({ cls := "AdjectiveCouponsModel", name := "netOfSet", desc := "(I)I" } : Jvm.MethodName)) ∈ lw_all := lw_g (lw_at lw_m7 101 rfl) rfl
theorem q1619 : (Jvm.Cond.privateMethod ({ cls := "AdjectiveCouponsModel", name := "netOfSet", desc := "(I)I" } : Jvm.MethodName)) ∈ lw_tbl := lw_at lw_m7 102 rfl
theorem q1620 : (Jvm.Cond.instanceMethod ({ cls := "AdjectiveCouponsModel", name := "netOfSet", desc := "(I)I" } : Jvm.MethodName)) ∈ lw_all := lw_g (lw_at lw_m7 103 rfl) rfl
theorem q1621 : (Jvm.Cond.code ({ cls := "AdjectiveCouponsModel", name := "netOfSet", desc := "(I)I" } : Jvm.MethodName) prog_19_method_85_code (4 : Nat) (Option.some Jvm.ClassFile.FieldType.int)) ∈ lw_all := lw_g (lw_at lw_m7 104 rfl) rfl
theorem q1623 : (Jvm.Cond.instanceMethod ({ cls := "AdjectiveCouponsModel", name := "count", desc := "(I)I" } : Jvm.MethodName)) ∈ lw_all := lw_g (lw_at lw_m7 106 rfl) rfl
theorem q1624 : (Jvm.Cond.selects "AdjectiveCouponsModel" ({ cls := "AdjectiveCouponsModel", name := "count", desc := "(I)I" } : Jvm.MethodName) ({ cls := "AdjectiveCouponsModel", name := "count", desc := "(I)I" } : Jvm.MethodName)) ∈ lw_all := lw_g (lw_at lw_m7 107 rfl) rfl
theorem q1625 : (Jvm.Cond.code ({ cls := "AdjectiveCouponsModel", name := "count", desc := "(I)I" } : Jvm.MethodName) prog_19_method_87_code (5 : Nat) (Option.some Jvm.ClassFile.FieldType.int)) ∈ lw_all := lw_g (lw_at lw_m7 108 rfl) rfl
theorem q1645 : (Jvm.Cond.castable "AdjectiveCouponsModel" "java/lang/Object") ∈ lw_tbl := lw_at lw_m7 128 rfl
theorem in_X2 : ∀ w ∈ wsX20, w ∈ lw_all := lw_in wsX20 [1191, 1193, 1195, 1197, 1199, 1201, 1203, 1205, 1207, 1209, 1211, 1213, 1215, 1217, 1219, 1221, 1223, 1225, 1227, 1229, 1231, 1233, 1235, 1237, 1239, 1241, 1243, 1245, 1247, 1249, 1251, 1253, 1255, 1257, 1259] (by decide +kernel) (by decide +kernel)
