/-! AdjectiveCoupons -/
set_option maxRecDepth 100000
def RX0 : String := "AdjectiveCoupons"
def TX0 : u_T := fun k => match k with
  | 0 => ("AdjectiveCoupons", "words", "[Ljava/lang/Object;", true)
  | 1 => ("AdjectiveCoupons", "wordMany", "I", false)
  | 2 => ("AdjectiveCoupons", "changes", "[[I", true)
  | 3 => ("AdjectiveCoupons", "changeMany", "I", false)
  | 4 => ("AdjectiveCoupons", "people", "[Ljava/lang/Object;", true)
  | 5 => ("AdjectiveCoupons", "peopleMany", "I", false)
  | 6 => ("AdjectiveCoupons", "ration", "I", false)
  | 7 => ("AdjectiveCoupons", "rules", "I", false)
  | 8 => ("AdjectiveCoupons", "now", "LAdjectiveCoupons$State;", true)
  | 9 => ("AdjectiveCoupons", "kept", "[LAdjectiveCoupons$State;", true)
  | 10 => ("AdjectiveCoupons", "backs", "[LAdjectiveCoupons$State;", true)
  | 11 => ("AdjectiveCoupons", "backMany", "I", false)
  | 12 => ("AdjectiveCoupons", "line", "[I", true)
  | 13 => ("AdjectiveCoupons", "lineMany", "I", false)
  | 14 => ("AdjectiveCoupons", "drafts", "[[I", true)
  | 15 => ("AdjectiveCoupons", "draftMany", "I", false)
  | 16 => ("AdjectiveCoupons", "costs", "[I", true)
  | 17 => ("AdjectiveCoupons", "colours", "[Z", true)
  | 18 => ("AdjectiveCoupons", "text", "[B", true)
  | 19 => ("AdjectiveCoupons", "letters", "I", false)
  | 20 => ("AdjectiveCoupons", "order", "[I", true)
  | 21 => ("AdjectiveCoupons", "cheapest", "[I", true)
  | 22 => ("AdjectiveCoupons", "leastCost", "I", false)
  | _ => ("AdjectiveCoupons", "mostCost", "I", false)
def tyX0 : Nat → FieldType := fun k => match k with
  | 0 => .array (.object "java/lang/Object")
  | 1 => .int
  | 2 => .array (.array .int)
  | 3 => .int
  | 4 => .array (.object "java/lang/Object")
  | 5 => .int
  | 6 => .int
  | 7 => .int
  | 8 => .object "AdjectiveCoupons$State"
  | 9 => .array (.object "AdjectiveCoupons$State")
  | 10 => .array (.object "AdjectiveCoupons$State")
  | 11 => .int
  | 12 => .array .int
  | 13 => .int
  | 14 => .array (.array .int)
  | 15 => .int
  | 16 => .array .int
  | 17 => .array .boolean
  | 18 => .array .byte
  | 19 => .int
  | 20 => .array .int
  | 21 => .array .int
  | 22 => .int
  | _ => .int
abbrev wsX00 : List Cond := u_ws RX0 TX0 24
set_option maxRecDepth 100000 in
theorem nmX0 : ∀ a, a < 24 → ∀ b, b < 24 → a ≠ b → (TX0 a).2.1 ≠ (TX0 b).2.1 := by decide +kernel
set_option maxRecDepth 100000 in
theorem tyX0_ok : ∀ k, k < 24 → parseFieldDescriptor (TX0 k).2.2.1 = some (tyX0 k) := by decide +kernel
abbrev cX0_init : ByteArray := prog_1_method_18_code
def yX0_init : MethodName := ⟨RX0, "<init>", "()V"⟩
def dkwX0_init_5 : List UInt8 := [188, 10, 181, 0, 205, 42, 182, 0, 208, 177]
abbrev dktX0_init_5 : List UInt8 := dkwX0_init_5 ++ []
def dkwX0_init_4 : List UInt8 := [181, 0, 143, 42, 17, 0, 160, 188, 8, 181, 0, 198, 42, 16, 8, 188, 10, 181, 0, 202, 42, 16, 8]
abbrev dktX0_init_4 : List UInt8 := dkwX0_init_4 ++ dktX0_init_5
def dkwX0_init_3 : List UInt8 := [42, 16, 6, 189, 0, 194, 181, 0, 195, 42, 16, 8, 188, 10, 181, 0, 141, 42, 16, 8, 188, 4]
abbrev dktX0_init_3 : List UInt8 := dkwX0_init_3 ++ dktX0_init_4
def dkwX0_init_2 : List UInt8 := [5, 189, 0, 54, 181, 0, 95, 42, 16, 8, 189, 0, 54, 181, 0, 99, 42, 16, 8, 188, 10, 181, 0, 171]
abbrev dktX0_init_2 : List UInt8 := dkwX0_init_2 ++ dktX0_init_3
def dkwX0_init_1 : List UInt8 := [189, 0, 192, 181, 0, 26, 42, 16, 9, 181, 0, 59, 42, 187, 0, 54, 89, 183, 0, 108, 181, 0, 49, 42]
abbrev dktX0_init_1 : List UInt8 := dkwX0_init_1 ++ dktX0_init_2
def dkwX0_init_0 : List UInt8 := [42, 183, 0, 191, 42, 16, 10, 189, 0, 192, 181, 0, 18, 42, 16, 6, 189, 0, 194, 181, 0, 41, 42, 7]
abbrev dktX0_init_0 : List UInt8 := dkwX0_init_0 ++ dktX0_init_1
theorem dksX0_init_0 : cX0_init.data.toList.drop 0 = dktX0_init_0 := by decide +kernel
theorem dksX0_init_1 : cX0_init.data.toList.drop 24 = dktX0_init_1 := dk_seg dksX0_init_0 24 rfl rfl
theorem dksX0_init_2 : cX0_init.data.toList.drop 48 = dktX0_init_2 := dk_seg dksX0_init_1 24 rfl rfl
theorem dksX0_init_3 : cX0_init.data.toList.drop 72 = dktX0_init_3 := dk_seg dksX0_init_2 24 rfl rfl
theorem dksX0_init_4 : cX0_init.data.toList.drop 94 = dktX0_init_4 := dk_seg dksX0_init_3 22 rfl rfl
theorem dksX0_init_5 : cX0_init.data.toList.drop 117 = dktX0_init_5 := dk_seg dksX0_init_4 23 rfl rfl
theorem dX0_init_0 : decode cX0_init 0 = .ok (.aload_n 0, 1) := dk_42 (dk_at dksX0_init_0 0 rfl rfl)
theorem dX0_init_1 : decode cX0_init 1 = .ok (.invokespecial 191, 3) := dk_183 0 191 (dk_at dksX0_init_0 1 rfl rfl)
theorem dX0_init_4 : decode cX0_init 4 = .ok (.aload_n 0, 1) := dk_42 (dk_at dksX0_init_0 4 rfl rfl)
theorem dX0_init_5 : decode cX0_init 5 = .ok (.bipush 10, 2) := dk_16 10 (dk_at dksX0_init_0 5 rfl rfl)
theorem dX0_init_7 : decode cX0_init 7 = .ok (.anewarray 192, 3) := dk_189 0 192 (dk_at dksX0_init_0 7 rfl rfl)
theorem dX0_init_10 : decode cX0_init 10 = .ok (.putfield 18, 3) := dk_181 0 18 (dk_at dksX0_init_0 10 rfl rfl)
theorem dX0_init_13 : decode cX0_init 13 = .ok (.aload_n 0, 1) := dk_42 (dk_at dksX0_init_0 13 rfl rfl)
theorem dX0_init_14 : decode cX0_init 14 = .ok (.bipush 6, 2) := dk_16 6 (dk_at dksX0_init_0 14 rfl rfl)
theorem dX0_init_16 : decode cX0_init 16 = .ok (.anewarray 194, 3) := dk_189 0 194 (dk_at dksX0_init_0 16 rfl rfl)
theorem dX0_init_19 : decode cX0_init 19 = .ok (.putfield 41, 3) := dk_181 0 41 (dk_at dksX0_init_0 19 rfl rfl)
theorem dX0_init_22 : decode cX0_init 22 = .ok (.aload_n 0, 1) := dk_42 (dk_at dksX0_init_0 22 rfl rfl)
theorem dX0_init_23 : decode cX0_init 23 = .ok (.iconst 4, 1) := dk_7 (dk_at dksX0_init_0 23 rfl rfl)
theorem dX0_init_24 : decode cX0_init 24 = .ok (.anewarray 192, 3) := dk_189 0 192 (dk_at dksX0_init_1 0 rfl rfl)
theorem dX0_init_27 : decode cX0_init 27 = .ok (.putfield 26, 3) := dk_181 0 26 (dk_at dksX0_init_1 3 rfl rfl)
theorem dX0_init_30 : decode cX0_init 30 = .ok (.aload_n 0, 1) := dk_42 (dk_at dksX0_init_1 6 rfl rfl)
theorem dX0_init_31 : decode cX0_init 31 = .ok (.bipush 9, 2) := dk_16 9 (dk_at dksX0_init_1 7 rfl rfl)
theorem dX0_init_33 : decode cX0_init 33 = .ok (.putfield 59, 3) := dk_181 0 59 (dk_at dksX0_init_1 9 rfl rfl)
theorem dX0_init_36 : decode cX0_init 36 = .ok (.aload_n 0, 1) := dk_42 (dk_at dksX0_init_1 12 rfl rfl)
theorem dX0_init_37 : decode cX0_init 37 = .ok (.new 54, 3) := dk_187 0 54 (dk_at dksX0_init_1 13 rfl rfl)
theorem dX0_init_40 : decode cX0_init 40 = .ok (.dup, 1) := dk_89 (dk_at dksX0_init_1 16 rfl rfl)
theorem dX0_init_41 : decode cX0_init 41 = .ok (.invokespecial 108, 3) := dk_183 0 108 (dk_at dksX0_init_1 17 rfl rfl)
theorem dX0_init_44 : decode cX0_init 44 = .ok (.putfield 49, 3) := dk_181 0 49 (dk_at dksX0_init_1 20 rfl rfl)
theorem dX0_init_47 : decode cX0_init 47 = .ok (.aload_n 0, 1) := dk_42 (dk_at dksX0_init_1 23 rfl rfl)
theorem dX0_init_48 : decode cX0_init 48 = .ok (.iconst 2, 1) := dk_5 (dk_at dksX0_init_2 0 rfl rfl)
theorem dX0_init_49 : decode cX0_init 49 = .ok (.anewarray 54, 3) := dk_189 0 54 (dk_at dksX0_init_2 1 rfl rfl)
theorem dX0_init_52 : decode cX0_init 52 = .ok (.putfield 95, 3) := dk_181 0 95 (dk_at dksX0_init_2 4 rfl rfl)
theorem dX0_init_55 : decode cX0_init 55 = .ok (.aload_n 0, 1) := dk_42 (dk_at dksX0_init_2 7 rfl rfl)
theorem dX0_init_56 : decode cX0_init 56 = .ok (.bipush 8, 2) := dk_16 8 (dk_at dksX0_init_2 8 rfl rfl)
theorem dX0_init_58 : decode cX0_init 58 = .ok (.anewarray 54, 3) := dk_189 0 54 (dk_at dksX0_init_2 10 rfl rfl)
theorem dX0_init_61 : decode cX0_init 61 = .ok (.putfield 99, 3) := dk_181 0 99 (dk_at dksX0_init_2 13 rfl rfl)
theorem dX0_init_64 : decode cX0_init 64 = .ok (.aload_n 0, 1) := dk_42 (dk_at dksX0_init_2 16 rfl rfl)
theorem dX0_init_65 : decode cX0_init 65 = .ok (.bipush 8, 2) := dk_16 8 (dk_at dksX0_init_2 17 rfl rfl)
theorem dX0_init_67 : decode cX0_init 67 = .ok (.newarray .int, 2) := dk_188_10 (dk_at dksX0_init_2 19 rfl rfl)
theorem dX0_init_69 : decode cX0_init 69 = .ok (.putfield 171, 3) := dk_181 0 171 (dk_at dksX0_init_2 21 rfl rfl)
theorem dX0_init_72 : decode cX0_init 72 = .ok (.aload_n 0, 1) := dk_42 (dk_at dksX0_init_3 0 rfl rfl)
theorem dX0_init_73 : decode cX0_init 73 = .ok (.bipush 6, 2) := dk_16 6 (dk_at dksX0_init_3 1 rfl rfl)
theorem dX0_init_75 : decode cX0_init 75 = .ok (.anewarray 194, 3) := dk_189 0 194 (dk_at dksX0_init_3 3 rfl rfl)
theorem dX0_init_78 : decode cX0_init 78 = .ok (.putfield 195, 3) := dk_181 0 195 (dk_at dksX0_init_3 6 rfl rfl)
theorem dX0_init_81 : decode cX0_init 81 = .ok (.aload_n 0, 1) := dk_42 (dk_at dksX0_init_3 9 rfl rfl)
theorem dX0_init_82 : decode cX0_init 82 = .ok (.bipush 8, 2) := dk_16 8 (dk_at dksX0_init_3 10 rfl rfl)
theorem dX0_init_84 : decode cX0_init 84 = .ok (.newarray .int, 2) := dk_188_10 (dk_at dksX0_init_3 12 rfl rfl)
theorem dX0_init_86 : decode cX0_init 86 = .ok (.putfield 141, 3) := dk_181 0 141 (dk_at dksX0_init_3 14 rfl rfl)
theorem dX0_init_89 : decode cX0_init 89 = .ok (.aload_n 0, 1) := dk_42 (dk_at dksX0_init_3 17 rfl rfl)
theorem dX0_init_90 : decode cX0_init 90 = .ok (.bipush 8, 2) := dk_16 8 (dk_at dksX0_init_3 18 rfl rfl)
theorem dX0_init_92 : decode cX0_init 92 = .ok (.newarray .boolean, 2) := dk_188_4 (dk_at dksX0_init_3 20 rfl rfl)
theorem dX0_init_94 : decode cX0_init 94 = .ok (.putfield 143, 3) := dk_181 0 143 (dk_at dksX0_init_4 0 rfl rfl)
theorem dX0_init_97 : decode cX0_init 97 = .ok (.aload_n 0, 1) := dk_42 (dk_at dksX0_init_4 3 rfl rfl)
theorem dX0_init_98 : decode cX0_init 98 = .ok (.sipush 160, 3) := dk_17 0 160 (dk_at dksX0_init_4 4 rfl rfl)
theorem dX0_init_101 : decode cX0_init 101 = .ok (.newarray .byte, 2) := dk_188_8 (dk_at dksX0_init_4 7 rfl rfl)
theorem dX0_init_103 : decode cX0_init 103 = .ok (.putfield 198, 3) := dk_181 0 198 (dk_at dksX0_init_4 9 rfl rfl)
theorem dX0_init_106 : decode cX0_init 106 = .ok (.aload_n 0, 1) := dk_42 (dk_at dksX0_init_4 12 rfl rfl)
theorem dX0_init_107 : decode cX0_init 107 = .ok (.bipush 8, 2) := dk_16 8 (dk_at dksX0_init_4 13 rfl rfl)
theorem dX0_init_109 : decode cX0_init 109 = .ok (.newarray .int, 2) := dk_188_10 (dk_at dksX0_init_4 15 rfl rfl)
theorem dX0_init_111 : decode cX0_init 111 = .ok (.putfield 202, 3) := dk_181 0 202 (dk_at dksX0_init_4 17 rfl rfl)
theorem dX0_init_114 : decode cX0_init 114 = .ok (.aload_n 0, 1) := dk_42 (dk_at dksX0_init_4 20 rfl rfl)
theorem dX0_init_115 : decode cX0_init 115 = .ok (.bipush 8, 2) := dk_16 8 (dk_at dksX0_init_4 21 rfl rfl)
theorem dX0_init_117 : decode cX0_init 117 = .ok (.newarray .int, 2) := dk_188_10 (dk_at dksX0_init_5 0 rfl rfl)
theorem dX0_init_119 : decode cX0_init 119 = .ok (.putfield 205, 3) := dk_181 0 205 (dk_at dksX0_init_5 2 rfl rfl)
theorem dX0_init_122 : decode cX0_init 122 = .ok (.aload_n 0, 1) := dk_42 (dk_at dksX0_init_5 5 rfl rfl)
theorem dX0_init_123 : decode cX0_init 123 = .ok (.invokevirtual 208, 3) := dk_182 0 208 (dk_at dksX0_init_5 6 rfl rfl)
theorem dX0_init_126 : decode cX0_init 126 = .ok (.return_, 1) := dk_177 (dk_at dksX0_init_5 9 rfl rfl)
abbrev cX0_begin : ByteArray := prog_1_method_8_code
def yX0_begin : MethodName := ⟨RX0, "begin", "()V"⟩
def dkwX0_begin_5 : List UInt8 := [83, 42, 180, 0, 95, 4, 1, 83, 177]
abbrev dktX0_begin_5 : List UInt8 := dkwX0_begin_5 ++ []
def dkwX0_begin_4 : List UInt8 := [181, 0, 83, 42, 3, 181, 0, 86, 42, 3, 181, 0, 89, 42, 3, 181, 0, 92, 42, 180, 0, 95, 3, 1]
abbrev dktX0_begin_4 : List UInt8 := dkwX0_begin_4 ++ dktX0_begin_5
def dkwX0_begin_3 : List UInt8 := [180, 0, 49, 180, 0, 80, 27, 50, 3, 184, 0, 62, 132, 1, 1, 167, 255, 222, 42, 180, 0, 49, 3]
abbrev dktX0_begin_3 : List UInt8 := dkwX0_begin_3 ++ dktX0_begin_4
def dkwX0_begin_2 : List UInt8 := [184, 0, 62, 3, 60, 27, 7, 162, 0, 35, 42, 180, 0, 49, 180, 0, 77, 27, 50, 3, 184, 0, 62, 42]
abbrev dktX0_begin_2 : List UInt8 := dkwX0_begin_2 ++ dktX0_begin_3
def dkwX0_begin_1 : List UInt8 := [16, 10, 184, 0, 62, 42, 180, 0, 49, 180, 0, 71, 3, 184, 0, 62, 42, 180, 0, 49, 180, 0, 74, 3]
abbrev dktX0_begin_1 : List UInt8 := dkwX0_begin_1 ++ dktX0_begin_2
def dkwX0_begin_0 : List UInt8 := [42, 180, 0, 49, 180, 0, 53, 5, 42, 180, 0, 59, 104, 184, 0, 62, 42, 180, 0, 49, 180, 0, 68]
abbrev dktX0_begin_0 : List UInt8 := dkwX0_begin_0 ++ dktX0_begin_1
theorem dksX0_begin_0 : cX0_begin.data.toList.drop 0 = dktX0_begin_0 := by decide +kernel
theorem dksX0_begin_1 : cX0_begin.data.toList.drop 23 = dktX0_begin_1 := dk_seg dksX0_begin_0 23 rfl rfl
theorem dksX0_begin_2 : cX0_begin.data.toList.drop 47 = dktX0_begin_2 := dk_seg dksX0_begin_1 24 rfl rfl
theorem dksX0_begin_3 : cX0_begin.data.toList.drop 71 = dktX0_begin_3 := dk_seg dksX0_begin_2 24 rfl rfl
theorem dksX0_begin_4 : cX0_begin.data.toList.drop 94 = dktX0_begin_4 := dk_seg dksX0_begin_3 23 rfl rfl
theorem dksX0_begin_5 : cX0_begin.data.toList.drop 118 = dktX0_begin_5 := dk_seg dksX0_begin_4 24 rfl rfl
theorem dX0_begin_0 : decode cX0_begin 0 = .ok (.aload_n 0, 1) := dk_42 (dk_at dksX0_begin_0 0 rfl rfl)
theorem dX0_begin_1 : decode cX0_begin 1 = .ok (.getfield 49, 3) := dk_180 0 49 (dk_at dksX0_begin_0 1 rfl rfl)
theorem dX0_begin_4 : decode cX0_begin 4 = .ok (.getfield 53, 3) := dk_180 0 53 (dk_at dksX0_begin_0 4 rfl rfl)
theorem dX0_begin_7 : decode cX0_begin 7 = .ok (.iconst 2, 1) := dk_5 (dk_at dksX0_begin_0 7 rfl rfl)
theorem dX0_begin_8 : decode cX0_begin 8 = .ok (.aload_n 0, 1) := dk_42 (dk_at dksX0_begin_0 8 rfl rfl)
theorem dX0_begin_9 : decode cX0_begin 9 = .ok (.getfield 59, 3) := dk_180 0 59 (dk_at dksX0_begin_0 9 rfl rfl)
theorem dX0_begin_12 : decode cX0_begin 12 = .ok (.imul, 1) := dk_104 (dk_at dksX0_begin_0 12 rfl rfl)
theorem dX0_begin_13 : decode cX0_begin 13 = .ok (.invokestatic 62, 3) := dk_184 0 62 (dk_at dksX0_begin_0 13 rfl rfl)
theorem dX0_begin_16 : decode cX0_begin 16 = .ok (.aload_n 0, 1) := dk_42 (dk_at dksX0_begin_0 16 rfl rfl)
theorem dX0_begin_17 : decode cX0_begin 17 = .ok (.getfield 49, 3) := dk_180 0 49 (dk_at dksX0_begin_0 17 rfl rfl)
theorem dX0_begin_20 : decode cX0_begin 20 = .ok (.getfield 68, 3) := dk_180 0 68 (dk_at dksX0_begin_0 20 rfl rfl)
theorem dX0_begin_23 : decode cX0_begin 23 = .ok (.bipush 10, 2) := dk_16 10 (dk_at dksX0_begin_1 0 rfl rfl)
theorem dX0_begin_25 : decode cX0_begin 25 = .ok (.invokestatic 62, 3) := dk_184 0 62 (dk_at dksX0_begin_1 2 rfl rfl)
theorem dX0_begin_28 : decode cX0_begin 28 = .ok (.aload_n 0, 1) := dk_42 (dk_at dksX0_begin_1 5 rfl rfl)
theorem dX0_begin_29 : decode cX0_begin 29 = .ok (.getfield 49, 3) := dk_180 0 49 (dk_at dksX0_begin_1 6 rfl rfl)
theorem dX0_begin_32 : decode cX0_begin 32 = .ok (.getfield 71, 3) := dk_180 0 71 (dk_at dksX0_begin_1 9 rfl rfl)
theorem dX0_begin_35 : decode cX0_begin 35 = .ok (.iconst 0, 1) := dk_3 (dk_at dksX0_begin_1 12 rfl rfl)
theorem dX0_begin_36 : decode cX0_begin 36 = .ok (.invokestatic 62, 3) := dk_184 0 62 (dk_at dksX0_begin_1 13 rfl rfl)
theorem dX0_begin_39 : decode cX0_begin 39 = .ok (.aload_n 0, 1) := dk_42 (dk_at dksX0_begin_1 16 rfl rfl)
theorem dX0_begin_40 : decode cX0_begin 40 = .ok (.getfield 49, 3) := dk_180 0 49 (dk_at dksX0_begin_1 17 rfl rfl)
theorem dX0_begin_43 : decode cX0_begin 43 = .ok (.getfield 74, 3) := dk_180 0 74 (dk_at dksX0_begin_1 20 rfl rfl)
theorem dX0_begin_46 : decode cX0_begin 46 = .ok (.iconst 0, 1) := dk_3 (dk_at dksX0_begin_1 23 rfl rfl)
theorem dX0_begin_47 : decode cX0_begin 47 = .ok (.invokestatic 62, 3) := dk_184 0 62 (dk_at dksX0_begin_2 0 rfl rfl)
theorem dX0_begin_50 : decode cX0_begin 50 = .ok (.iconst 0, 1) := dk_3 (dk_at dksX0_begin_2 3 rfl rfl)
theorem dX0_begin_51 : decode cX0_begin 51 = .ok (.istore_n 1, 1) := dk_60 (dk_at dksX0_begin_2 4 rfl rfl)
theorem dX0_begin_52 : decode cX0_begin 52 = .ok (.iload_n 1, 1) := dk_27 (dk_at dksX0_begin_2 5 rfl rfl)
theorem dX0_begin_53 : decode cX0_begin 53 = .ok (.iconst 4, 1) := dk_7 (dk_at dksX0_begin_2 6 rfl rfl)
theorem dX0_begin_54 : decode cX0_begin 54 = .ok (.if_icmp .ge 35, 3) := dk_162 0 35 (dk_at dksX0_begin_2 7 rfl rfl)
theorem dX0_begin_57 : decode cX0_begin 57 = .ok (.aload_n 0, 1) := dk_42 (dk_at dksX0_begin_2 10 rfl rfl)
theorem dX0_begin_58 : decode cX0_begin 58 = .ok (.getfield 49, 3) := dk_180 0 49 (dk_at dksX0_begin_2 11 rfl rfl)
theorem dX0_begin_61 : decode cX0_begin 61 = .ok (.getfield 77, 3) := dk_180 0 77 (dk_at dksX0_begin_2 14 rfl rfl)
theorem dX0_begin_64 : decode cX0_begin 64 = .ok (.iload_n 1, 1) := dk_27 (dk_at dksX0_begin_2 17 rfl rfl)
theorem dX0_begin_65 : decode cX0_begin 65 = .ok (.aaload, 1) := dk_50 (dk_at dksX0_begin_2 18 rfl rfl)
theorem dX0_begin_66 : decode cX0_begin 66 = .ok (.iconst 0, 1) := dk_3 (dk_at dksX0_begin_2 19 rfl rfl)
theorem dX0_begin_67 : decode cX0_begin 67 = .ok (.invokestatic 62, 3) := dk_184 0 62 (dk_at dksX0_begin_2 20 rfl rfl)
theorem dX0_begin_70 : decode cX0_begin 70 = .ok (.aload_n 0, 1) := dk_42 (dk_at dksX0_begin_2 23 rfl rfl)
theorem dX0_begin_71 : decode cX0_begin 71 = .ok (.getfield 49, 3) := dk_180 0 49 (dk_at dksX0_begin_3 0 rfl rfl)
theorem dX0_begin_74 : decode cX0_begin 74 = .ok (.getfield 80, 3) := dk_180 0 80 (dk_at dksX0_begin_3 3 rfl rfl)
theorem dX0_begin_77 : decode cX0_begin 77 = .ok (.iload_n 1, 1) := dk_27 (dk_at dksX0_begin_3 6 rfl rfl)
theorem dX0_begin_78 : decode cX0_begin 78 = .ok (.aaload, 1) := dk_50 (dk_at dksX0_begin_3 7 rfl rfl)
theorem dX0_begin_79 : decode cX0_begin 79 = .ok (.iconst 0, 1) := dk_3 (dk_at dksX0_begin_3 8 rfl rfl)
theorem dX0_begin_80 : decode cX0_begin 80 = .ok (.invokestatic 62, 3) := dk_184 0 62 (dk_at dksX0_begin_3 9 rfl rfl)
theorem dX0_begin_83 : decode cX0_begin 83 = .ok (.iinc 1 1, 3) := dk_132 1 1 (dk_at dksX0_begin_3 12 rfl rfl)
theorem dX0_begin_86 : decode cX0_begin 86 = .ok (.goto (-34), 3) := dk_167 255 222 (dk_at dksX0_begin_3 15 rfl rfl)
theorem dX0_begin_89 : decode cX0_begin 89 = .ok (.aload_n 0, 1) := dk_42 (dk_at dksX0_begin_3 18 rfl rfl)
theorem dX0_begin_90 : decode cX0_begin 90 = .ok (.getfield 49, 3) := dk_180 0 49 (dk_at dksX0_begin_3 19 rfl rfl)
theorem dX0_begin_93 : decode cX0_begin 93 = .ok (.iconst 0, 1) := dk_3 (dk_at dksX0_begin_3 22 rfl rfl)
theorem dX0_begin_94 : decode cX0_begin 94 = .ok (.putfield 83, 3) := dk_181 0 83 (dk_at dksX0_begin_4 0 rfl rfl)
theorem dX0_begin_97 : decode cX0_begin 97 = .ok (.aload_n 0, 1) := dk_42 (dk_at dksX0_begin_4 3 rfl rfl)
theorem dX0_begin_98 : decode cX0_begin 98 = .ok (.iconst 0, 1) := dk_3 (dk_at dksX0_begin_4 4 rfl rfl)
theorem dX0_begin_99 : decode cX0_begin 99 = .ok (.putfield 86, 3) := dk_181 0 86 (dk_at dksX0_begin_4 5 rfl rfl)
theorem dX0_begin_102 : decode cX0_begin 102 = .ok (.aload_n 0, 1) := dk_42 (dk_at dksX0_begin_4 8 rfl rfl)
theorem dX0_begin_103 : decode cX0_begin 103 = .ok (.iconst 0, 1) := dk_3 (dk_at dksX0_begin_4 9 rfl rfl)
theorem dX0_begin_104 : decode cX0_begin 104 = .ok (.putfield 89, 3) := dk_181 0 89 (dk_at dksX0_begin_4 10 rfl rfl)
theorem dX0_begin_107 : decode cX0_begin 107 = .ok (.aload_n 0, 1) := dk_42 (dk_at dksX0_begin_4 13 rfl rfl)
theorem dX0_begin_108 : decode cX0_begin 108 = .ok (.iconst 0, 1) := dk_3 (dk_at dksX0_begin_4 14 rfl rfl)
theorem dX0_begin_109 : decode cX0_begin 109 = .ok (.putfield 92, 3) := dk_181 0 92 (dk_at dksX0_begin_4 15 rfl rfl)
theorem dX0_begin_112 : decode cX0_begin 112 = .ok (.aload_n 0, 1) := dk_42 (dk_at dksX0_begin_4 18 rfl rfl)
theorem dX0_begin_113 : decode cX0_begin 113 = .ok (.getfield 95, 3) := dk_180 0 95 (dk_at dksX0_begin_4 19 rfl rfl)
theorem dX0_begin_116 : decode cX0_begin 116 = .ok (.iconst 0, 1) := dk_3 (dk_at dksX0_begin_4 22 rfl rfl)
theorem dX0_begin_117 : decode cX0_begin 117 = .ok (.aconst_null, 1) := dk_1 (dk_at dksX0_begin_4 23 rfl rfl)
theorem dX0_begin_118 : decode cX0_begin 118 = .ok (.aastore, 1) := dk_83 (dk_at dksX0_begin_5 0 rfl rfl)
theorem dX0_begin_119 : decode cX0_begin 119 = .ok (.aload_n 0, 1) := dk_42 (dk_at dksX0_begin_5 1 rfl rfl)
theorem dX0_begin_120 : decode cX0_begin 120 = .ok (.getfield 95, 3) := dk_180 0 95 (dk_at dksX0_begin_5 2 rfl rfl)
theorem dX0_begin_123 : decode cX0_begin 123 = .ok (.iconst 1, 1) := dk_4 (dk_at dksX0_begin_5 5 rfl rfl)
theorem dX0_begin_124 : decode cX0_begin 124 = .ok (.aconst_null, 1) := dk_1 (dk_at dksX0_begin_5 6 rfl rfl)
theorem dX0_begin_125 : decode cX0_begin 125 = .ok (.aastore, 1) := dk_83 (dk_at dksX0_begin_5 7 rfl rfl)
theorem dX0_begin_126 : decode cX0_begin 126 = .ok (.return_, 1) := dk_177 (dk_at dksX0_begin_5 8 rfl rfl)
abbrev cX0_write : ByteArray := prog_1_method_22_code
def yX0_write : MethodName := ⟨RX0, "write", "(I)I"⟩
def dkwX0_write_2 : List UInt8 := [42, 180, 0, 220, 172]
abbrev dktX0_write_2 : List UInt8 := dkwX0_write_2 ++ []
def dkwX0_write_1 : List UInt8 := [160, 0, 6, 16, 251, 172, 42, 180, 0, 198, 42, 89, 180, 0, 220, 90, 4, 96, 181, 0, 220, 27, 145, 84]
abbrev dktX0_write_1 : List UInt8 := dkwX0_write_1 ++ dktX0_write_2
def dkwX0_write_0 : List UInt8 := [27, 133, 9, 20, 0, 218, 184, 0, 211, 154, 0, 6, 16, 253, 172, 42, 180, 0, 220, 42, 180, 0, 198, 190]
abbrev dktX0_write_0 : List UInt8 := dkwX0_write_0 ++ dktX0_write_1
theorem dksX0_write_0 : cX0_write.data.toList.drop 0 = dktX0_write_0 := by decide +kernel
theorem dksX0_write_1 : cX0_write.data.toList.drop 24 = dktX0_write_1 := dk_seg dksX0_write_0 24 rfl rfl
theorem dksX0_write_2 : cX0_write.data.toList.drop 48 = dktX0_write_2 := dk_seg dksX0_write_1 24 rfl rfl
theorem dX0_write_0 : decode cX0_write 0 = .ok (.iload_n 1, 1) := dk_27 (dk_at dksX0_write_0 0 rfl rfl)
theorem dX0_write_1 : decode cX0_write 1 = .ok (.i2l, 1) := dk_133 (dk_at dksX0_write_0 1 rfl rfl)
theorem dX0_write_2 : decode cX0_write 2 = .ok (.lconst 0, 1) := dk_9 (dk_at dksX0_write_0 2 rfl rfl)
theorem dX0_write_3 : decode cX0_write 3 = .ok (.ldc2_w 218, 3) := dk_20 0 218 (dk_at dksX0_write_0 3 rfl rfl)
theorem dX0_write_6 : decode cX0_write 6 = .ok (.invokestatic 211, 3) := dk_184 0 211 (dk_at dksX0_write_0 6 rfl rfl)
theorem dX0_write_9 : decode cX0_write 9 = .ok (.ifCond .ne 6, 3) := dk_154 0 6 (dk_at dksX0_write_0 9 rfl rfl)
theorem dX0_write_12 : decode cX0_write 12 = .ok (.bipush (-3), 2) := dk_16 253 (dk_at dksX0_write_0 12 rfl rfl)
theorem dX0_write_14 : decode cX0_write 14 = .ok (.ireturn, 1) := dk_172 (dk_at dksX0_write_0 14 rfl rfl)
theorem dX0_write_15 : decode cX0_write 15 = .ok (.aload_n 0, 1) := dk_42 (dk_at dksX0_write_0 15 rfl rfl)
theorem dX0_write_16 : decode cX0_write 16 = .ok (.getfield 220, 3) := dk_180 0 220 (dk_at dksX0_write_0 16 rfl rfl)
theorem dX0_write_19 : decode cX0_write 19 = .ok (.aload_n 0, 1) := dk_42 (dk_at dksX0_write_0 19 rfl rfl)
theorem dX0_write_20 : decode cX0_write 20 = .ok (.getfield 198, 3) := dk_180 0 198 (dk_at dksX0_write_0 20 rfl rfl)
theorem dX0_write_23 : decode cX0_write 23 = .ok (.arraylength, 1) := dk_190 (dk_at dksX0_write_0 23 rfl rfl)
theorem dX0_write_24 : decode cX0_write 24 = .ok (.if_icmp .ne 6, 3) := dk_160 0 6 (dk_at dksX0_write_1 0 rfl rfl)
theorem dX0_write_27 : decode cX0_write 27 = .ok (.bipush (-5), 2) := dk_16 251 (dk_at dksX0_write_1 3 rfl rfl)
theorem dX0_write_29 : decode cX0_write 29 = .ok (.ireturn, 1) := dk_172 (dk_at dksX0_write_1 5 rfl rfl)
theorem dX0_write_30 : decode cX0_write 30 = .ok (.aload_n 0, 1) := dk_42 (dk_at dksX0_write_1 6 rfl rfl)
theorem dX0_write_31 : decode cX0_write 31 = .ok (.getfield 198, 3) := dk_180 0 198 (dk_at dksX0_write_1 7 rfl rfl)
theorem dX0_write_34 : decode cX0_write 34 = .ok (.aload_n 0, 1) := dk_42 (dk_at dksX0_write_1 10 rfl rfl)
theorem dX0_write_35 : decode cX0_write 35 = .ok (.dup, 1) := dk_89 (dk_at dksX0_write_1 11 rfl rfl)
theorem dX0_write_36 : decode cX0_write 36 = .ok (.getfield 220, 3) := dk_180 0 220 (dk_at dksX0_write_1 12 rfl rfl)
theorem dX0_write_39 : decode cX0_write 39 = .ok (.dup_x1, 1) := dk_90 (dk_at dksX0_write_1 15 rfl rfl)
theorem dX0_write_40 : decode cX0_write 40 = .ok (.iconst 1, 1) := dk_4 (dk_at dksX0_write_1 16 rfl rfl)
theorem dX0_write_41 : decode cX0_write 41 = .ok (.iadd, 1) := dk_96 (dk_at dksX0_write_1 17 rfl rfl)
theorem dX0_write_42 : decode cX0_write 42 = .ok (.putfield 220, 3) := dk_181 0 220 (dk_at dksX0_write_1 18 rfl rfl)
theorem dX0_write_45 : decode cX0_write 45 = .ok (.iload_n 1, 1) := dk_27 (dk_at dksX0_write_1 21 rfl rfl)
theorem dX0_write_46 : decode cX0_write 46 = .ok (.i2b, 1) := dk_145 (dk_at dksX0_write_1 22 rfl rfl)
theorem dX0_write_47 : decode cX0_write 47 = .ok (.bastore, 1) := dk_84 (dk_at dksX0_write_1 23 rfl rfl)
theorem dX0_write_48 : decode cX0_write 48 = .ok (.aload_n 0, 1) := dk_42 (dk_at dksX0_write_2 0 rfl rfl)
theorem dX0_write_49 : decode cX0_write 49 = .ok (.getfield 220, 3) := dk_180 0 220 (dk_at dksX0_write_2 1 rfl rfl)
theorem dX0_write_52 : decode cX0_write 52 = .ok (.ireturn, 1) := dk_172 (dk_at dksX0_write_2 4 rfl rfl)
abbrev cX0_in : ByteArray := prog_1_method_1_code
def yX0_in : MethodName := ⟨RX0, "in", "(JJJ)Z"⟩
def dkwX0_in_0 : List UInt8 := [30, 32, 148, 155, 0, 14, 30, 22, 4, 148, 157, 0, 7, 4, 167, 0, 4, 3, 172]
abbrev dktX0_in_0 : List UInt8 := dkwX0_in_0 ++ []
theorem dksX0_in_0 : cX0_in.data.toList.drop 0 = dktX0_in_0 := by decide +kernel
theorem dX0_in_0 : decode cX0_in 0 = .ok (.lload_n 0, 1) := dk_30 (dk_at dksX0_in_0 0 rfl rfl)
theorem dX0_in_1 : decode cX0_in 1 = .ok (.lload_n 2, 1) := dk_32 (dk_at dksX0_in_0 1 rfl rfl)
theorem dX0_in_2 : decode cX0_in 2 = .ok (.lcmp, 1) := dk_148 (dk_at dksX0_in_0 2 rfl rfl)
theorem dX0_in_3 : decode cX0_in 3 = .ok (.ifCond .lt 14, 3) := dk_155 0 14 (dk_at dksX0_in_0 3 rfl rfl)
theorem dX0_in_6 : decode cX0_in 6 = .ok (.lload_n 0, 1) := dk_30 (dk_at dksX0_in_0 6 rfl rfl)
theorem dX0_in_7 : decode cX0_in 7 = .ok (.lload 4, 2) := dk_22 4 (dk_at dksX0_in_0 7 rfl rfl)
theorem dX0_in_9 : decode cX0_in 9 = .ok (.lcmp, 1) := dk_148 (dk_at dksX0_in_0 9 rfl rfl)
theorem dX0_in_10 : decode cX0_in 10 = .ok (.ifCond .gt 7, 3) := dk_157 0 7 (dk_at dksX0_in_0 10 rfl rfl)
theorem dX0_in_13 : decode cX0_in 13 = .ok (.iconst 1, 1) := dk_4 (dk_at dksX0_in_0 13 rfl rfl)
theorem dX0_in_14 : decode cX0_in 14 = .ok (.goto 4, 3) := dk_167 0 4 (dk_at dksX0_in_0 14 rfl rfl)
theorem dX0_in_17 : decode cX0_in 17 = .ok (.iconst 0, 1) := dk_3 (dk_at dksX0_in_0 17 rfl rfl)
theorem dX0_in_18 : decode cX0_in 18 = .ok (.ireturn, 1) := dk_172 (dk_at dksX0_in_0 18 rfl rfl)
abbrev cX0_erase : ByteArray := prog_1_method_23_code
def yX0_erase : MethodName := ⟨RX0, "erase", "()I"⟩
def dkwX0_erase_0 : List UInt8 := [42, 180, 0, 220, 60, 42, 3, 181, 0, 220, 27, 172]
abbrev dktX0_erase_0 : List UInt8 := dkwX0_erase_0 ++ []
theorem dksX0_erase_0 : cX0_erase.data.toList.drop 0 = dktX0_erase_0 := by decide +kernel
theorem dX0_erase_0 : decode cX0_erase 0 = .ok (.aload_n 0, 1) := dk_42 (dk_at dksX0_erase_0 0 rfl rfl)
theorem dX0_erase_1 : decode cX0_erase 1 = .ok (.getfield 220, 3) := dk_180 0 220 (dk_at dksX0_erase_0 1 rfl rfl)
theorem dX0_erase_4 : decode cX0_erase 4 = .ok (.istore_n 1, 1) := dk_60 (dk_at dksX0_erase_0 4 rfl rfl)
theorem dX0_erase_5 : decode cX0_erase 5 = .ok (.aload_n 0, 1) := dk_42 (dk_at dksX0_erase_0 5 rfl rfl)
theorem dX0_erase_6 : decode cX0_erase 6 = .ok (.iconst 0, 1) := dk_3 (dk_at dksX0_erase_0 6 rfl rfl)
theorem dX0_erase_7 : decode cX0_erase 7 = .ok (.putfield 220, 3) := dk_181 0 220 (dk_at dksX0_erase_0 7 rfl rfl)
theorem dX0_erase_10 : decode cX0_erase 10 = .ok (.iload_n 1, 1) := dk_27 (dk_at dksX0_erase_0 10 rfl rfl)
theorem dX0_erase_11 : decode cX0_erase 11 = .ok (.ireturn, 1) := dk_172 (dk_at dksX0_erase_0 11 rfl rfl)
abbrev cX0_fault : ByteArray := prog_1_method_24_code
def yX0_fault : MethodName := ⟨RX0, "fault", "()I"⟩
def dkwX0_fault_0 : List UInt8 := [187, 0, 223, 89, 42, 183, 0, 225, 182, 0, 228, 87, 2, 172, 76, 43, 180, 0, 234, 172]
abbrev dktX0_fault_0 : List UInt8 := dkwX0_fault_0 ++ []
theorem dksX0_fault_0 : cX0_fault.data.toList.drop 0 = dktX0_fault_0 := by decide +kernel
theorem dX0_fault_0 : decode cX0_fault 0 = .ok (.new 223, 3) := dk_187 0 223 (dk_at dksX0_fault_0 0 rfl rfl)
theorem dX0_fault_3 : decode cX0_fault 3 = .ok (.dup, 1) := dk_89 (dk_at dksX0_fault_0 3 rfl rfl)
theorem dX0_fault_4 : decode cX0_fault 4 = .ok (.aload_n 0, 1) := dk_42 (dk_at dksX0_fault_0 4 rfl rfl)
theorem dX0_fault_5 : decode cX0_fault 5 = .ok (.invokespecial 225, 3) := dk_183 0 225 (dk_at dksX0_fault_0 5 rfl rfl)
theorem dX0_fault_8 : decode cX0_fault 8 = .ok (.invokevirtual 228, 3) := dk_182 0 228 (dk_at dksX0_fault_0 8 rfl rfl)
theorem dX0_fault_11 : decode cX0_fault 11 = .ok (.pop, 1) := dk_87 (dk_at dksX0_fault_0 11 rfl rfl)
theorem dX0_fault_12 : decode cX0_fault 12 = .ok (.iconst (-1), 1) := dk_2 (dk_at dksX0_fault_0 12 rfl rfl)
theorem dX0_fault_13 : decode cX0_fault 13 = .ok (.ireturn, 1) := dk_172 (dk_at dksX0_fault_0 13 rfl rfl)
theorem dX0_fault_14 : decode cX0_fault 14 = .ok (.astore_n 1, 1) := dk_76 (dk_at dksX0_fault_0 14 rfl rfl)
theorem dX0_fault_15 : decode cX0_fault 15 = .ok (.aload_n 1, 1) := dk_43 (dk_at dksX0_fault_0 15 rfl rfl)
theorem dX0_fault_16 : decode cX0_fault 16 = .ok (.getfield 234, 3) := dk_180 0 234 (dk_at dksX0_fault_0 16 rfl rfl)
theorem dX0_fault_19 : decode cX0_fault 19 = .ok (.ireturn, 1) := dk_172 (dk_at dksX0_fault_0 19 rfl rfl)
abbrev cX0_realm : ByteArray := prog_1_method_25_code
def yX0_realm : MethodName := ⟨RX0, "realm", "()I"⟩
def dkwX0_realm_2 : List UInt8 := [3, 181, 0, 220, 42, 182, 0, 208, 43, 180, 0, 237, 172]
abbrev dktX0_realm_2 : List UInt8 := dkwX0_realm_2 ++ []
def dkwX0_realm_1 : List UInt8 := [43, 180, 0, 237, 162, 0, 19, 42, 43, 180, 0, 239, 28, 50, 182, 0, 242, 132, 2, 1, 167, 255, 235, 42]
abbrev dktX0_realm_1 : List UInt8 := dkwX0_realm_1 ++ dktX0_realm_2
def dkwX0_realm_0 : List UInt8 := [187, 0, 223, 89, 42, 183, 0, 225, 76, 43, 182, 0, 228, 87, 167, 0, 7, 77, 16, 252, 172, 3, 61, 28]
abbrev dktX0_realm_0 : List UInt8 := dkwX0_realm_0 ++ dktX0_realm_1
theorem dksX0_realm_0 : cX0_realm.data.toList.drop 0 = dktX0_realm_0 := by decide +kernel
theorem dksX0_realm_1 : cX0_realm.data.toList.drop 24 = dktX0_realm_1 := dk_seg dksX0_realm_0 24 rfl rfl
theorem dksX0_realm_2 : cX0_realm.data.toList.drop 48 = dktX0_realm_2 := dk_seg dksX0_realm_1 24 rfl rfl
theorem dX0_realm_0 : decode cX0_realm 0 = .ok (.new 223, 3) := dk_187 0 223 (dk_at dksX0_realm_0 0 rfl rfl)
theorem dX0_realm_3 : decode cX0_realm 3 = .ok (.dup, 1) := dk_89 (dk_at dksX0_realm_0 3 rfl rfl)
theorem dX0_realm_4 : decode cX0_realm 4 = .ok (.aload_n 0, 1) := dk_42 (dk_at dksX0_realm_0 4 rfl rfl)
theorem dX0_realm_5 : decode cX0_realm 5 = .ok (.invokespecial 225, 3) := dk_183 0 225 (dk_at dksX0_realm_0 5 rfl rfl)
theorem dX0_realm_8 : decode cX0_realm 8 = .ok (.astore_n 1, 1) := dk_76 (dk_at dksX0_realm_0 8 rfl rfl)
theorem dX0_realm_9 : decode cX0_realm 9 = .ok (.aload_n 1, 1) := dk_43 (dk_at dksX0_realm_0 9 rfl rfl)
theorem dX0_realm_10 : decode cX0_realm 10 = .ok (.invokevirtual 228, 3) := dk_182 0 228 (dk_at dksX0_realm_0 10 rfl rfl)
theorem dX0_realm_13 : decode cX0_realm 13 = .ok (.pop, 1) := dk_87 (dk_at dksX0_realm_0 13 rfl rfl)
theorem dX0_realm_14 : decode cX0_realm 14 = .ok (.goto 7, 3) := dk_167 0 7 (dk_at dksX0_realm_0 14 rfl rfl)
theorem dX0_realm_17 : decode cX0_realm 17 = .ok (.astore_n 2, 1) := dk_77 (dk_at dksX0_realm_0 17 rfl rfl)
theorem dX0_realm_18 : decode cX0_realm 18 = .ok (.bipush (-4), 2) := dk_16 252 (dk_at dksX0_realm_0 18 rfl rfl)
theorem dX0_realm_20 : decode cX0_realm 20 = .ok (.ireturn, 1) := dk_172 (dk_at dksX0_realm_0 20 rfl rfl)
theorem dX0_realm_21 : decode cX0_realm 21 = .ok (.iconst 0, 1) := dk_3 (dk_at dksX0_realm_0 21 rfl rfl)
theorem dX0_realm_22 : decode cX0_realm 22 = .ok (.istore_n 2, 1) := dk_61 (dk_at dksX0_realm_0 22 rfl rfl)
theorem dX0_realm_23 : decode cX0_realm 23 = .ok (.iload_n 2, 1) := dk_28 (dk_at dksX0_realm_0 23 rfl rfl)
theorem dX0_realm_24 : decode cX0_realm 24 = .ok (.aload_n 1, 1) := dk_43 (dk_at dksX0_realm_1 0 rfl rfl)
theorem dX0_realm_25 : decode cX0_realm 25 = .ok (.getfield 237, 3) := dk_180 0 237 (dk_at dksX0_realm_1 1 rfl rfl)
theorem dX0_realm_28 : decode cX0_realm 28 = .ok (.if_icmp .ge 19, 3) := dk_162 0 19 (dk_at dksX0_realm_1 4 rfl rfl)
theorem dX0_realm_31 : decode cX0_realm 31 = .ok (.aload_n 0, 1) := dk_42 (dk_at dksX0_realm_1 7 rfl rfl)
theorem dX0_realm_32 : decode cX0_realm 32 = .ok (.aload_n 1, 1) := dk_43 (dk_at dksX0_realm_1 8 rfl rfl)
theorem dX0_realm_33 : decode cX0_realm 33 = .ok (.getfield 239, 3) := dk_180 0 239 (dk_at dksX0_realm_1 9 rfl rfl)
theorem dX0_realm_36 : decode cX0_realm 36 = .ok (.iload_n 2, 1) := dk_28 (dk_at dksX0_realm_1 12 rfl rfl)
theorem dX0_realm_37 : decode cX0_realm 37 = .ok (.aaload, 1) := dk_50 (dk_at dksX0_realm_1 13 rfl rfl)
theorem dX0_realm_38 : decode cX0_realm 38 = .ok (.invokevirtual 242, 3) := dk_182 0 242 (dk_at dksX0_realm_1 14 rfl rfl)
theorem dX0_realm_41 : decode cX0_realm 41 = .ok (.iinc 2 1, 3) := dk_132 2 1 (dk_at dksX0_realm_1 17 rfl rfl)
theorem dX0_realm_44 : decode cX0_realm 44 = .ok (.goto (-21), 3) := dk_167 255 235 (dk_at dksX0_realm_1 20 rfl rfl)
theorem dX0_realm_47 : decode cX0_realm 47 = .ok (.aload_n 0, 1) := dk_42 (dk_at dksX0_realm_1 23 rfl rfl)
theorem dX0_realm_48 : decode cX0_realm 48 = .ok (.iconst 0, 1) := dk_3 (dk_at dksX0_realm_2 0 rfl rfl)
theorem dX0_realm_49 : decode cX0_realm 49 = .ok (.putfield 220, 3) := dk_181 0 220 (dk_at dksX0_realm_2 1 rfl rfl)
theorem dX0_realm_52 : decode cX0_realm 52 = .ok (.aload_n 0, 1) := dk_42 (dk_at dksX0_realm_2 4 rfl rfl)
theorem dX0_realm_53 : decode cX0_realm 53 = .ok (.invokevirtual 208, 3) := dk_182 0 208 (dk_at dksX0_realm_2 5 rfl rfl)
theorem dX0_realm_56 : decode cX0_realm 56 = .ok (.aload_n 1, 1) := dk_43 (dk_at dksX0_realm_2 8 rfl rfl)
theorem dX0_realm_57 : decode cX0_realm 57 = .ok (.getfield 237, 3) := dk_180 0 237 (dk_at dksX0_realm_2 9 rfl rfl)
theorem dX0_realm_60 : decode cX0_realm 60 = .ok (.ireturn, 1) := dk_172 (dk_at dksX0_realm_2 12 rfl rfl)
abbrev cX0_tell : ByteArray := prog_1_method_17_code
def yX0_tell : MethodName := ⟨RX0, "tell", "([I)V"⟩
def dkwX0_tell_9 : List UInt8 := [7, 128, 181, 0, 129, 167, 0, 8, 42, 3, 181, 0, 129, 177]
abbrev dktX0_tell_9 : List UInt8 := dkwX0_tell_9 ++ []
def dkwX0_tell_8 : List UInt8 := [181, 0, 129, 167, 0, 34, 42, 89, 180, 0, 129, 5, 128, 181, 0, 129, 167, 0, 21, 42, 89, 180, 0, 129]
abbrev dktX0_tell_8 : List UInt8 := dkwX0_tell_8 ++ dktX0_tell_9
def dkwX0_tell_7 : List UInt8 := [184, 0, 187, 83, 167, 0, 57, 42, 43, 4, 46, 181, 0, 59, 167, 0, 47, 42, 89, 180, 0, 129, 4, 128]
abbrev dktX0_tell_7 : List UInt8 := dkwX0_tell_7 ++ dktX0_tell_8
def dkwX0_tell_6 : List UInt8 := [181, 0, 129, 167, 0, 82, 42, 180, 0, 41, 42, 89, 180, 0, 37, 90, 4, 96, 181, 0, 37, 43, 4, 7]
abbrev dktX0_tell_6 : List UInt8 := dkwX0_tell_6 ++ dktX0_tell_7
def dkwX0_tell_5 : List UInt8 := [42, 3, 181, 0, 174, 42, 3, 181, 0, 180, 42, 3, 181, 0, 37, 42, 16, 9, 181, 0, 59, 42, 3]
abbrev dktX0_tell_5 : List UInt8 := dkwX0_tell_5 ++ dktX0_tell_6
def dkwX0_tell_4 : List UInt8 := [170, 0, 0, 0, 0, 141, 0, 0, 0, 9, 0, 0, 0, 14, 0, 0, 0, 38, 0, 0, 0, 67, 0, 0, 0, 92, 0, 0, 0, 102, 0, 0, 0, 115, 0, 0, 0, 128]
abbrev dktX0_tell_4 : List UInt8 := dkwX0_tell_4 ++ dktX0_tell_5
def dkwX0_tell_3 : List UInt8 := [167, 0, 150, 28]
abbrev dktX0_tell_3 : List UInt8 := dkwX0_tell_3 ++ dktX0_tell_4
def dkwX0_tell_2 : List UInt8 := [180, 0, 26, 42, 89, 180, 0, 180, 90, 4, 96, 181, 0, 180, 28, 8, 100, 43, 4, 46, 184, 0, 183, 83]
abbrev dktX0_tell_2 : List UInt8 := dkwX0_tell_2 ++ dktX0_tell_3
def dkwX0_tell_1 : List UInt8 := [187, 0, 24, 89, 28, 43, 4, 46, 183, 0, 177, 83, 167, 0, 184, 28, 16, 9, 162, 0, 31, 42]
abbrev dktX0_tell_1 : List UInt8 := dkwX0_tell_1 ++ dktX0_tell_2
def dkwX0_tell_0 : List UInt8 := [43, 3, 46, 61, 28, 8, 162, 0, 33, 42, 180, 0, 18, 42, 89, 180, 0, 174, 90, 4, 96, 181, 0, 174]
abbrev dktX0_tell_0 : List UInt8 := dkwX0_tell_0 ++ dktX0_tell_1
theorem dksX0_tell_0 : cX0_tell.data.toList.drop 0 = dktX0_tell_0 := by decide +kernel
theorem dksX0_tell_1 : cX0_tell.data.toList.drop 24 = dktX0_tell_1 := dk_seg dksX0_tell_0 24 rfl rfl
theorem dksX0_tell_2 : cX0_tell.data.toList.drop 46 = dktX0_tell_2 := dk_seg dksX0_tell_1 22 rfl rfl
theorem dksX0_tell_3 : cX0_tell.data.toList.drop 70 = dktX0_tell_3 := dk_seg dksX0_tell_2 24 rfl rfl
theorem dksX0_tell_4 : cX0_tell.data.toList.drop 74 = dktX0_tell_4 := dk_seg dksX0_tell_3 4 rfl rfl
theorem dksX0_tell_5 : cX0_tell.data.toList.drop 112 = dktX0_tell_5 := dk_seg dksX0_tell_4 38 rfl rfl
theorem dksX0_tell_6 : cX0_tell.data.toList.drop 135 = dktX0_tell_6 := dk_seg dksX0_tell_5 23 rfl rfl
theorem dksX0_tell_7 : cX0_tell.data.toList.drop 159 = dktX0_tell_7 := dk_seg dksX0_tell_6 24 rfl rfl
theorem dksX0_tell_8 : cX0_tell.data.toList.drop 183 = dktX0_tell_8 := dk_seg dksX0_tell_7 24 rfl rfl
theorem dksX0_tell_9 : cX0_tell.data.toList.drop 207 = dktX0_tell_9 := dk_seg dksX0_tell_8 24 rfl rfl
theorem dX0_tell_0 : decode cX0_tell 0 = .ok (.aload_n 1, 1) := dk_43 (dk_at dksX0_tell_0 0 rfl rfl)
theorem dX0_tell_1 : decode cX0_tell 1 = .ok (.iconst 0, 1) := dk_3 (dk_at dksX0_tell_0 1 rfl rfl)
theorem dX0_tell_2 : decode cX0_tell 2 = .ok (.iaload, 1) := dk_46 (dk_at dksX0_tell_0 2 rfl rfl)
theorem dX0_tell_3 : decode cX0_tell 3 = .ok (.istore_n 2, 1) := dk_61 (dk_at dksX0_tell_0 3 rfl rfl)
theorem dX0_tell_4 : decode cX0_tell 4 = .ok (.iload_n 2, 1) := dk_28 (dk_at dksX0_tell_0 4 rfl rfl)
theorem dX0_tell_5 : decode cX0_tell 5 = .ok (.iconst 5, 1) := dk_8 (dk_at dksX0_tell_0 5 rfl rfl)
theorem dX0_tell_6 : decode cX0_tell 6 = .ok (.if_icmp .ge 33, 3) := dk_162 0 33 (dk_at dksX0_tell_0 6 rfl rfl)
theorem dX0_tell_9 : decode cX0_tell 9 = .ok (.aload_n 0, 1) := dk_42 (dk_at dksX0_tell_0 9 rfl rfl)
theorem dX0_tell_10 : decode cX0_tell 10 = .ok (.getfield 18, 3) := dk_180 0 18 (dk_at dksX0_tell_0 10 rfl rfl)
theorem dX0_tell_13 : decode cX0_tell 13 = .ok (.aload_n 0, 1) := dk_42 (dk_at dksX0_tell_0 13 rfl rfl)
theorem dX0_tell_14 : decode cX0_tell 14 = .ok (.dup, 1) := dk_89 (dk_at dksX0_tell_0 14 rfl rfl)
theorem dX0_tell_15 : decode cX0_tell 15 = .ok (.getfield 174, 3) := dk_180 0 174 (dk_at dksX0_tell_0 15 rfl rfl)
theorem dX0_tell_18 : decode cX0_tell 18 = .ok (.dup_x1, 1) := dk_90 (dk_at dksX0_tell_0 18 rfl rfl)
theorem dX0_tell_19 : decode cX0_tell 19 = .ok (.iconst 1, 1) := dk_4 (dk_at dksX0_tell_0 19 rfl rfl)
theorem dX0_tell_20 : decode cX0_tell 20 = .ok (.iadd, 1) := dk_96 (dk_at dksX0_tell_0 20 rfl rfl)
theorem dX0_tell_21 : decode cX0_tell 21 = .ok (.putfield 174, 3) := dk_181 0 174 (dk_at dksX0_tell_0 21 rfl rfl)
theorem dX0_tell_24 : decode cX0_tell 24 = .ok (.new 24, 3) := dk_187 0 24 (dk_at dksX0_tell_1 0 rfl rfl)
theorem dX0_tell_27 : decode cX0_tell 27 = .ok (.dup, 1) := dk_89 (dk_at dksX0_tell_1 3 rfl rfl)
theorem dX0_tell_28 : decode cX0_tell 28 = .ok (.iload_n 2, 1) := dk_28 (dk_at dksX0_tell_1 4 rfl rfl)
theorem dX0_tell_29 : decode cX0_tell 29 = .ok (.aload_n 1, 1) := dk_43 (dk_at dksX0_tell_1 5 rfl rfl)
theorem dX0_tell_30 : decode cX0_tell 30 = .ok (.iconst 1, 1) := dk_4 (dk_at dksX0_tell_1 6 rfl rfl)
theorem dX0_tell_31 : decode cX0_tell 31 = .ok (.iaload, 1) := dk_46 (dk_at dksX0_tell_1 7 rfl rfl)
theorem dX0_tell_32 : decode cX0_tell 32 = .ok (.invokespecial 177, 3) := dk_183 0 177 (dk_at dksX0_tell_1 8 rfl rfl)
theorem dX0_tell_35 : decode cX0_tell 35 = .ok (.aastore, 1) := dk_83 (dk_at dksX0_tell_1 11 rfl rfl)
theorem dX0_tell_36 : decode cX0_tell 36 = .ok (.goto 184, 3) := dk_167 0 184 (dk_at dksX0_tell_1 12 rfl rfl)
theorem dX0_tell_39 : decode cX0_tell 39 = .ok (.iload_n 2, 1) := dk_28 (dk_at dksX0_tell_1 15 rfl rfl)
theorem dX0_tell_40 : decode cX0_tell 40 = .ok (.bipush 9, 2) := dk_16 9 (dk_at dksX0_tell_1 16 rfl rfl)
theorem dX0_tell_42 : decode cX0_tell 42 = .ok (.if_icmp .ge 31, 3) := dk_162 0 31 (dk_at dksX0_tell_1 18 rfl rfl)
theorem dX0_tell_45 : decode cX0_tell 45 = .ok (.aload_n 0, 1) := dk_42 (dk_at dksX0_tell_1 21 rfl rfl)
theorem dX0_tell_46 : decode cX0_tell 46 = .ok (.getfield 26, 3) := dk_180 0 26 (dk_at dksX0_tell_2 0 rfl rfl)
theorem dX0_tell_49 : decode cX0_tell 49 = .ok (.aload_n 0, 1) := dk_42 (dk_at dksX0_tell_2 3 rfl rfl)
theorem dX0_tell_50 : decode cX0_tell 50 = .ok (.dup, 1) := dk_89 (dk_at dksX0_tell_2 4 rfl rfl)
theorem dX0_tell_51 : decode cX0_tell 51 = .ok (.getfield 180, 3) := dk_180 0 180 (dk_at dksX0_tell_2 5 rfl rfl)
theorem dX0_tell_54 : decode cX0_tell 54 = .ok (.dup_x1, 1) := dk_90 (dk_at dksX0_tell_2 8 rfl rfl)
theorem dX0_tell_55 : decode cX0_tell 55 = .ok (.iconst 1, 1) := dk_4 (dk_at dksX0_tell_2 9 rfl rfl)
theorem dX0_tell_56 : decode cX0_tell 56 = .ok (.iadd, 1) := dk_96 (dk_at dksX0_tell_2 10 rfl rfl)
theorem dX0_tell_57 : decode cX0_tell 57 = .ok (.putfield 180, 3) := dk_181 0 180 (dk_at dksX0_tell_2 11 rfl rfl)
theorem dX0_tell_60 : decode cX0_tell 60 = .ok (.iload_n 2, 1) := dk_28 (dk_at dksX0_tell_2 14 rfl rfl)
theorem dX0_tell_61 : decode cX0_tell 61 = .ok (.iconst 5, 1) := dk_8 (dk_at dksX0_tell_2 15 rfl rfl)
theorem dX0_tell_62 : decode cX0_tell 62 = .ok (.isub, 1) := dk_100 (dk_at dksX0_tell_2 16 rfl rfl)
theorem dX0_tell_63 : decode cX0_tell 63 = .ok (.aload_n 1, 1) := dk_43 (dk_at dksX0_tell_2 17 rfl rfl)
theorem dX0_tell_64 : decode cX0_tell 64 = .ok (.iconst 1, 1) := dk_4 (dk_at dksX0_tell_2 18 rfl rfl)
theorem dX0_tell_65 : decode cX0_tell 65 = .ok (.iaload, 1) := dk_46 (dk_at dksX0_tell_2 19 rfl rfl)
theorem dX0_tell_66 : decode cX0_tell 66 = .ok (.invokestatic 183, 3) := dk_184 0 183 (dk_at dksX0_tell_2 20 rfl rfl)
theorem dX0_tell_69 : decode cX0_tell 69 = .ok (.aastore, 1) := dk_83 (dk_at dksX0_tell_2 23 rfl rfl)
theorem dX0_tell_70 : decode cX0_tell 70 = .ok (.goto 150, 3) := dk_167 0 150 (dk_at dksX0_tell_3 0 rfl rfl)
theorem dX0_tell_73 : decode cX0_tell 73 = .ok (.iload_n 2, 1) := dk_28 (dk_at dksX0_tell_3 3 rfl rfl)
theorem dX0_tell_74 : decode cX0_tell 74 = .ok (.tableswitch 141 9 14 #[38, 67, 92, 102, 115, 128], 38) := by decide +kernel
theorem dX0_tell_112 : decode cX0_tell 112 = .ok (.aload_n 0, 1) := dk_42 (dk_at dksX0_tell_5 0 rfl rfl)
theorem dX0_tell_113 : decode cX0_tell 113 = .ok (.iconst 0, 1) := dk_3 (dk_at dksX0_tell_5 1 rfl rfl)
theorem dX0_tell_114 : decode cX0_tell 114 = .ok (.putfield 174, 3) := dk_181 0 174 (dk_at dksX0_tell_5 2 rfl rfl)
theorem dX0_tell_117 : decode cX0_tell 117 = .ok (.aload_n 0, 1) := dk_42 (dk_at dksX0_tell_5 5 rfl rfl)
theorem dX0_tell_118 : decode cX0_tell 118 = .ok (.iconst 0, 1) := dk_3 (dk_at dksX0_tell_5 6 rfl rfl)
theorem dX0_tell_119 : decode cX0_tell 119 = .ok (.putfield 180, 3) := dk_181 0 180 (dk_at dksX0_tell_5 7 rfl rfl)
theorem dX0_tell_122 : decode cX0_tell 122 = .ok (.aload_n 0, 1) := dk_42 (dk_at dksX0_tell_5 10 rfl rfl)
theorem dX0_tell_123 : decode cX0_tell 123 = .ok (.iconst 0, 1) := dk_3 (dk_at dksX0_tell_5 11 rfl rfl)
theorem dX0_tell_124 : decode cX0_tell 124 = .ok (.putfield 37, 3) := dk_181 0 37 (dk_at dksX0_tell_5 12 rfl rfl)
theorem dX0_tell_127 : decode cX0_tell 127 = .ok (.aload_n 0, 1) := dk_42 (dk_at dksX0_tell_5 15 rfl rfl)
theorem dX0_tell_128 : decode cX0_tell 128 = .ok (.bipush 9, 2) := dk_16 9 (dk_at dksX0_tell_5 16 rfl rfl)
theorem dX0_tell_130 : decode cX0_tell 130 = .ok (.putfield 59, 3) := dk_181 0 59 (dk_at dksX0_tell_5 18 rfl rfl)
theorem dX0_tell_133 : decode cX0_tell 133 = .ok (.aload_n 0, 1) := dk_42 (dk_at dksX0_tell_5 21 rfl rfl)
theorem dX0_tell_134 : decode cX0_tell 134 = .ok (.iconst 0, 1) := dk_3 (dk_at dksX0_tell_5 22 rfl rfl)
theorem dX0_tell_135 : decode cX0_tell 135 = .ok (.putfield 129, 3) := dk_181 0 129 (dk_at dksX0_tell_6 0 rfl rfl)
theorem dX0_tell_138 : decode cX0_tell 138 = .ok (.goto 82, 3) := dk_167 0 82 (dk_at dksX0_tell_6 3 rfl rfl)
theorem dX0_tell_141 : decode cX0_tell 141 = .ok (.aload_n 0, 1) := dk_42 (dk_at dksX0_tell_6 6 rfl rfl)
theorem dX0_tell_142 : decode cX0_tell 142 = .ok (.getfield 41, 3) := dk_180 0 41 (dk_at dksX0_tell_6 7 rfl rfl)
theorem dX0_tell_145 : decode cX0_tell 145 = .ok (.aload_n 0, 1) := dk_42 (dk_at dksX0_tell_6 10 rfl rfl)
theorem dX0_tell_146 : decode cX0_tell 146 = .ok (.dup, 1) := dk_89 (dk_at dksX0_tell_6 11 rfl rfl)
theorem dX0_tell_147 : decode cX0_tell 147 = .ok (.getfield 37, 3) := dk_180 0 37 (dk_at dksX0_tell_6 12 rfl rfl)
theorem dX0_tell_150 : decode cX0_tell 150 = .ok (.dup_x1, 1) := dk_90 (dk_at dksX0_tell_6 15 rfl rfl)
theorem dX0_tell_151 : decode cX0_tell 151 = .ok (.iconst 1, 1) := dk_4 (dk_at dksX0_tell_6 16 rfl rfl)
theorem dX0_tell_152 : decode cX0_tell 152 = .ok (.iadd, 1) := dk_96 (dk_at dksX0_tell_6 17 rfl rfl)
theorem dX0_tell_153 : decode cX0_tell 153 = .ok (.putfield 37, 3) := dk_181 0 37 (dk_at dksX0_tell_6 18 rfl rfl)
theorem dX0_tell_156 : decode cX0_tell 156 = .ok (.aload_n 1, 1) := dk_43 (dk_at dksX0_tell_6 21 rfl rfl)
theorem dX0_tell_157 : decode cX0_tell 157 = .ok (.iconst 1, 1) := dk_4 (dk_at dksX0_tell_6 22 rfl rfl)
theorem dX0_tell_158 : decode cX0_tell 158 = .ok (.iconst 4, 1) := dk_7 (dk_at dksX0_tell_6 23 rfl rfl)
theorem dX0_tell_159 : decode cX0_tell 159 = .ok (.invokestatic 187, 3) := dk_184 0 187 (dk_at dksX0_tell_7 0 rfl rfl)
theorem dX0_tell_162 : decode cX0_tell 162 = .ok (.aastore, 1) := dk_83 (dk_at dksX0_tell_7 3 rfl rfl)
theorem dX0_tell_163 : decode cX0_tell 163 = .ok (.goto 57, 3) := dk_167 0 57 (dk_at dksX0_tell_7 4 rfl rfl)
theorem dX0_tell_166 : decode cX0_tell 166 = .ok (.aload_n 0, 1) := dk_42 (dk_at dksX0_tell_7 7 rfl rfl)
theorem dX0_tell_167 : decode cX0_tell 167 = .ok (.aload_n 1, 1) := dk_43 (dk_at dksX0_tell_7 8 rfl rfl)
theorem dX0_tell_168 : decode cX0_tell 168 = .ok (.iconst 1, 1) := dk_4 (dk_at dksX0_tell_7 9 rfl rfl)
theorem dX0_tell_169 : decode cX0_tell 169 = .ok (.iaload, 1) := dk_46 (dk_at dksX0_tell_7 10 rfl rfl)
theorem dX0_tell_170 : decode cX0_tell 170 = .ok (.putfield 59, 3) := dk_181 0 59 (dk_at dksX0_tell_7 11 rfl rfl)
theorem dX0_tell_173 : decode cX0_tell 173 = .ok (.goto 47, 3) := dk_167 0 47 (dk_at dksX0_tell_7 14 rfl rfl)
theorem dX0_tell_176 : decode cX0_tell 176 = .ok (.aload_n 0, 1) := dk_42 (dk_at dksX0_tell_7 17 rfl rfl)
theorem dX0_tell_177 : decode cX0_tell 177 = .ok (.dup, 1) := dk_89 (dk_at dksX0_tell_7 18 rfl rfl)
theorem dX0_tell_178 : decode cX0_tell 178 = .ok (.getfield 129, 3) := dk_180 0 129 (dk_at dksX0_tell_7 19 rfl rfl)
theorem dX0_tell_181 : decode cX0_tell 181 = .ok (.iconst 1, 1) := dk_4 (dk_at dksX0_tell_7 22 rfl rfl)
theorem dX0_tell_182 : decode cX0_tell 182 = .ok (.ior, 1) := dk_128 (dk_at dksX0_tell_7 23 rfl rfl)
theorem dX0_tell_183 : decode cX0_tell 183 = .ok (.putfield 129, 3) := dk_181 0 129 (dk_at dksX0_tell_8 0 rfl rfl)
theorem dX0_tell_186 : decode cX0_tell 186 = .ok (.goto 34, 3) := dk_167 0 34 (dk_at dksX0_tell_8 3 rfl rfl)
theorem dX0_tell_189 : decode cX0_tell 189 = .ok (.aload_n 0, 1) := dk_42 (dk_at dksX0_tell_8 6 rfl rfl)
theorem dX0_tell_190 : decode cX0_tell 190 = .ok (.dup, 1) := dk_89 (dk_at dksX0_tell_8 7 rfl rfl)
theorem dX0_tell_191 : decode cX0_tell 191 = .ok (.getfield 129, 3) := dk_180 0 129 (dk_at dksX0_tell_8 8 rfl rfl)
theorem dX0_tell_194 : decode cX0_tell 194 = .ok (.iconst 2, 1) := dk_5 (dk_at dksX0_tell_8 11 rfl rfl)
theorem dX0_tell_195 : decode cX0_tell 195 = .ok (.ior, 1) := dk_128 (dk_at dksX0_tell_8 12 rfl rfl)
theorem dX0_tell_196 : decode cX0_tell 196 = .ok (.putfield 129, 3) := dk_181 0 129 (dk_at dksX0_tell_8 13 rfl rfl)
theorem dX0_tell_199 : decode cX0_tell 199 = .ok (.goto 21, 3) := dk_167 0 21 (dk_at dksX0_tell_8 16 rfl rfl)
theorem dX0_tell_202 : decode cX0_tell 202 = .ok (.aload_n 0, 1) := dk_42 (dk_at dksX0_tell_8 19 rfl rfl)
theorem dX0_tell_203 : decode cX0_tell 203 = .ok (.dup, 1) := dk_89 (dk_at dksX0_tell_8 20 rfl rfl)
theorem dX0_tell_204 : decode cX0_tell 204 = .ok (.getfield 129, 3) := dk_180 0 129 (dk_at dksX0_tell_8 21 rfl rfl)
theorem dX0_tell_207 : decode cX0_tell 207 = .ok (.iconst 4, 1) := dk_7 (dk_at dksX0_tell_9 0 rfl rfl)
theorem dX0_tell_208 : decode cX0_tell 208 = .ok (.ior, 1) := dk_128 (dk_at dksX0_tell_9 1 rfl rfl)
theorem dX0_tell_209 : decode cX0_tell 209 = .ok (.putfield 129, 3) := dk_181 0 129 (dk_at dksX0_tell_9 2 rfl rfl)
theorem dX0_tell_212 : decode cX0_tell 212 = .ok (.goto 8, 3) := dk_167 0 8 (dk_at dksX0_tell_9 5 rfl rfl)
theorem dX0_tell_215 : decode cX0_tell 215 = .ok (.aload_n 0, 1) := dk_42 (dk_at dksX0_tell_9 8 rfl rfl)
theorem dX0_tell_216 : decode cX0_tell 216 = .ok (.iconst 0, 1) := dk_3 (dk_at dksX0_tell_9 9 rfl rfl)
theorem dX0_tell_217 : decode cX0_tell 217 = .ok (.putfield 129, 3) := dk_181 0 129 (dk_at dksX0_tell_9 10 rfl rfl)
theorem dX0_tell_220 : decode cX0_tell 220 = .ok (.return_, 1) := dk_177 (dk_at dksX0_tell_9 13 rfl rfl)
abbrev cX0_born : ByteArray := prog_1_method_3_code
def yX0_born : MethodName := ⟨RX0, "born", "(II)LAdjectiveCoupons$One;"⟩
def dkwX0_born_3 : List UInt8 := [183, 0, 12, 176, 187, 0, 13, 89, 27, 183, 0, 15, 176]
abbrev dktX0_born_3 : List UInt8 := dkwX0_born_3 ++ []
def dkwX0_born_2 : List UInt8 := [187, 0, 1, 89, 27, 183, 0, 3, 176, 187, 0, 7, 89, 27, 183, 0, 9, 176, 187, 0, 10, 89, 27]
abbrev dktX0_born_2 : List UInt8 := dkwX0_born_2 ++ dktX0_born_3
def dkwX0_born_1 : List UInt8 := [170, 0, 0, 0, 0, 0, 54, 0, 0, 0, 0, 0, 0, 0, 2, 0, 0, 0, 27, 0, 0, 0, 36, 0, 0, 0, 45]
abbrev dktX0_born_1 : List UInt8 := dkwX0_born_1 ++ dktX0_born_2
def dkwX0_born_0 : List UInt8 := [26]
abbrev dktX0_born_0 : List UInt8 := dkwX0_born_0 ++ dktX0_born_1
theorem dksX0_born_0 : cX0_born.data.toList.drop 0 = dktX0_born_0 := by decide +kernel
theorem dksX0_born_1 : cX0_born.data.toList.drop 1 = dktX0_born_1 := dk_seg dksX0_born_0 1 rfl rfl
theorem dksX0_born_2 : cX0_born.data.toList.drop 28 = dktX0_born_2 := dk_seg dksX0_born_1 27 rfl rfl
theorem dksX0_born_3 : cX0_born.data.toList.drop 51 = dktX0_born_3 := dk_seg dksX0_born_2 23 rfl rfl
theorem dX0_born_0 : decode cX0_born 0 = .ok (.iload_n 0, 1) := dk_26 (dk_at dksX0_born_0 0 rfl rfl)
theorem dX0_born_1 : decode cX0_born 1 = .ok (.tableswitch 54 0 2 #[27, 36, 45], 27) := by decide +kernel
theorem dX0_born_28 : decode cX0_born 28 = .ok (.new 1, 3) := dk_187 0 1 (dk_at dksX0_born_2 0 rfl rfl)
theorem dX0_born_31 : decode cX0_born 31 = .ok (.dup, 1) := dk_89 (dk_at dksX0_born_2 3 rfl rfl)
theorem dX0_born_32 : decode cX0_born 32 = .ok (.iload_n 1, 1) := dk_27 (dk_at dksX0_born_2 4 rfl rfl)
theorem dX0_born_33 : decode cX0_born 33 = .ok (.invokespecial 3, 3) := dk_183 0 3 (dk_at dksX0_born_2 5 rfl rfl)
theorem dX0_born_36 : decode cX0_born 36 = .ok (.areturn, 1) := dk_176 (dk_at dksX0_born_2 8 rfl rfl)
theorem dX0_born_37 : decode cX0_born 37 = .ok (.new 7, 3) := dk_187 0 7 (dk_at dksX0_born_2 9 rfl rfl)
theorem dX0_born_40 : decode cX0_born 40 = .ok (.dup, 1) := dk_89 (dk_at dksX0_born_2 12 rfl rfl)
theorem dX0_born_41 : decode cX0_born 41 = .ok (.iload_n 1, 1) := dk_27 (dk_at dksX0_born_2 13 rfl rfl)
theorem dX0_born_42 : decode cX0_born 42 = .ok (.invokespecial 9, 3) := dk_183 0 9 (dk_at dksX0_born_2 14 rfl rfl)
theorem dX0_born_45 : decode cX0_born 45 = .ok (.areturn, 1) := dk_176 (dk_at dksX0_born_2 17 rfl rfl)
theorem dX0_born_46 : decode cX0_born 46 = .ok (.new 10, 3) := dk_187 0 10 (dk_at dksX0_born_2 18 rfl rfl)
theorem dX0_born_49 : decode cX0_born 49 = .ok (.dup, 1) := dk_89 (dk_at dksX0_born_2 21 rfl rfl)
theorem dX0_born_50 : decode cX0_born 50 = .ok (.iload_n 1, 1) := dk_27 (dk_at dksX0_born_2 22 rfl rfl)
theorem dX0_born_51 : decode cX0_born 51 = .ok (.invokespecial 12, 3) := dk_183 0 12 (dk_at dksX0_born_3 0 rfl rfl)
theorem dX0_born_54 : decode cX0_born 54 = .ok (.areturn, 1) := dk_176 (dk_at dksX0_born_3 3 rfl rfl)
theorem dX0_born_55 : decode cX0_born 55 = .ok (.new 13, 3) := dk_187 0 13 (dk_at dksX0_born_3 4 rfl rfl)
theorem dX0_born_58 : decode cX0_born 58 = .ok (.dup, 1) := dk_89 (dk_at dksX0_born_3 7 rfl rfl)
theorem dX0_born_59 : decode cX0_born 59 = .ok (.iload_n 1, 1) := dk_27 (dk_at dksX0_born_3 8 rfl rfl)
theorem dX0_born_60 : decode cX0_born 60 = .ok (.invokespecial 15, 3) := dk_183 0 15 (dk_at dksX0_born_3 9 rfl rfl)
theorem dX0_born_63 : decode cX0_born 63 = .ok (.areturn, 1) := dk_176 (dk_at dksX0_born_3 12 rfl rfl)
abbrev cX0_word : ByteArray := prog_1_method_26_code
def yX0_word : MethodName := ⟨RX0, "word", "(II)I"⟩
def dkwX0_word_5 : List UInt8 := [172, 42, 27, 182, 0, 29, 180, 0, 33, 182, 0, 166, 172, 29, 172, 16, 253, 172]
abbrev dktX0_word_5 : List UInt8 := dkwX0_word_5 ++ []
def dkwX0_word_4 : List UInt8 := [42, 27, 42, 180, 0, 49, 180, 0, 83, 182, 0, 115, 182, 0, 166, 172, 42, 27, 182, 0, 29, 180, 0, 169]
abbrev dktX0_word_4 : List UInt8 := dkwX0_word_4 ++ dktX0_word_5
def dkwX0_word_3 : List UInt8 := [170, 0, 0, 0, 68, 0, 0, 0, 0, 0, 0, 0, 3, 0, 0, 0, 29, 0, 0, 0, 45, 0, 0, 0, 54, 0, 0, 0, 66]
abbrev dktX0_word_3 : List UInt8 := dkwX0_word_3 ++ dktX0_word_4
def dkwX0_word_2 : List UInt8 := [28]
abbrev dktX0_word_2 : List UInt8 := dkwX0_word_2 ++ dktX0_word_3
def dkwX0_word_1 : List UInt8 := [162, 0, 24, 29, 42, 180, 0, 49, 180, 0, 77, 21, 4, 50, 27, 46, 96, 62, 132, 4, 1, 167, 255, 229]
abbrev dktX0_word_1 : List UInt8 := dkwX0_word_1 ++ dktX0_word_2
def dkwX0_word_0 : List UInt8 := [42, 27, 182, 0, 246, 154, 0, 6, 16, 254, 172, 3, 62, 3, 54, 4, 21, 4, 42, 180, 0, 180]
abbrev dktX0_word_0 : List UInt8 := dkwX0_word_0 ++ dktX0_word_1
theorem dksX0_word_0 : cX0_word.data.toList.drop 0 = dktX0_word_0 := by decide +kernel
theorem dksX0_word_1 : cX0_word.data.toList.drop 22 = dktX0_word_1 := dk_seg dksX0_word_0 22 rfl rfl
theorem dksX0_word_2 : cX0_word.data.toList.drop 46 = dktX0_word_2 := dk_seg dksX0_word_1 24 rfl rfl
theorem dksX0_word_3 : cX0_word.data.toList.drop 47 = dktX0_word_3 := dk_seg dksX0_word_2 1 rfl rfl
theorem dksX0_word_4 : cX0_word.data.toList.drop 76 = dktX0_word_4 := dk_seg dksX0_word_3 29 rfl rfl
theorem dksX0_word_5 : cX0_word.data.toList.drop 100 = dktX0_word_5 := dk_seg dksX0_word_4 24 rfl rfl
theorem dX0_word_0 : decode cX0_word 0 = .ok (.aload_n 0, 1) := dk_42 (dk_at dksX0_word_0 0 rfl rfl)
theorem dX0_word_1 : decode cX0_word 1 = .ok (.iload_n 1, 1) := dk_27 (dk_at dksX0_word_0 1 rfl rfl)
theorem dX0_word_2 : decode cX0_word 2 = .ok (.invokevirtual 246, 3) := dk_182 0 246 (dk_at dksX0_word_0 2 rfl rfl)
theorem dX0_word_5 : decode cX0_word 5 = .ok (.ifCond .ne 6, 3) := dk_154 0 6 (dk_at dksX0_word_0 5 rfl rfl)
theorem dX0_word_8 : decode cX0_word 8 = .ok (.bipush (-2), 2) := dk_16 254 (dk_at dksX0_word_0 8 rfl rfl)
theorem dX0_word_10 : decode cX0_word 10 = .ok (.ireturn, 1) := dk_172 (dk_at dksX0_word_0 10 rfl rfl)
theorem dX0_word_11 : decode cX0_word 11 = .ok (.iconst 0, 1) := dk_3 (dk_at dksX0_word_0 11 rfl rfl)
theorem dX0_word_12 : decode cX0_word 12 = .ok (.istore_n 3, 1) := dk_62 (dk_at dksX0_word_0 12 rfl rfl)
theorem dX0_word_13 : decode cX0_word 13 = .ok (.iconst 0, 1) := dk_3 (dk_at dksX0_word_0 13 rfl rfl)
theorem dX0_word_14 : decode cX0_word 14 = .ok (.istore 4, 2) := dk_54 4 (dk_at dksX0_word_0 14 rfl rfl)
theorem dX0_word_16 : decode cX0_word 16 = .ok (.iload 4, 2) := dk_21 4 (dk_at dksX0_word_0 16 rfl rfl)
theorem dX0_word_18 : decode cX0_word 18 = .ok (.aload_n 0, 1) := dk_42 (dk_at dksX0_word_0 18 rfl rfl)
theorem dX0_word_19 : decode cX0_word 19 = .ok (.getfield 180, 3) := dk_180 0 180 (dk_at dksX0_word_0 19 rfl rfl)
theorem dX0_word_22 : decode cX0_word 22 = .ok (.if_icmp .ge 24, 3) := dk_162 0 24 (dk_at dksX0_word_1 0 rfl rfl)
theorem dX0_word_25 : decode cX0_word 25 = .ok (.iload_n 3, 1) := dk_29 (dk_at dksX0_word_1 3 rfl rfl)
theorem dX0_word_26 : decode cX0_word 26 = .ok (.aload_n 0, 1) := dk_42 (dk_at dksX0_word_1 4 rfl rfl)
theorem dX0_word_27 : decode cX0_word 27 = .ok (.getfield 49, 3) := dk_180 0 49 (dk_at dksX0_word_1 5 rfl rfl)
theorem dX0_word_30 : decode cX0_word 30 = .ok (.getfield 77, 3) := dk_180 0 77 (dk_at dksX0_word_1 8 rfl rfl)
theorem dX0_word_33 : decode cX0_word 33 = .ok (.iload 4, 2) := dk_21 4 (dk_at dksX0_word_1 11 rfl rfl)
theorem dX0_word_35 : decode cX0_word 35 = .ok (.aaload, 1) := dk_50 (dk_at dksX0_word_1 13 rfl rfl)
theorem dX0_word_36 : decode cX0_word 36 = .ok (.iload_n 1, 1) := dk_27 (dk_at dksX0_word_1 14 rfl rfl)
theorem dX0_word_37 : decode cX0_word 37 = .ok (.iaload, 1) := dk_46 (dk_at dksX0_word_1 15 rfl rfl)
theorem dX0_word_38 : decode cX0_word 38 = .ok (.iadd, 1) := dk_96 (dk_at dksX0_word_1 16 rfl rfl)
theorem dX0_word_39 : decode cX0_word 39 = .ok (.istore_n 3, 1) := dk_62 (dk_at dksX0_word_1 17 rfl rfl)
theorem dX0_word_40 : decode cX0_word 40 = .ok (.iinc 4 1, 3) := dk_132 4 1 (dk_at dksX0_word_1 18 rfl rfl)
theorem dX0_word_43 : decode cX0_word 43 = .ok (.goto (-27), 3) := dk_167 255 229 (dk_at dksX0_word_1 21 rfl rfl)
theorem dX0_word_46 : decode cX0_word 46 = .ok (.iload_n 2, 1) := dk_28 (dk_at dksX0_word_2 0 rfl rfl)
theorem dX0_word_47 : decode cX0_word 47 = .ok (.tableswitch 68 0 3 #[29, 45, 54, 66], 29) := by decide +kernel
theorem dX0_word_76 : decode cX0_word 76 = .ok (.aload_n 0, 1) := dk_42 (dk_at dksX0_word_4 0 rfl rfl)
theorem dX0_word_77 : decode cX0_word 77 = .ok (.iload_n 1, 1) := dk_27 (dk_at dksX0_word_4 1 rfl rfl)
theorem dX0_word_78 : decode cX0_word 78 = .ok (.aload_n 0, 1) := dk_42 (dk_at dksX0_word_4 2 rfl rfl)
theorem dX0_word_79 : decode cX0_word 79 = .ok (.getfield 49, 3) := dk_180 0 49 (dk_at dksX0_word_4 3 rfl rfl)
theorem dX0_word_82 : decode cX0_word 82 = .ok (.getfield 83, 3) := dk_180 0 83 (dk_at dksX0_word_4 6 rfl rfl)
theorem dX0_word_85 : decode cX0_word 85 = .ok (.invokevirtual 115, 3) := dk_182 0 115 (dk_at dksX0_word_4 9 rfl rfl)
theorem dX0_word_88 : decode cX0_word 88 = .ok (.invokevirtual 166, 3) := dk_182 0 166 (dk_at dksX0_word_4 12 rfl rfl)
theorem dX0_word_91 : decode cX0_word 91 = .ok (.ireturn, 1) := dk_172 (dk_at dksX0_word_4 15 rfl rfl)
theorem dX0_word_92 : decode cX0_word 92 = .ok (.aload_n 0, 1) := dk_42 (dk_at dksX0_word_4 16 rfl rfl)
theorem dX0_word_93 : decode cX0_word 93 = .ok (.iload_n 1, 1) := dk_27 (dk_at dksX0_word_4 17 rfl rfl)
theorem dX0_word_94 : decode cX0_word 94 = .ok (.invokevirtual 29, 3) := dk_182 0 29 (dk_at dksX0_word_4 18 rfl rfl)
theorem dX0_word_97 : decode cX0_word 97 = .ok (.getfield 169, 3) := dk_180 0 169 (dk_at dksX0_word_4 21 rfl rfl)
theorem dX0_word_100 : decode cX0_word 100 = .ok (.ireturn, 1) := dk_172 (dk_at dksX0_word_5 0 rfl rfl)
theorem dX0_word_101 : decode cX0_word 101 = .ok (.aload_n 0, 1) := dk_42 (dk_at dksX0_word_5 1 rfl rfl)
theorem dX0_word_102 : decode cX0_word 102 = .ok (.iload_n 1, 1) := dk_27 (dk_at dksX0_word_5 2 rfl rfl)
theorem dX0_word_103 : decode cX0_word 103 = .ok (.invokevirtual 29, 3) := dk_182 0 29 (dk_at dksX0_word_5 3 rfl rfl)
theorem dX0_word_106 : decode cX0_word 106 = .ok (.getfield 33, 3) := dk_180 0 33 (dk_at dksX0_word_5 6 rfl rfl)
theorem dX0_word_109 : decode cX0_word 109 = .ok (.invokevirtual 166, 3) := dk_182 0 166 (dk_at dksX0_word_5 9 rfl rfl)
theorem dX0_word_112 : decode cX0_word 112 = .ok (.ireturn, 1) := dk_172 (dk_at dksX0_word_5 12 rfl rfl)
theorem dX0_word_113 : decode cX0_word 113 = .ok (.iload_n 3, 1) := dk_29 (dk_at dksX0_word_5 13 rfl rfl)
theorem dX0_word_114 : decode cX0_word 114 = .ok (.ireturn, 1) := dk_172 (dk_at dksX0_word_5 14 rfl rfl)
theorem dX0_word_115 : decode cX0_word 115 = .ok (.bipush (-3), 2) := dk_16 253 (dk_at dksX0_word_5 15 rfl rfl)
theorem dX0_word_117 : decode cX0_word 117 = .ok (.ireturn, 1) := dk_172 (dk_at dksX0_word_5 17 rfl rfl)
abbrev cX0_isWord : ByteArray := prog_1_method_19_code
def yX0_isWord : MethodName := ⟨RX0, "isWord", "(I)Z"⟩
def dkwX0_isWord_0 : List UInt8 := [27, 133, 9, 42, 180, 0, 174, 4, 100, 133, 184, 0, 211, 172]
abbrev dktX0_isWord_0 : List UInt8 := dkwX0_isWord_0 ++ []
theorem dksX0_isWord_0 : cX0_isWord.data.toList.drop 0 = dktX0_isWord_0 := by decide +kernel
theorem dX0_isWord_0 : decode cX0_isWord 0 = .ok (.iload_n 1, 1) := dk_27 (dk_at dksX0_isWord_0 0 rfl rfl)
theorem dX0_isWord_1 : decode cX0_isWord 1 = .ok (.i2l, 1) := dk_133 (dk_at dksX0_isWord_0 1 rfl rfl)
theorem dX0_isWord_2 : decode cX0_isWord 2 = .ok (.lconst 0, 1) := dk_9 (dk_at dksX0_isWord_0 2 rfl rfl)
theorem dX0_isWord_3 : decode cX0_isWord 3 = .ok (.aload_n 0, 1) := dk_42 (dk_at dksX0_isWord_0 3 rfl rfl)
theorem dX0_isWord_4 : decode cX0_isWord 4 = .ok (.getfield 174, 3) := dk_180 0 174 (dk_at dksX0_isWord_0 4 rfl rfl)
theorem dX0_isWord_7 : decode cX0_isWord 7 = .ok (.iconst 1, 1) := dk_4 (dk_at dksX0_isWord_0 7 rfl rfl)
theorem dX0_isWord_8 : decode cX0_isWord 8 = .ok (.isub, 1) := dk_100 (dk_at dksX0_isWord_0 8 rfl rfl)
theorem dX0_isWord_9 : decode cX0_isWord 9 = .ok (.i2l, 1) := dk_133 (dk_at dksX0_isWord_0 9 rfl rfl)
theorem dX0_isWord_10 : decode cX0_isWord 10 = .ok (.invokestatic 211, 3) := dk_184 0 211 (dk_at dksX0_isWord_0 10 rfl rfl)
theorem dX0_isWord_13 : decode cX0_isWord 13 = .ok (.ireturn, 1) := dk_172 (dk_at dksX0_isWord_0 13 rfl rfl)
abbrev cX0_kindOf : ByteArray := prog_1_method_7_code
def yX0_kindOf : MethodName := ⟨RX0, "kindOf", "(II)LAdjectiveCoupons$Kind;"⟩
def dkwX0_kindOf_3 : List UInt8 := [46, 54, 4, 132, 5, 1, 167, 255, 195, 45, 176]
abbrev dktX0_kindOf_3 : List UInt8 := dkwX0_kindOf_3 ++ []
def dkwX0_kindOf_2 : List UInt8 := [163, 0, 27, 25, 6, 5, 46, 21, 4, 161, 0, 18, 178, 0, 45, 25, 6, 4, 46, 50, 78, 25, 6, 5]
abbrev dktX0_kindOf_2 : List UInt8 := dkwX0_kindOf_2 ++ dktX0_kindOf_3
def dkwX0_kindOf_1 : List UInt8 := [42, 180, 0, 41, 21, 5, 50, 58, 6, 25, 6, 3, 46, 27, 160, 0, 35, 25, 6, 5, 46, 28]
abbrev dktX0_kindOf_1 : List UInt8 := dkwX0_kindOf_1 ++ dktX0_kindOf_2
def dkwX0_kindOf_0 : List UInt8 := [42, 27, 182, 0, 29, 180, 0, 33, 78, 2, 54, 4, 3, 54, 5, 21, 5, 42, 180, 0, 37, 162, 0, 58]
abbrev dktX0_kindOf_0 : List UInt8 := dkwX0_kindOf_0 ++ dktX0_kindOf_1
theorem dksX0_kindOf_0 : cX0_kindOf.data.toList.drop 0 = dktX0_kindOf_0 := by decide +kernel
theorem dksX0_kindOf_1 : cX0_kindOf.data.toList.drop 24 = dktX0_kindOf_1 := dk_seg dksX0_kindOf_0 24 rfl rfl
theorem dksX0_kindOf_2 : cX0_kindOf.data.toList.drop 46 = dktX0_kindOf_2 := dk_seg dksX0_kindOf_1 22 rfl rfl
theorem dksX0_kindOf_3 : cX0_kindOf.data.toList.drop 70 = dktX0_kindOf_3 := dk_seg dksX0_kindOf_2 24 rfl rfl
theorem dX0_kindOf_0 : decode cX0_kindOf 0 = .ok (.aload_n 0, 1) := dk_42 (dk_at dksX0_kindOf_0 0 rfl rfl)
theorem dX0_kindOf_1 : decode cX0_kindOf 1 = .ok (.iload_n 1, 1) := dk_27 (dk_at dksX0_kindOf_0 1 rfl rfl)
theorem dX0_kindOf_2 : decode cX0_kindOf 2 = .ok (.invokevirtual 29, 3) := dk_182 0 29 (dk_at dksX0_kindOf_0 2 rfl rfl)
theorem dX0_kindOf_5 : decode cX0_kindOf 5 = .ok (.getfield 33, 3) := dk_180 0 33 (dk_at dksX0_kindOf_0 5 rfl rfl)
theorem dX0_kindOf_8 : decode cX0_kindOf 8 = .ok (.astore_n 3, 1) := dk_78 (dk_at dksX0_kindOf_0 8 rfl rfl)
theorem dX0_kindOf_9 : decode cX0_kindOf 9 = .ok (.iconst (-1), 1) := dk_2 (dk_at dksX0_kindOf_0 9 rfl rfl)
theorem dX0_kindOf_10 : decode cX0_kindOf 10 = .ok (.istore 4, 2) := dk_54 4 (dk_at dksX0_kindOf_0 10 rfl rfl)
theorem dX0_kindOf_12 : decode cX0_kindOf 12 = .ok (.iconst 0, 1) := dk_3 (dk_at dksX0_kindOf_0 12 rfl rfl)
theorem dX0_kindOf_13 : decode cX0_kindOf 13 = .ok (.istore 5, 2) := dk_54 5 (dk_at dksX0_kindOf_0 13 rfl rfl)
theorem dX0_kindOf_15 : decode cX0_kindOf 15 = .ok (.iload 5, 2) := dk_21 5 (dk_at dksX0_kindOf_0 15 rfl rfl)
theorem dX0_kindOf_17 : decode cX0_kindOf 17 = .ok (.aload_n 0, 1) := dk_42 (dk_at dksX0_kindOf_0 17 rfl rfl)
theorem dX0_kindOf_18 : decode cX0_kindOf 18 = .ok (.getfield 37, 3) := dk_180 0 37 (dk_at dksX0_kindOf_0 18 rfl rfl)
theorem dX0_kindOf_21 : decode cX0_kindOf 21 = .ok (.if_icmp .ge 58, 3) := dk_162 0 58 (dk_at dksX0_kindOf_0 21 rfl rfl)
theorem dX0_kindOf_24 : decode cX0_kindOf 24 = .ok (.aload_n 0, 1) := dk_42 (dk_at dksX0_kindOf_1 0 rfl rfl)
theorem dX0_kindOf_25 : decode cX0_kindOf 25 = .ok (.getfield 41, 3) := dk_180 0 41 (dk_at dksX0_kindOf_1 1 rfl rfl)
theorem dX0_kindOf_28 : decode cX0_kindOf 28 = .ok (.iload 5, 2) := dk_21 5 (dk_at dksX0_kindOf_1 4 rfl rfl)
theorem dX0_kindOf_30 : decode cX0_kindOf 30 = .ok (.aaload, 1) := dk_50 (dk_at dksX0_kindOf_1 6 rfl rfl)
theorem dX0_kindOf_31 : decode cX0_kindOf 31 = .ok (.astore 6, 2) := dk_58 6 (dk_at dksX0_kindOf_1 7 rfl rfl)
theorem dX0_kindOf_33 : decode cX0_kindOf 33 = .ok (.aload 6, 2) := dk_25 6 (dk_at dksX0_kindOf_1 9 rfl rfl)
theorem dX0_kindOf_35 : decode cX0_kindOf 35 = .ok (.iconst 0, 1) := dk_3 (dk_at dksX0_kindOf_1 11 rfl rfl)
theorem dX0_kindOf_36 : decode cX0_kindOf 36 = .ok (.iaload, 1) := dk_46 (dk_at dksX0_kindOf_1 12 rfl rfl)
theorem dX0_kindOf_37 : decode cX0_kindOf 37 = .ok (.iload_n 1, 1) := dk_27 (dk_at dksX0_kindOf_1 13 rfl rfl)
theorem dX0_kindOf_38 : decode cX0_kindOf 38 = .ok (.if_icmp .ne 35, 3) := dk_160 0 35 (dk_at dksX0_kindOf_1 14 rfl rfl)
theorem dX0_kindOf_41 : decode cX0_kindOf 41 = .ok (.aload 6, 2) := dk_25 6 (dk_at dksX0_kindOf_1 17 rfl rfl)
theorem dX0_kindOf_43 : decode cX0_kindOf 43 = .ok (.iconst 2, 1) := dk_5 (dk_at dksX0_kindOf_1 19 rfl rfl)
theorem dX0_kindOf_44 : decode cX0_kindOf 44 = .ok (.iaload, 1) := dk_46 (dk_at dksX0_kindOf_1 20 rfl rfl)
theorem dX0_kindOf_45 : decode cX0_kindOf 45 = .ok (.iload_n 2, 1) := dk_28 (dk_at dksX0_kindOf_1 21 rfl rfl)
theorem dX0_kindOf_46 : decode cX0_kindOf 46 = .ok (.if_icmp .gt 27, 3) := dk_163 0 27 (dk_at dksX0_kindOf_2 0 rfl rfl)
theorem dX0_kindOf_49 : decode cX0_kindOf 49 = .ok (.aload 6, 2) := dk_25 6 (dk_at dksX0_kindOf_2 3 rfl rfl)
theorem dX0_kindOf_51 : decode cX0_kindOf 51 = .ok (.iconst 2, 1) := dk_5 (dk_at dksX0_kindOf_2 5 rfl rfl)
theorem dX0_kindOf_52 : decode cX0_kindOf 52 = .ok (.iaload, 1) := dk_46 (dk_at dksX0_kindOf_2 6 rfl rfl)
theorem dX0_kindOf_53 : decode cX0_kindOf 53 = .ok (.iload 4, 2) := dk_21 4 (dk_at dksX0_kindOf_2 7 rfl rfl)
theorem dX0_kindOf_55 : decode cX0_kindOf 55 = .ok (.if_icmp .lt 18, 3) := dk_161 0 18 (dk_at dksX0_kindOf_2 9 rfl rfl)
theorem dX0_kindOf_58 : decode cX0_kindOf 58 = .ok (.getstatic 45, 3) := dk_178 0 45 (dk_at dksX0_kindOf_2 12 rfl rfl)
theorem dX0_kindOf_61 : decode cX0_kindOf 61 = .ok (.aload 6, 2) := dk_25 6 (dk_at dksX0_kindOf_2 15 rfl rfl)
theorem dX0_kindOf_63 : decode cX0_kindOf 63 = .ok (.iconst 1, 1) := dk_4 (dk_at dksX0_kindOf_2 17 rfl rfl)
theorem dX0_kindOf_64 : decode cX0_kindOf 64 = .ok (.iaload, 1) := dk_46 (dk_at dksX0_kindOf_2 18 rfl rfl)
theorem dX0_kindOf_65 : decode cX0_kindOf 65 = .ok (.aaload, 1) := dk_50 (dk_at dksX0_kindOf_2 19 rfl rfl)
theorem dX0_kindOf_66 : decode cX0_kindOf 66 = .ok (.astore_n 3, 1) := dk_78 (dk_at dksX0_kindOf_2 20 rfl rfl)
theorem dX0_kindOf_67 : decode cX0_kindOf 67 = .ok (.aload 6, 2) := dk_25 6 (dk_at dksX0_kindOf_2 21 rfl rfl)
theorem dX0_kindOf_69 : decode cX0_kindOf 69 = .ok (.iconst 2, 1) := dk_5 (dk_at dksX0_kindOf_2 23 rfl rfl)
theorem dX0_kindOf_70 : decode cX0_kindOf 70 = .ok (.iaload, 1) := dk_46 (dk_at dksX0_kindOf_3 0 rfl rfl)
theorem dX0_kindOf_71 : decode cX0_kindOf 71 = .ok (.istore 4, 2) := dk_54 4 (dk_at dksX0_kindOf_3 1 rfl rfl)
theorem dX0_kindOf_73 : decode cX0_kindOf 73 = .ok (.iinc 5 1, 3) := dk_132 5 1 (dk_at dksX0_kindOf_3 3 rfl rfl)
theorem dX0_kindOf_76 : decode cX0_kindOf 76 = .ok (.goto (-61), 3) := dk_167 255 195 (dk_at dksX0_kindOf_3 6 rfl rfl)
theorem dX0_kindOf_79 : decode cX0_kindOf 79 = .ok (.aload_n 3, 1) := dk_45 (dk_at dksX0_kindOf_3 9 rfl rfl)
theorem dX0_kindOf_80 : decode cX0_kindOf 80 = .ok (.areturn, 1) := dk_176 (dk_at dksX0_kindOf_3 10 rfl rfl)
abbrev cX0_word_2 : ByteArray := prog_1_method_5_code
def yX0_word_2 : MethodName := ⟨RX0, "word", "(I)LAdjectiveCoupons$Word;"⟩
def dkwX0_word_2_0 : List UInt8 := [42, 180, 0, 18, 27, 50, 192, 0, 24, 176]
abbrev dktX0_word_2_0 : List UInt8 := dkwX0_word_2_0 ++ []
theorem dksX0_word_2_0 : cX0_word_2.data.toList.drop 0 = dktX0_word_2_0 := by decide +kernel
theorem dX0_word_2_0 : decode cX0_word_2 0 = .ok (.aload_n 0, 1) := dk_42 (dk_at dksX0_word_2_0 0 rfl rfl)
theorem dX0_word_2_1 : decode cX0_word_2 1 = .ok (.getfield 18, 3) := dk_180 0 18 (dk_at dksX0_word_2_0 1 rfl rfl)
theorem dX0_word_2_4 : decode cX0_word_2 4 = .ok (.iload_n 1, 1) := dk_27 (dk_at dksX0_word_2_0 4 rfl rfl)
theorem dX0_word_2_5 : decode cX0_word_2 5 = .ok (.aaload, 1) := dk_50 (dk_at dksX0_word_2_0 5 rfl rfl)
theorem dX0_word_2_6 : decode cX0_word_2 6 = .ok (.checkcast 24, 3) := dk_192 0 24 (dk_at dksX0_word_2_0 6 rfl rfl)
theorem dX0_word_2_9 : decode cX0_word_2 9 = .ok (.areturn, 1) := dk_176 (dk_at dksX0_word_2_0 9 rfl rfl)
abbrev cX0_one : ByteArray := prog_1_method_27_code
def yX0_one : MethodName := ⟨RX0, "one", "(II)I"⟩
def dkwX0_one_4 : List UInt8 := [46, 172, 42, 180, 0, 49, 27, 182, 0, 255, 172, 42, 27, 182, 0, 249, 180, 1, 3, 172, 16, 253, 172]
abbrev dktX0_one_4 : List UInt8 := dkwX0_one_4 ++ []
def dkwX0_one_3 : List UInt8 := [180, 0, 68, 27, 46, 172, 42, 180, 0, 49, 180, 0, 71, 27, 46, 172, 42, 180, 0, 49, 180, 0, 74, 27]
abbrev dktX0_one_3 : List UInt8 := dkwX0_one_3 ++ dktX0_one_4
def dkwX0_one_2 : List UInt8 := [42, 27, 182, 0, 249, 182, 0, 253, 172, 42, 180, 0, 49, 180, 0, 53, 27, 46, 172, 42, 180, 0, 49]
abbrev dktX0_one_2 : List UInt8 := dkwX0_one_2 ++ dktX0_one_3
def dkwX0_one_1 : List UInt8 := [170, 0, 0, 0, 0, 0, 0, 111, 0, 0, 0, 0, 0, 0, 0, 6, 0, 0, 0, 44, 0, 0, 0, 53, 0, 0, 0, 63, 0, 0, 0, 73, 0, 0, 0, 83, 0, 0, 0, 93, 0, 0, 0, 102]
abbrev dktX0_one_1 : List UInt8 := dkwX0_one_1 ++ dktX0_one_2
def dkwX0_one_0 : List UInt8 := [42, 27, 182, 0, 215, 154, 0, 6, 16, 254, 172, 28]
abbrev dktX0_one_0 : List UInt8 := dkwX0_one_0 ++ dktX0_one_1
theorem dksX0_one_0 : cX0_one.data.toList.drop 0 = dktX0_one_0 := by decide +kernel
theorem dksX0_one_1 : cX0_one.data.toList.drop 12 = dktX0_one_1 := dk_seg dksX0_one_0 12 rfl rfl
theorem dksX0_one_2 : cX0_one.data.toList.drop 56 = dktX0_one_2 := dk_seg dksX0_one_1 44 rfl rfl
theorem dksX0_one_3 : cX0_one.data.toList.drop 79 = dktX0_one_3 := dk_seg dksX0_one_2 23 rfl rfl
theorem dksX0_one_4 : cX0_one.data.toList.drop 103 = dktX0_one_4 := dk_seg dksX0_one_3 24 rfl rfl
theorem dX0_one_0 : decode cX0_one 0 = .ok (.aload_n 0, 1) := dk_42 (dk_at dksX0_one_0 0 rfl rfl)
theorem dX0_one_1 : decode cX0_one 1 = .ok (.iload_n 1, 1) := dk_27 (dk_at dksX0_one_0 1 rfl rfl)
theorem dX0_one_2 : decode cX0_one 2 = .ok (.invokevirtual 215, 3) := dk_182 0 215 (dk_at dksX0_one_0 2 rfl rfl)
theorem dX0_one_5 : decode cX0_one 5 = .ok (.ifCond .ne 6, 3) := dk_154 0 6 (dk_at dksX0_one_0 5 rfl rfl)
theorem dX0_one_8 : decode cX0_one 8 = .ok (.bipush (-2), 2) := dk_16 254 (dk_at dksX0_one_0 8 rfl rfl)
theorem dX0_one_10 : decode cX0_one 10 = .ok (.ireturn, 1) := dk_172 (dk_at dksX0_one_0 10 rfl rfl)
theorem dX0_one_11 : decode cX0_one 11 = .ok (.iload_n 2, 1) := dk_28 (dk_at dksX0_one_0 11 rfl rfl)
theorem dX0_one_12 : decode cX0_one 12 = .ok (.tableswitch 111 0 6 #[44, 53, 63, 73, 83, 93, 102], 44) := by decide +kernel
theorem dX0_one_56 : decode cX0_one 56 = .ok (.aload_n 0, 1) := dk_42 (dk_at dksX0_one_2 0 rfl rfl)
theorem dX0_one_57 : decode cX0_one 57 = .ok (.iload_n 1, 1) := dk_27 (dk_at dksX0_one_2 1 rfl rfl)
theorem dX0_one_58 : decode cX0_one 58 = .ok (.invokevirtual 249, 3) := dk_182 0 249 (dk_at dksX0_one_2 2 rfl rfl)
theorem dX0_one_61 : decode cX0_one 61 = .ok (.invokevirtual 253, 3) := dk_182 0 253 (dk_at dksX0_one_2 5 rfl rfl)
theorem dX0_one_64 : decode cX0_one 64 = .ok (.ireturn, 1) := dk_172 (dk_at dksX0_one_2 8 rfl rfl)
theorem dX0_one_65 : decode cX0_one 65 = .ok (.aload_n 0, 1) := dk_42 (dk_at dksX0_one_2 9 rfl rfl)
theorem dX0_one_66 : decode cX0_one 66 = .ok (.getfield 49, 3) := dk_180 0 49 (dk_at dksX0_one_2 10 rfl rfl)
theorem dX0_one_69 : decode cX0_one 69 = .ok (.getfield 53, 3) := dk_180 0 53 (dk_at dksX0_one_2 13 rfl rfl)
theorem dX0_one_72 : decode cX0_one 72 = .ok (.iload_n 1, 1) := dk_27 (dk_at dksX0_one_2 16 rfl rfl)
theorem dX0_one_73 : decode cX0_one 73 = .ok (.iaload, 1) := dk_46 (dk_at dksX0_one_2 17 rfl rfl)
theorem dX0_one_74 : decode cX0_one 74 = .ok (.ireturn, 1) := dk_172 (dk_at dksX0_one_2 18 rfl rfl)
theorem dX0_one_75 : decode cX0_one 75 = .ok (.aload_n 0, 1) := dk_42 (dk_at dksX0_one_2 19 rfl rfl)
theorem dX0_one_76 : decode cX0_one 76 = .ok (.getfield 49, 3) := dk_180 0 49 (dk_at dksX0_one_2 20 rfl rfl)
theorem dX0_one_79 : decode cX0_one 79 = .ok (.getfield 68, 3) := dk_180 0 68 (dk_at dksX0_one_3 0 rfl rfl)
theorem dX0_one_82 : decode cX0_one 82 = .ok (.iload_n 1, 1) := dk_27 (dk_at dksX0_one_3 3 rfl rfl)
theorem dX0_one_83 : decode cX0_one 83 = .ok (.iaload, 1) := dk_46 (dk_at dksX0_one_3 4 rfl rfl)
theorem dX0_one_84 : decode cX0_one 84 = .ok (.ireturn, 1) := dk_172 (dk_at dksX0_one_3 5 rfl rfl)
theorem dX0_one_85 : decode cX0_one 85 = .ok (.aload_n 0, 1) := dk_42 (dk_at dksX0_one_3 6 rfl rfl)
theorem dX0_one_86 : decode cX0_one 86 = .ok (.getfield 49, 3) := dk_180 0 49 (dk_at dksX0_one_3 7 rfl rfl)
theorem dX0_one_89 : decode cX0_one 89 = .ok (.getfield 71, 3) := dk_180 0 71 (dk_at dksX0_one_3 10 rfl rfl)
theorem dX0_one_92 : decode cX0_one 92 = .ok (.iload_n 1, 1) := dk_27 (dk_at dksX0_one_3 13 rfl rfl)
theorem dX0_one_93 : decode cX0_one 93 = .ok (.iaload, 1) := dk_46 (dk_at dksX0_one_3 14 rfl rfl)
theorem dX0_one_94 : decode cX0_one 94 = .ok (.ireturn, 1) := dk_172 (dk_at dksX0_one_3 15 rfl rfl)
theorem dX0_one_95 : decode cX0_one 95 = .ok (.aload_n 0, 1) := dk_42 (dk_at dksX0_one_3 16 rfl rfl)
theorem dX0_one_96 : decode cX0_one 96 = .ok (.getfield 49, 3) := dk_180 0 49 (dk_at dksX0_one_3 17 rfl rfl)
theorem dX0_one_99 : decode cX0_one 99 = .ok (.getfield 74, 3) := dk_180 0 74 (dk_at dksX0_one_3 20 rfl rfl)
theorem dX0_one_102 : decode cX0_one 102 = .ok (.iload_n 1, 1) := dk_27 (dk_at dksX0_one_3 23 rfl rfl)
theorem dX0_one_103 : decode cX0_one 103 = .ok (.iaload, 1) := dk_46 (dk_at dksX0_one_4 0 rfl rfl)
theorem dX0_one_104 : decode cX0_one 104 = .ok (.ireturn, 1) := dk_172 (dk_at dksX0_one_4 1 rfl rfl)
theorem dX0_one_105 : decode cX0_one 105 = .ok (.aload_n 0, 1) := dk_42 (dk_at dksX0_one_4 2 rfl rfl)
theorem dX0_one_106 : decode cX0_one 106 = .ok (.getfield 49, 3) := dk_180 0 49 (dk_at dksX0_one_4 3 rfl rfl)
theorem dX0_one_109 : decode cX0_one 109 = .ok (.iload_n 1, 1) := dk_27 (dk_at dksX0_one_4 6 rfl rfl)
theorem dX0_one_110 : decode cX0_one 110 = .ok (.invokevirtual 255, 3) := dk_182 0 255 (dk_at dksX0_one_4 7 rfl rfl)
theorem dX0_one_113 : decode cX0_one 113 = .ok (.ireturn, 1) := dk_172 (dk_at dksX0_one_4 10 rfl rfl)
theorem dX0_one_114 : decode cX0_one 114 = .ok (.aload_n 0, 1) := dk_42 (dk_at dksX0_one_4 11 rfl rfl)
theorem dX0_one_115 : decode cX0_one 115 = .ok (.iload_n 1, 1) := dk_27 (dk_at dksX0_one_4 12 rfl rfl)
theorem dX0_one_116 : decode cX0_one 116 = .ok (.invokevirtual 249, 3) := dk_182 0 249 (dk_at dksX0_one_4 13 rfl rfl)
theorem dX0_one_119 : decode cX0_one 119 = .ok (.getfield 259, 3) := dk_180 1 3 (dk_at dksX0_one_4 16 rfl rfl)
theorem dX0_one_122 : decode cX0_one 122 = .ok (.ireturn, 1) := dk_172 (dk_at dksX0_one_4 19 rfl rfl)
theorem dX0_one_123 : decode cX0_one 123 = .ok (.bipush (-3), 2) := dk_16 253 (dk_at dksX0_one_4 20 rfl rfl)
theorem dX0_one_125 : decode cX0_one 125 = .ok (.ireturn, 1) := dk_172 (dk_at dksX0_one_4 22 rfl rfl)
abbrev cX0_isOne : ByteArray := prog_1_method_20_code
def yX0_isOne : MethodName := ⟨RX0, "isOne", "(I)Z"⟩
def dkwX0_isOne_0 : List UInt8 := [27, 133, 9, 42, 180, 0, 180, 4, 100, 133, 184, 0, 211, 172]
abbrev dktX0_isOne_0 : List UInt8 := dkwX0_isOne_0 ++ []
theorem dksX0_isOne_0 : cX0_isOne.data.toList.drop 0 = dktX0_isOne_0 := by decide +kernel
theorem dX0_isOne_0 : decode cX0_isOne 0 = .ok (.iload_n 1, 1) := dk_27 (dk_at dksX0_isOne_0 0 rfl rfl)
theorem dX0_isOne_1 : decode cX0_isOne 1 = .ok (.i2l, 1) := dk_133 (dk_at dksX0_isOne_0 1 rfl rfl)
theorem dX0_isOne_2 : decode cX0_isOne 2 = .ok (.lconst 0, 1) := dk_9 (dk_at dksX0_isOne_0 2 rfl rfl)
theorem dX0_isOne_3 : decode cX0_isOne 3 = .ok (.aload_n 0, 1) := dk_42 (dk_at dksX0_isOne_0 3 rfl rfl)
theorem dX0_isOne_4 : decode cX0_isOne 4 = .ok (.getfield 180, 3) := dk_180 0 180 (dk_at dksX0_isOne_0 4 rfl rfl)
theorem dX0_isOne_7 : decode cX0_isOne 7 = .ok (.iconst 1, 1) := dk_4 (dk_at dksX0_isOne_0 7 rfl rfl)
theorem dX0_isOne_8 : decode cX0_isOne 8 = .ok (.isub, 1) := dk_100 (dk_at dksX0_isOne_0 8 rfl rfl)
theorem dX0_isOne_9 : decode cX0_isOne 9 = .ok (.i2l, 1) := dk_133 (dk_at dksX0_isOne_0 9 rfl rfl)
theorem dX0_isOne_10 : decode cX0_isOne 10 = .ok (.invokestatic 211, 3) := dk_184 0 211 (dk_at dksX0_isOne_0 10 rfl rfl)
theorem dX0_isOne_13 : decode cX0_isOne 13 = .ok (.ireturn, 1) := dk_172 (dk_at dksX0_isOne_0 13 rfl rfl)
abbrev cX0_one_2 : ByteArray := prog_1_method_6_code
def yX0_one_2 : MethodName := ⟨RX0, "one", "(I)LAdjectiveCoupons$One;"⟩
def dkwX0_one_2_0 : List UInt8 := [42, 180, 0, 26, 27, 50, 192, 0, 16, 176]
abbrev dktX0_one_2_0 : List UInt8 := dkwX0_one_2_0 ++ []
theorem dksX0_one_2_0 : cX0_one_2.data.toList.drop 0 = dktX0_one_2_0 := by decide +kernel
theorem dX0_one_2_0 : decode cX0_one_2 0 = .ok (.aload_n 0, 1) := dk_42 (dk_at dksX0_one_2_0 0 rfl rfl)
theorem dX0_one_2_1 : decode cX0_one_2 1 = .ok (.getfield 26, 3) := dk_180 0 26 (dk_at dksX0_one_2_0 1 rfl rfl)
theorem dX0_one_2_4 : decode cX0_one_2 4 = .ok (.iload_n 1, 1) := dk_27 (dk_at dksX0_one_2_0 4 rfl rfl)
theorem dX0_one_2_5 : decode cX0_one_2 5 = .ok (.aaload, 1) := dk_50 (dk_at dksX0_one_2_0 5 rfl rfl)
theorem dX0_one_2_6 : decode cX0_one_2 6 = .ok (.checkcast 16, 3) := dk_192 0 16 (dk_at dksX0_one_2_0 6 rfl rfl)
theorem dX0_one_2_9 : decode cX0_one_2 9 = .ok (.areturn, 1) := dk_176 (dk_at dksX0_one_2_0 9 rfl rfl)
abbrev cX0_as : ByteArray := prog_1_method_28_code
def yX0_as : MethodName := ⟨RX0, "as", "(II)I"⟩
def dkwX0_as_2 : List UInt8 := [180, 0, 49, 180, 0, 83, 182, 1, 12, 172, 78, 16, 252, 172]
abbrev dktX0_as_2 : List UInt8 := dkwX0_as_2 ++ []
def dkwX0_as_1 : List UInt8 := [16, 253, 172, 42, 42, 180, 0, 26, 27, 50, 28, 184, 1, 8, 42, 180, 0, 171, 42, 180, 0, 89, 42]
abbrev dktX0_as_1 : List UInt8 := dkwX0_as_1 ++ dktX0_as_2
def dkwX0_as_0 : List UInt8 := [42, 27, 182, 0, 215, 154, 0, 6, 16, 254, 172, 28, 133, 9, 20, 1, 6, 184, 0, 211, 154, 0, 6]
abbrev dktX0_as_0 : List UInt8 := dkwX0_as_0 ++ dktX0_as_1
theorem dksX0_as_0 : cX0_as.data.toList.drop 0 = dktX0_as_0 := by decide +kernel
theorem dksX0_as_1 : cX0_as.data.toList.drop 23 = dktX0_as_1 := dk_seg dksX0_as_0 23 rfl rfl
theorem dksX0_as_2 : cX0_as.data.toList.drop 46 = dktX0_as_2 := dk_seg dksX0_as_1 23 rfl rfl
theorem dX0_as_0 : decode cX0_as 0 = .ok (.aload_n 0, 1) := dk_42 (dk_at dksX0_as_0 0 rfl rfl)
theorem dX0_as_1 : decode cX0_as 1 = .ok (.iload_n 1, 1) := dk_27 (dk_at dksX0_as_0 1 rfl rfl)
theorem dX0_as_2 : decode cX0_as 2 = .ok (.invokevirtual 215, 3) := dk_182 0 215 (dk_at dksX0_as_0 2 rfl rfl)
theorem dX0_as_5 : decode cX0_as 5 = .ok (.ifCond .ne 6, 3) := dk_154 0 6 (dk_at dksX0_as_0 5 rfl rfl)
theorem dX0_as_8 : decode cX0_as 8 = .ok (.bipush (-2), 2) := dk_16 254 (dk_at dksX0_as_0 8 rfl rfl)
theorem dX0_as_10 : decode cX0_as 10 = .ok (.ireturn, 1) := dk_172 (dk_at dksX0_as_0 10 rfl rfl)
theorem dX0_as_11 : decode cX0_as 11 = .ok (.iload_n 2, 1) := dk_28 (dk_at dksX0_as_0 11 rfl rfl)
theorem dX0_as_12 : decode cX0_as 12 = .ok (.i2l, 1) := dk_133 (dk_at dksX0_as_0 12 rfl rfl)
theorem dX0_as_13 : decode cX0_as 13 = .ok (.lconst 0, 1) := dk_9 (dk_at dksX0_as_0 13 rfl rfl)
theorem dX0_as_14 : decode cX0_as 14 = .ok (.ldc2_w 262, 3) := dk_20 1 6 (dk_at dksX0_as_0 14 rfl rfl)
theorem dX0_as_17 : decode cX0_as 17 = .ok (.invokestatic 211, 3) := dk_184 0 211 (dk_at dksX0_as_0 17 rfl rfl)
theorem dX0_as_20 : decode cX0_as 20 = .ok (.ifCond .ne 6, 3) := dk_154 0 6 (dk_at dksX0_as_0 20 rfl rfl)
theorem dX0_as_23 : decode cX0_as 23 = .ok (.bipush (-3), 2) := dk_16 253 (dk_at dksX0_as_1 0 rfl rfl)
theorem dX0_as_25 : decode cX0_as 25 = .ok (.ireturn, 1) := dk_172 (dk_at dksX0_as_1 2 rfl rfl)
theorem dX0_as_26 : decode cX0_as 26 = .ok (.aload_n 0, 1) := dk_42 (dk_at dksX0_as_1 3 rfl rfl)
theorem dX0_as_27 : decode cX0_as 27 = .ok (.aload_n 0, 1) := dk_42 (dk_at dksX0_as_1 4 rfl rfl)
theorem dX0_as_28 : decode cX0_as 28 = .ok (.getfield 26, 3) := dk_180 0 26 (dk_at dksX0_as_1 5 rfl rfl)
theorem dX0_as_31 : decode cX0_as 31 = .ok (.iload_n 1, 1) := dk_27 (dk_at dksX0_as_1 8 rfl rfl)
theorem dX0_as_32 : decode cX0_as 32 = .ok (.aaload, 1) := dk_50 (dk_at dksX0_as_1 9 rfl rfl)
theorem dX0_as_33 : decode cX0_as 33 = .ok (.iload_n 2, 1) := dk_28 (dk_at dksX0_as_1 10 rfl rfl)
theorem dX0_as_34 : decode cX0_as 34 = .ok (.invokestatic 264, 3) := dk_184 1 8 (dk_at dksX0_as_1 11 rfl rfl)
theorem dX0_as_37 : decode cX0_as 37 = .ok (.aload_n 0, 1) := dk_42 (dk_at dksX0_as_1 14 rfl rfl)
theorem dX0_as_38 : decode cX0_as 38 = .ok (.getfield 171, 3) := dk_180 0 171 (dk_at dksX0_as_1 15 rfl rfl)
theorem dX0_as_41 : decode cX0_as 41 = .ok (.aload_n 0, 1) := dk_42 (dk_at dksX0_as_1 18 rfl rfl)
theorem dX0_as_42 : decode cX0_as 42 = .ok (.getfield 89, 3) := dk_180 0 89 (dk_at dksX0_as_1 19 rfl rfl)
theorem dX0_as_45 : decode cX0_as 45 = .ok (.aload_n 0, 1) := dk_42 (dk_at dksX0_as_1 22 rfl rfl)
theorem dX0_as_46 : decode cX0_as 46 = .ok (.getfield 49, 3) := dk_180 0 49 (dk_at dksX0_as_2 0 rfl rfl)
theorem dX0_as_49 : decode cX0_as 49 = .ok (.getfield 83, 3) := dk_180 0 83 (dk_at dksX0_as_2 3 rfl rfl)
theorem dX0_as_52 : decode cX0_as 52 = .ok (.invokevirtual 268, 3) := dk_182 1 12 (dk_at dksX0_as_2 6 rfl rfl)
theorem dX0_as_55 : decode cX0_as 55 = .ok (.ireturn, 1) := dk_172 (dk_at dksX0_as_2 9 rfl rfl)
theorem dX0_as_56 : decode cX0_as 56 = .ok (.astore_n 3, 1) := dk_78 (dk_at dksX0_as_2 10 rfl rfl)
theorem dX0_as_57 : decode cX0_as 57 = .ok (.bipush (-4), 2) := dk_16 252 (dk_at dksX0_as_2 11 rfl rfl)
theorem dX0_as_59 : decode cX0_as 59 = .ok (.ireturn, 1) := dk_172 (dk_at dksX0_as_2 13 rfl rfl)
abbrev cX0_castTo : ByteArray := prog_1_method_4_code
def yX0_castTo : MethodName := ⟨RX0, "castTo", "(Ljava/lang/Object;I)LAdjectiveCoupons$One;"⟩
def dkwX0_castTo_3 : List UInt8 := [176]
abbrev dktX0_castTo_3 : List UInt8 := dkwX0_castTo_3 ++ []
def dkwX0_castTo_2 : List UInt8 := [42, 192, 0, 16, 176, 42, 192, 0, 1, 176, 42, 192, 0, 7, 176, 42, 192, 0, 10, 176, 42, 192, 0, 13]
abbrev dktX0_castTo_2 : List UInt8 := dkwX0_castTo_2 ++ dktX0_castTo_3
def dkwX0_castTo_1 : List UInt8 := [170, 0, 0, 0, 0, 0, 51, 0, 0, 0, 0, 0, 0, 0, 3, 0, 0, 0, 31, 0, 0, 0, 36, 0, 0, 0, 41, 0, 0, 0, 46]
abbrev dktX0_castTo_1 : List UInt8 := dkwX0_castTo_1 ++ dktX0_castTo_2
def dkwX0_castTo_0 : List UInt8 := [27]
abbrev dktX0_castTo_0 : List UInt8 := dkwX0_castTo_0 ++ dktX0_castTo_1
theorem dksX0_castTo_0 : cX0_castTo.data.toList.drop 0 = dktX0_castTo_0 := by decide +kernel
theorem dksX0_castTo_1 : cX0_castTo.data.toList.drop 1 = dktX0_castTo_1 := dk_seg dksX0_castTo_0 1 rfl rfl
theorem dksX0_castTo_2 : cX0_castTo.data.toList.drop 32 = dktX0_castTo_2 := dk_seg dksX0_castTo_1 31 rfl rfl
theorem dksX0_castTo_3 : cX0_castTo.data.toList.drop 56 = dktX0_castTo_3 := dk_seg dksX0_castTo_2 24 rfl rfl
theorem dX0_castTo_0 : decode cX0_castTo 0 = .ok (.iload_n 1, 1) := dk_27 (dk_at dksX0_castTo_0 0 rfl rfl)
theorem dX0_castTo_1 : decode cX0_castTo 1 = .ok (.tableswitch 51 0 3 #[31, 36, 41, 46], 31) := by decide +kernel
theorem dX0_castTo_32 : decode cX0_castTo 32 = .ok (.aload_n 0, 1) := dk_42 (dk_at dksX0_castTo_2 0 rfl rfl)
theorem dX0_castTo_33 : decode cX0_castTo 33 = .ok (.checkcast 16, 3) := dk_192 0 16 (dk_at dksX0_castTo_2 1 rfl rfl)
theorem dX0_castTo_36 : decode cX0_castTo 36 = .ok (.areturn, 1) := dk_176 (dk_at dksX0_castTo_2 4 rfl rfl)
theorem dX0_castTo_37 : decode cX0_castTo 37 = .ok (.aload_n 0, 1) := dk_42 (dk_at dksX0_castTo_2 5 rfl rfl)
theorem dX0_castTo_38 : decode cX0_castTo 38 = .ok (.checkcast 1, 3) := dk_192 0 1 (dk_at dksX0_castTo_2 6 rfl rfl)
theorem dX0_castTo_41 : decode cX0_castTo 41 = .ok (.areturn, 1) := dk_176 (dk_at dksX0_castTo_2 9 rfl rfl)
theorem dX0_castTo_42 : decode cX0_castTo 42 = .ok (.aload_n 0, 1) := dk_42 (dk_at dksX0_castTo_2 10 rfl rfl)
theorem dX0_castTo_43 : decode cX0_castTo 43 = .ok (.checkcast 7, 3) := dk_192 0 7 (dk_at dksX0_castTo_2 11 rfl rfl)
theorem dX0_castTo_46 : decode cX0_castTo 46 = .ok (.areturn, 1) := dk_176 (dk_at dksX0_castTo_2 14 rfl rfl)
theorem dX0_castTo_47 : decode cX0_castTo 47 = .ok (.aload_n 0, 1) := dk_42 (dk_at dksX0_castTo_2 15 rfl rfl)
theorem dX0_castTo_48 : decode cX0_castTo 48 = .ok (.checkcast 10, 3) := dk_192 0 10 (dk_at dksX0_castTo_2 16 rfl rfl)
theorem dX0_castTo_51 : decode cX0_castTo 51 = .ok (.areturn, 1) := dk_176 (dk_at dksX0_castTo_2 19 rfl rfl)
theorem dX0_castTo_52 : decode cX0_castTo 52 = .ok (.aload_n 0, 1) := dk_42 (dk_at dksX0_castTo_2 20 rfl rfl)
theorem dX0_castTo_53 : decode cX0_castTo 53 = .ok (.checkcast 13, 3) := dk_192 0 13 (dk_at dksX0_castTo_2 21 rfl rfl)
theorem dX0_castTo_56 : decode cX0_castTo 56 = .ok (.areturn, 1) := dk_176 (dk_at dksX0_castTo_3 0 rfl rfl)
abbrev cX0_costOf : ByteArray := prog_1_method_12_code
def yX0_costOf : MethodName := ⟨RX0, "costOf", "(LAdjectiveCoupons$Buyer;[III)I"⟩
def dkwX0_costOf_4 : List UInt8 := [132, 6, 1, 167, 255, 182, 21, 5, 43, 42, 180, 0, 141, 42, 180, 0, 143, 185, 0, 156, 3, 0, 100, 172]
abbrev dktX0_costOf_4 : List UInt8 := dkwX0_costOf_4 ++ []
def dkwX0_costOf_3 : List UInt8 := [193, 0, 154, 153, 0, 7, 4, 167, 0, 4, 3, 84, 21, 5, 42, 180, 0, 141, 21, 6, 46, 96, 54, 5]
abbrev dktX0_costOf_3 : List UInt8 := dkwX0_costOf_3 ++ dktX0_costOf_4
def dkwX0_costOf_2 : List UInt8 := [180, 0, 143, 21, 6, 44, 21, 6, 46, 2, 159, 0, 23, 42, 44, 21, 6, 46, 21, 4, 182, 0, 115]
abbrev dktX0_costOf_2 : List UInt8 := dkwX0_costOf_2 ++ dktX0_costOf_3
def dkwX0_costOf_1 : List UInt8 := [29, 162, 0, 74, 42, 180, 0, 141, 21, 6, 42, 44, 29, 21, 6, 21, 4, 182, 0, 150, 79, 42]
abbrev dktX0_costOf_1 : List UInt8 := dkwX0_costOf_1 ++ dktX0_costOf_2
def dkwX0_costOf_0 : List UInt8 := [3, 54, 5, 42, 180, 0, 141, 3, 184, 0, 62, 42, 180, 0, 143, 3, 184, 0, 147, 3, 54, 6, 21, 6]
abbrev dktX0_costOf_0 : List UInt8 := dkwX0_costOf_0 ++ dktX0_costOf_1
theorem dksX0_costOf_0 : cX0_costOf.data.toList.drop 0 = dktX0_costOf_0 := by decide +kernel
theorem dksX0_costOf_1 : cX0_costOf.data.toList.drop 24 = dktX0_costOf_1 := dk_seg dksX0_costOf_0 24 rfl rfl
theorem dksX0_costOf_2 : cX0_costOf.data.toList.drop 46 = dktX0_costOf_2 := dk_seg dksX0_costOf_1 22 rfl rfl
theorem dksX0_costOf_3 : cX0_costOf.data.toList.drop 69 = dktX0_costOf_3 := dk_seg dksX0_costOf_2 23 rfl rfl
theorem dksX0_costOf_4 : cX0_costOf.data.toList.drop 93 = dktX0_costOf_4 := dk_seg dksX0_costOf_3 24 rfl rfl
theorem dX0_costOf_0 : decode cX0_costOf 0 = .ok (.iconst 0, 1) := dk_3 (dk_at dksX0_costOf_0 0 rfl rfl)
theorem dX0_costOf_1 : decode cX0_costOf 1 = .ok (.istore 5, 2) := dk_54 5 (dk_at dksX0_costOf_0 1 rfl rfl)
theorem dX0_costOf_3 : decode cX0_costOf 3 = .ok (.aload_n 0, 1) := dk_42 (dk_at dksX0_costOf_0 3 rfl rfl)
theorem dX0_costOf_4 : decode cX0_costOf 4 = .ok (.getfield 141, 3) := dk_180 0 141 (dk_at dksX0_costOf_0 4 rfl rfl)
theorem dX0_costOf_7 : decode cX0_costOf 7 = .ok (.iconst 0, 1) := dk_3 (dk_at dksX0_costOf_0 7 rfl rfl)
theorem dX0_costOf_8 : decode cX0_costOf 8 = .ok (.invokestatic 62, 3) := dk_184 0 62 (dk_at dksX0_costOf_0 8 rfl rfl)
theorem dX0_costOf_11 : decode cX0_costOf 11 = .ok (.aload_n 0, 1) := dk_42 (dk_at dksX0_costOf_0 11 rfl rfl)
theorem dX0_costOf_12 : decode cX0_costOf 12 = .ok (.getfield 143, 3) := dk_180 0 143 (dk_at dksX0_costOf_0 12 rfl rfl)
theorem dX0_costOf_15 : decode cX0_costOf 15 = .ok (.iconst 0, 1) := dk_3 (dk_at dksX0_costOf_0 15 rfl rfl)
theorem dX0_costOf_16 : decode cX0_costOf 16 = .ok (.invokestatic 147, 3) := dk_184 0 147 (dk_at dksX0_costOf_0 16 rfl rfl)
theorem dX0_costOf_19 : decode cX0_costOf 19 = .ok (.iconst 0, 1) := dk_3 (dk_at dksX0_costOf_0 19 rfl rfl)
theorem dX0_costOf_20 : decode cX0_costOf 20 = .ok (.istore 6, 2) := dk_54 6 (dk_at dksX0_costOf_0 20 rfl rfl)
theorem dX0_costOf_22 : decode cX0_costOf 22 = .ok (.iload 6, 2) := dk_21 6 (dk_at dksX0_costOf_0 22 rfl rfl)
theorem dX0_costOf_24 : decode cX0_costOf 24 = .ok (.iload_n 3, 1) := dk_29 (dk_at dksX0_costOf_1 0 rfl rfl)
theorem dX0_costOf_25 : decode cX0_costOf 25 = .ok (.if_icmp .ge 74, 3) := dk_162 0 74 (dk_at dksX0_costOf_1 1 rfl rfl)
theorem dX0_costOf_28 : decode cX0_costOf 28 = .ok (.aload_n 0, 1) := dk_42 (dk_at dksX0_costOf_1 4 rfl rfl)
theorem dX0_costOf_29 : decode cX0_costOf 29 = .ok (.getfield 141, 3) := dk_180 0 141 (dk_at dksX0_costOf_1 5 rfl rfl)
theorem dX0_costOf_32 : decode cX0_costOf 32 = .ok (.iload 6, 2) := dk_21 6 (dk_at dksX0_costOf_1 8 rfl rfl)
theorem dX0_costOf_34 : decode cX0_costOf 34 = .ok (.aload_n 0, 1) := dk_42 (dk_at dksX0_costOf_1 10 rfl rfl)
theorem dX0_costOf_35 : decode cX0_costOf 35 = .ok (.aload_n 2, 1) := dk_44 (dk_at dksX0_costOf_1 11 rfl rfl)
theorem dX0_costOf_36 : decode cX0_costOf 36 = .ok (.iload_n 3, 1) := dk_29 (dk_at dksX0_costOf_1 12 rfl rfl)
theorem dX0_costOf_37 : decode cX0_costOf 37 = .ok (.iload 6, 2) := dk_21 6 (dk_at dksX0_costOf_1 13 rfl rfl)
theorem dX0_costOf_39 : decode cX0_costOf 39 = .ok (.iload 4, 2) := dk_21 4 (dk_at dksX0_costOf_1 15 rfl rfl)
theorem dX0_costOf_41 : decode cX0_costOf 41 = .ok (.invokevirtual 150, 3) := dk_182 0 150 (dk_at dksX0_costOf_1 17 rfl rfl)
theorem dX0_costOf_44 : decode cX0_costOf 44 = .ok (.iastore, 1) := dk_79 (dk_at dksX0_costOf_1 20 rfl rfl)
theorem dX0_costOf_45 : decode cX0_costOf 45 = .ok (.aload_n 0, 1) := dk_42 (dk_at dksX0_costOf_1 21 rfl rfl)
theorem dX0_costOf_46 : decode cX0_costOf 46 = .ok (.getfield 143, 3) := dk_180 0 143 (dk_at dksX0_costOf_2 0 rfl rfl)
theorem dX0_costOf_49 : decode cX0_costOf 49 = .ok (.iload 6, 2) := dk_21 6 (dk_at dksX0_costOf_2 3 rfl rfl)
theorem dX0_costOf_51 : decode cX0_costOf 51 = .ok (.aload_n 2, 1) := dk_44 (dk_at dksX0_costOf_2 5 rfl rfl)
theorem dX0_costOf_52 : decode cX0_costOf 52 = .ok (.iload 6, 2) := dk_21 6 (dk_at dksX0_costOf_2 6 rfl rfl)
theorem dX0_costOf_54 : decode cX0_costOf 54 = .ok (.iaload, 1) := dk_46 (dk_at dksX0_costOf_2 8 rfl rfl)
theorem dX0_costOf_55 : decode cX0_costOf 55 = .ok (.iconst (-1), 1) := dk_2 (dk_at dksX0_costOf_2 9 rfl rfl)
theorem dX0_costOf_56 : decode cX0_costOf 56 = .ok (.if_icmp .eq 23, 3) := dk_159 0 23 (dk_at dksX0_costOf_2 10 rfl rfl)
theorem dX0_costOf_59 : decode cX0_costOf 59 = .ok (.aload_n 0, 1) := dk_42 (dk_at dksX0_costOf_2 13 rfl rfl)
theorem dX0_costOf_60 : decode cX0_costOf 60 = .ok (.aload_n 2, 1) := dk_44 (dk_at dksX0_costOf_2 14 rfl rfl)
theorem dX0_costOf_61 : decode cX0_costOf 61 = .ok (.iload 6, 2) := dk_21 6 (dk_at dksX0_costOf_2 15 rfl rfl)
theorem dX0_costOf_63 : decode cX0_costOf 63 = .ok (.iaload, 1) := dk_46 (dk_at dksX0_costOf_2 17 rfl rfl)
theorem dX0_costOf_64 : decode cX0_costOf 64 = .ok (.iload 4, 2) := dk_21 4 (dk_at dksX0_costOf_2 18 rfl rfl)
theorem dX0_costOf_66 : decode cX0_costOf 66 = .ok (.invokevirtual 115, 3) := dk_182 0 115 (dk_at dksX0_costOf_2 20 rfl rfl)
theorem dX0_costOf_69 : decode cX0_costOf 69 = .ok (.instanceof 154, 3) := dk_193 0 154 (dk_at dksX0_costOf_3 0 rfl rfl)
theorem dX0_costOf_72 : decode cX0_costOf 72 = .ok (.ifCond .eq 7, 3) := dk_153 0 7 (dk_at dksX0_costOf_3 3 rfl rfl)
theorem dX0_costOf_75 : decode cX0_costOf 75 = .ok (.iconst 1, 1) := dk_4 (dk_at dksX0_costOf_3 6 rfl rfl)
theorem dX0_costOf_76 : decode cX0_costOf 76 = .ok (.goto 4, 3) := dk_167 0 4 (dk_at dksX0_costOf_3 7 rfl rfl)
theorem dX0_costOf_79 : decode cX0_costOf 79 = .ok (.iconst 0, 1) := dk_3 (dk_at dksX0_costOf_3 10 rfl rfl)
theorem dX0_costOf_80 : decode cX0_costOf 80 = .ok (.bastore, 1) := dk_84 (dk_at dksX0_costOf_3 11 rfl rfl)
theorem dX0_costOf_81 : decode cX0_costOf 81 = .ok (.iload 5, 2) := dk_21 5 (dk_at dksX0_costOf_3 12 rfl rfl)
theorem dX0_costOf_83 : decode cX0_costOf 83 = .ok (.aload_n 0, 1) := dk_42 (dk_at dksX0_costOf_3 14 rfl rfl)
theorem dX0_costOf_84 : decode cX0_costOf 84 = .ok (.getfield 141, 3) := dk_180 0 141 (dk_at dksX0_costOf_3 15 rfl rfl)
theorem dX0_costOf_87 : decode cX0_costOf 87 = .ok (.iload 6, 2) := dk_21 6 (dk_at dksX0_costOf_3 18 rfl rfl)
theorem dX0_costOf_89 : decode cX0_costOf 89 = .ok (.iaload, 1) := dk_46 (dk_at dksX0_costOf_3 20 rfl rfl)
theorem dX0_costOf_90 : decode cX0_costOf 90 = .ok (.iadd, 1) := dk_96 (dk_at dksX0_costOf_3 21 rfl rfl)
theorem dX0_costOf_91 : decode cX0_costOf 91 = .ok (.istore 5, 2) := dk_54 5 (dk_at dksX0_costOf_3 22 rfl rfl)
theorem dX0_costOf_93 : decode cX0_costOf 93 = .ok (.iinc 6 1, 3) := dk_132 6 1 (dk_at dksX0_costOf_4 0 rfl rfl)
theorem dX0_costOf_96 : decode cX0_costOf 96 = .ok (.goto (-74), 3) := dk_167 255 182 (dk_at dksX0_costOf_4 3 rfl rfl)
theorem dX0_costOf_99 : decode cX0_costOf 99 = .ok (.iload 5, 2) := dk_21 5 (dk_at dksX0_costOf_4 6 rfl rfl)
theorem dX0_costOf_101 : decode cX0_costOf 101 = .ok (.aload_n 1, 1) := dk_43 (dk_at dksX0_costOf_4 8 rfl rfl)
theorem dX0_costOf_102 : decode cX0_costOf 102 = .ok (.aload_n 0, 1) := dk_42 (dk_at dksX0_costOf_4 9 rfl rfl)
theorem dX0_costOf_103 : decode cX0_costOf 103 = .ok (.getfield 141, 3) := dk_180 0 141 (dk_at dksX0_costOf_4 10 rfl rfl)
theorem dX0_costOf_106 : decode cX0_costOf 106 = .ok (.aload_n 0, 1) := dk_42 (dk_at dksX0_costOf_4 13 rfl rfl)
theorem dX0_costOf_107 : decode cX0_costOf 107 = .ok (.getfield 143, 3) := dk_180 0 143 (dk_at dksX0_costOf_4 14 rfl rfl)
theorem dX0_costOf_110 : decode cX0_costOf 110 = .ok (.invokeinterface 156 3, 5) := by decide +kernel
theorem dX0_costOf_115 : decode cX0_costOf 115 = .ok (.isub, 1) := dk_100 (dk_at dksX0_costOf_4 22 rfl rfl)
theorem dX0_costOf_116 : decode cX0_costOf 116 = .ok (.ireturn, 1) := dk_172 (dk_at dksX0_costOf_4 23 rfl rfl)
abbrev cX0_costAt : ByteArray := prog_1_method_11_code
def yX0_costAt : MethodName := ⟨RX0, "costAt", "([IIII)I"⟩
def dkwX0_costAt_7 : List UInt8 := [153, 0, 10, 21, 5, 4, 96, 167, 0, 5, 21, 5, 172]
abbrev dktX0_costAt_7 : List UInt8 := dkwX0_costAt_7 ++ []
def dkwX0_costAt_6 : List UInt8 := [42, 43, 29, 5, 100, 21, 4, 182, 0, 138, 153, 0, 7, 4, 167, 0, 4, 3, 54, 6, 21, 6]
abbrev dktX0_costAt_6 : List UInt8 := dkwX0_costAt_6 ++ dktX0_costAt_7
def dkwX0_costAt_5 : List UInt8 := [42, 180, 0, 129, 5, 184, 0, 132, 153, 0, 33, 42, 43, 29, 4, 100, 21, 4, 182, 0, 138, 153, 0, 20]
abbrev dktX0_costAt_5 : List UInt8 := dkwX0_costAt_5 ++ dktX0_costAt_6
def dkwX0_costAt_4 : List UInt8 := [184, 0, 132, 153, 0, 21, 43, 21, 6, 46, 43, 29, 46, 160, 0, 5, 3, 172, 132, 6, 1, 167, 255, 224]
abbrev dktX0_costAt_4 : List UInt8 := dkwX0_costAt_4 ++ dktX0_costAt_5
def dkwX0_costAt_3 : List UInt8 := [193, 0, 136, 153, 0, 5, 3, 172, 3, 54, 6, 21, 6, 29, 162, 0, 32, 42, 180, 0, 129, 4]
abbrev dktX0_costAt_3 : List UInt8 := dkwX0_costAt_3 ++ dktX0_costAt_4
def dkwX0_costAt_2 : List UInt8 := [162, 0, 31, 43, 29, 4, 96, 46, 2, 159, 0, 22, 42, 43, 29, 4, 96, 46, 21, 4, 182, 0, 115]
abbrev dktX0_costAt_2 : List UInt8 := dkwX0_costAt_2 ++ dktX0_costAt_3
def dkwX0_costAt_1 : List UInt8 := [54, 5, 21, 5, 154, 0, 5, 3, 172, 42, 180, 0, 129, 3, 184, 0, 132, 153, 0, 38, 29, 4, 96, 28]
abbrev dktX0_costAt_1 : List UInt8 := dkwX0_costAt_1 ++ dktX0_costAt_2
def dkwX0_costAt_0 : List UInt8 := [43, 29, 46, 2, 160, 0, 7, 3, 167, 0, 15, 42, 43, 29, 46, 21, 4, 182, 0, 115, 182, 0, 125]
abbrev dktX0_costAt_0 : List UInt8 := dkwX0_costAt_0 ++ dktX0_costAt_1
theorem dksX0_costAt_0 : cX0_costAt.data.toList.drop 0 = dktX0_costAt_0 := by decide +kernel
theorem dksX0_costAt_1 : cX0_costAt.data.toList.drop 23 = dktX0_costAt_1 := dk_seg dksX0_costAt_0 23 rfl rfl
theorem dksX0_costAt_2 : cX0_costAt.data.toList.drop 47 = dktX0_costAt_2 := dk_seg dksX0_costAt_1 24 rfl rfl
theorem dksX0_costAt_3 : cX0_costAt.data.toList.drop 70 = dktX0_costAt_3 := dk_seg dksX0_costAt_2 23 rfl rfl
theorem dksX0_costAt_4 : cX0_costAt.data.toList.drop 92 = dktX0_costAt_4 := dk_seg dksX0_costAt_3 22 rfl rfl
theorem dksX0_costAt_5 : cX0_costAt.data.toList.drop 116 = dktX0_costAt_5 := dk_seg dksX0_costAt_4 24 rfl rfl
theorem dksX0_costAt_6 : cX0_costAt.data.toList.drop 140 = dktX0_costAt_6 := dk_seg dksX0_costAt_5 24 rfl rfl
theorem dksX0_costAt_7 : cX0_costAt.data.toList.drop 162 = dktX0_costAt_7 := dk_seg dksX0_costAt_6 22 rfl rfl
theorem dX0_costAt_0 : decode cX0_costAt 0 = .ok (.aload_n 1, 1) := dk_43 (dk_at dksX0_costAt_0 0 rfl rfl)
theorem dX0_costAt_1 : decode cX0_costAt 1 = .ok (.iload_n 3, 1) := dk_29 (dk_at dksX0_costAt_0 1 rfl rfl)
theorem dX0_costAt_2 : decode cX0_costAt 2 = .ok (.iaload, 1) := dk_46 (dk_at dksX0_costAt_0 2 rfl rfl)
theorem dX0_costAt_3 : decode cX0_costAt 3 = .ok (.iconst (-1), 1) := dk_2 (dk_at dksX0_costAt_0 3 rfl rfl)
theorem dX0_costAt_4 : decode cX0_costAt 4 = .ok (.if_icmp .ne 7, 3) := dk_160 0 7 (dk_at dksX0_costAt_0 4 rfl rfl)
theorem dX0_costAt_7 : decode cX0_costAt 7 = .ok (.iconst 0, 1) := dk_3 (dk_at dksX0_costAt_0 7 rfl rfl)
theorem dX0_costAt_8 : decode cX0_costAt 8 = .ok (.goto 15, 3) := dk_167 0 15 (dk_at dksX0_costAt_0 8 rfl rfl)
theorem dX0_costAt_11 : decode cX0_costAt 11 = .ok (.aload_n 0, 1) := dk_42 (dk_at dksX0_costAt_0 11 rfl rfl)
theorem dX0_costAt_12 : decode cX0_costAt 12 = .ok (.aload_n 1, 1) := dk_43 (dk_at dksX0_costAt_0 12 rfl rfl)
theorem dX0_costAt_13 : decode cX0_costAt 13 = .ok (.iload_n 3, 1) := dk_29 (dk_at dksX0_costAt_0 13 rfl rfl)
theorem dX0_costAt_14 : decode cX0_costAt 14 = .ok (.iaload, 1) := dk_46 (dk_at dksX0_costAt_0 14 rfl rfl)
theorem dX0_costAt_15 : decode cX0_costAt 15 = .ok (.iload 4, 2) := dk_21 4 (dk_at dksX0_costAt_0 15 rfl rfl)
theorem dX0_costAt_17 : decode cX0_costAt 17 = .ok (.invokevirtual 115, 3) := dk_182 0 115 (dk_at dksX0_costAt_0 17 rfl rfl)
theorem dX0_costAt_20 : decode cX0_costAt 20 = .ok (.invokevirtual 125, 3) := dk_182 0 125 (dk_at dksX0_costAt_0 20 rfl rfl)
theorem dX0_costAt_23 : decode cX0_costAt 23 = .ok (.istore 5, 2) := dk_54 5 (dk_at dksX0_costAt_1 0 rfl rfl)
theorem dX0_costAt_25 : decode cX0_costAt 25 = .ok (.iload 5, 2) := dk_21 5 (dk_at dksX0_costAt_1 2 rfl rfl)
theorem dX0_costAt_27 : decode cX0_costAt 27 = .ok (.ifCond .ne 5, 3) := dk_154 0 5 (dk_at dksX0_costAt_1 4 rfl rfl)
theorem dX0_costAt_30 : decode cX0_costAt 30 = .ok (.iconst 0, 1) := dk_3 (dk_at dksX0_costAt_1 7 rfl rfl)
theorem dX0_costAt_31 : decode cX0_costAt 31 = .ok (.ireturn, 1) := dk_172 (dk_at dksX0_costAt_1 8 rfl rfl)
theorem dX0_costAt_32 : decode cX0_costAt 32 = .ok (.aload_n 0, 1) := dk_42 (dk_at dksX0_costAt_1 9 rfl rfl)
theorem dX0_costAt_33 : decode cX0_costAt 33 = .ok (.getfield 129, 3) := dk_180 0 129 (dk_at dksX0_costAt_1 10 rfl rfl)
theorem dX0_costAt_36 : decode cX0_costAt 36 = .ok (.iconst 0, 1) := dk_3 (dk_at dksX0_costAt_1 13 rfl rfl)
theorem dX0_costAt_37 : decode cX0_costAt 37 = .ok (.invokestatic 132, 3) := dk_184 0 132 (dk_at dksX0_costAt_1 14 rfl rfl)
theorem dX0_costAt_40 : decode cX0_costAt 40 = .ok (.ifCond .eq 38, 3) := dk_153 0 38 (dk_at dksX0_costAt_1 17 rfl rfl)
theorem dX0_costAt_43 : decode cX0_costAt 43 = .ok (.iload_n 3, 1) := dk_29 (dk_at dksX0_costAt_1 20 rfl rfl)
theorem dX0_costAt_44 : decode cX0_costAt 44 = .ok (.iconst 1, 1) := dk_4 (dk_at dksX0_costAt_1 21 rfl rfl)
theorem dX0_costAt_45 : decode cX0_costAt 45 = .ok (.iadd, 1) := dk_96 (dk_at dksX0_costAt_1 22 rfl rfl)
theorem dX0_costAt_46 : decode cX0_costAt 46 = .ok (.iload_n 2, 1) := dk_28 (dk_at dksX0_costAt_1 23 rfl rfl)
theorem dX0_costAt_47 : decode cX0_costAt 47 = .ok (.if_icmp .ge 31, 3) := dk_162 0 31 (dk_at dksX0_costAt_2 0 rfl rfl)
theorem dX0_costAt_50 : decode cX0_costAt 50 = .ok (.aload_n 1, 1) := dk_43 (dk_at dksX0_costAt_2 3 rfl rfl)
theorem dX0_costAt_51 : decode cX0_costAt 51 = .ok (.iload_n 3, 1) := dk_29 (dk_at dksX0_costAt_2 4 rfl rfl)
theorem dX0_costAt_52 : decode cX0_costAt 52 = .ok (.iconst 1, 1) := dk_4 (dk_at dksX0_costAt_2 5 rfl rfl)
theorem dX0_costAt_53 : decode cX0_costAt 53 = .ok (.iadd, 1) := dk_96 (dk_at dksX0_costAt_2 6 rfl rfl)
theorem dX0_costAt_54 : decode cX0_costAt 54 = .ok (.iaload, 1) := dk_46 (dk_at dksX0_costAt_2 7 rfl rfl)
theorem dX0_costAt_55 : decode cX0_costAt 55 = .ok (.iconst (-1), 1) := dk_2 (dk_at dksX0_costAt_2 8 rfl rfl)
theorem dX0_costAt_56 : decode cX0_costAt 56 = .ok (.if_icmp .eq 22, 3) := dk_159 0 22 (dk_at dksX0_costAt_2 9 rfl rfl)
theorem dX0_costAt_59 : decode cX0_costAt 59 = .ok (.aload_n 0, 1) := dk_42 (dk_at dksX0_costAt_2 12 rfl rfl)
theorem dX0_costAt_60 : decode cX0_costAt 60 = .ok (.aload_n 1, 1) := dk_43 (dk_at dksX0_costAt_2 13 rfl rfl)
theorem dX0_costAt_61 : decode cX0_costAt 61 = .ok (.iload_n 3, 1) := dk_29 (dk_at dksX0_costAt_2 14 rfl rfl)
theorem dX0_costAt_62 : decode cX0_costAt 62 = .ok (.iconst 1, 1) := dk_4 (dk_at dksX0_costAt_2 15 rfl rfl)
theorem dX0_costAt_63 : decode cX0_costAt 63 = .ok (.iadd, 1) := dk_96 (dk_at dksX0_costAt_2 16 rfl rfl)
theorem dX0_costAt_64 : decode cX0_costAt 64 = .ok (.iaload, 1) := dk_46 (dk_at dksX0_costAt_2 17 rfl rfl)
theorem dX0_costAt_65 : decode cX0_costAt 65 = .ok (.iload 4, 2) := dk_21 4 (dk_at dksX0_costAt_2 18 rfl rfl)
theorem dX0_costAt_67 : decode cX0_costAt 67 = .ok (.invokevirtual 115, 3) := dk_182 0 115 (dk_at dksX0_costAt_2 20 rfl rfl)
theorem dX0_costAt_70 : decode cX0_costAt 70 = .ok (.instanceof 136, 3) := dk_193 0 136 (dk_at dksX0_costAt_3 0 rfl rfl)
theorem dX0_costAt_73 : decode cX0_costAt 73 = .ok (.ifCond .eq 5, 3) := dk_153 0 5 (dk_at dksX0_costAt_3 3 rfl rfl)
theorem dX0_costAt_76 : decode cX0_costAt 76 = .ok (.iconst 0, 1) := dk_3 (dk_at dksX0_costAt_3 6 rfl rfl)
theorem dX0_costAt_77 : decode cX0_costAt 77 = .ok (.ireturn, 1) := dk_172 (dk_at dksX0_costAt_3 7 rfl rfl)
theorem dX0_costAt_78 : decode cX0_costAt 78 = .ok (.iconst 0, 1) := dk_3 (dk_at dksX0_costAt_3 8 rfl rfl)
theorem dX0_costAt_79 : decode cX0_costAt 79 = .ok (.istore 6, 2) := dk_54 6 (dk_at dksX0_costAt_3 9 rfl rfl)
theorem dX0_costAt_81 : decode cX0_costAt 81 = .ok (.iload 6, 2) := dk_21 6 (dk_at dksX0_costAt_3 11 rfl rfl)
theorem dX0_costAt_83 : decode cX0_costAt 83 = .ok (.iload_n 3, 1) := dk_29 (dk_at dksX0_costAt_3 13 rfl rfl)
theorem dX0_costAt_84 : decode cX0_costAt 84 = .ok (.if_icmp .ge 32, 3) := dk_162 0 32 (dk_at dksX0_costAt_3 14 rfl rfl)
theorem dX0_costAt_87 : decode cX0_costAt 87 = .ok (.aload_n 0, 1) := dk_42 (dk_at dksX0_costAt_3 17 rfl rfl)
theorem dX0_costAt_88 : decode cX0_costAt 88 = .ok (.getfield 129, 3) := dk_180 0 129 (dk_at dksX0_costAt_3 18 rfl rfl)
theorem dX0_costAt_91 : decode cX0_costAt 91 = .ok (.iconst 1, 1) := dk_4 (dk_at dksX0_costAt_3 21 rfl rfl)
theorem dX0_costAt_92 : decode cX0_costAt 92 = .ok (.invokestatic 132, 3) := dk_184 0 132 (dk_at dksX0_costAt_4 0 rfl rfl)
theorem dX0_costAt_95 : decode cX0_costAt 95 = .ok (.ifCond .eq 21, 3) := dk_153 0 21 (dk_at dksX0_costAt_4 3 rfl rfl)
theorem dX0_costAt_98 : decode cX0_costAt 98 = .ok (.aload_n 1, 1) := dk_43 (dk_at dksX0_costAt_4 6 rfl rfl)
theorem dX0_costAt_99 : decode cX0_costAt 99 = .ok (.iload 6, 2) := dk_21 6 (dk_at dksX0_costAt_4 7 rfl rfl)
theorem dX0_costAt_101 : decode cX0_costAt 101 = .ok (.iaload, 1) := dk_46 (dk_at dksX0_costAt_4 9 rfl rfl)
theorem dX0_costAt_102 : decode cX0_costAt 102 = .ok (.aload_n 1, 1) := dk_43 (dk_at dksX0_costAt_4 10 rfl rfl)
theorem dX0_costAt_103 : decode cX0_costAt 103 = .ok (.iload_n 3, 1) := dk_29 (dk_at dksX0_costAt_4 11 rfl rfl)
theorem dX0_costAt_104 : decode cX0_costAt 104 = .ok (.iaload, 1) := dk_46 (dk_at dksX0_costAt_4 12 rfl rfl)
theorem dX0_costAt_105 : decode cX0_costAt 105 = .ok (.if_icmp .ne 5, 3) := dk_160 0 5 (dk_at dksX0_costAt_4 13 rfl rfl)
theorem dX0_costAt_108 : decode cX0_costAt 108 = .ok (.iconst 0, 1) := dk_3 (dk_at dksX0_costAt_4 16 rfl rfl)
theorem dX0_costAt_109 : decode cX0_costAt 109 = .ok (.ireturn, 1) := dk_172 (dk_at dksX0_costAt_4 17 rfl rfl)
theorem dX0_costAt_110 : decode cX0_costAt 110 = .ok (.iinc 6 1, 3) := dk_132 6 1 (dk_at dksX0_costAt_4 18 rfl rfl)
theorem dX0_costAt_113 : decode cX0_costAt 113 = .ok (.goto (-32), 3) := dk_167 255 224 (dk_at dksX0_costAt_4 21 rfl rfl)
theorem dX0_costAt_116 : decode cX0_costAt 116 = .ok (.aload_n 0, 1) := dk_42 (dk_at dksX0_costAt_5 0 rfl rfl)
theorem dX0_costAt_117 : decode cX0_costAt 117 = .ok (.getfield 129, 3) := dk_180 0 129 (dk_at dksX0_costAt_5 1 rfl rfl)
theorem dX0_costAt_120 : decode cX0_costAt 120 = .ok (.iconst 2, 1) := dk_5 (dk_at dksX0_costAt_5 4 rfl rfl)
theorem dX0_costAt_121 : decode cX0_costAt 121 = .ok (.invokestatic 132, 3) := dk_184 0 132 (dk_at dksX0_costAt_5 5 rfl rfl)
theorem dX0_costAt_124 : decode cX0_costAt 124 = .ok (.ifCond .eq 33, 3) := dk_153 0 33 (dk_at dksX0_costAt_5 8 rfl rfl)
theorem dX0_costAt_127 : decode cX0_costAt 127 = .ok (.aload_n 0, 1) := dk_42 (dk_at dksX0_costAt_5 11 rfl rfl)
theorem dX0_costAt_128 : decode cX0_costAt 128 = .ok (.aload_n 1, 1) := dk_43 (dk_at dksX0_costAt_5 12 rfl rfl)
theorem dX0_costAt_129 : decode cX0_costAt 129 = .ok (.iload_n 3, 1) := dk_29 (dk_at dksX0_costAt_5 13 rfl rfl)
theorem dX0_costAt_130 : decode cX0_costAt 130 = .ok (.iconst 1, 1) := dk_4 (dk_at dksX0_costAt_5 14 rfl rfl)
theorem dX0_costAt_131 : decode cX0_costAt 131 = .ok (.isub, 1) := dk_100 (dk_at dksX0_costAt_5 15 rfl rfl)
theorem dX0_costAt_132 : decode cX0_costAt 132 = .ok (.iload 4, 2) := dk_21 4 (dk_at dksX0_costAt_5 16 rfl rfl)
theorem dX0_costAt_134 : decode cX0_costAt 134 = .ok (.invokevirtual 138, 3) := dk_182 0 138 (dk_at dksX0_costAt_5 18 rfl rfl)
theorem dX0_costAt_137 : decode cX0_costAt 137 = .ok (.ifCond .eq 20, 3) := dk_153 0 20 (dk_at dksX0_costAt_5 21 rfl rfl)
theorem dX0_costAt_140 : decode cX0_costAt 140 = .ok (.aload_n 0, 1) := dk_42 (dk_at dksX0_costAt_6 0 rfl rfl)
theorem dX0_costAt_141 : decode cX0_costAt 141 = .ok (.aload_n 1, 1) := dk_43 (dk_at dksX0_costAt_6 1 rfl rfl)
theorem dX0_costAt_142 : decode cX0_costAt 142 = .ok (.iload_n 3, 1) := dk_29 (dk_at dksX0_costAt_6 2 rfl rfl)
theorem dX0_costAt_143 : decode cX0_costAt 143 = .ok (.iconst 2, 1) := dk_5 (dk_at dksX0_costAt_6 3 rfl rfl)
theorem dX0_costAt_144 : decode cX0_costAt 144 = .ok (.isub, 1) := dk_100 (dk_at dksX0_costAt_6 4 rfl rfl)
theorem dX0_costAt_145 : decode cX0_costAt 145 = .ok (.iload 4, 2) := dk_21 4 (dk_at dksX0_costAt_6 5 rfl rfl)
theorem dX0_costAt_147 : decode cX0_costAt 147 = .ok (.invokevirtual 138, 3) := dk_182 0 138 (dk_at dksX0_costAt_6 7 rfl rfl)
theorem dX0_costAt_150 : decode cX0_costAt 150 = .ok (.ifCond .eq 7, 3) := dk_153 0 7 (dk_at dksX0_costAt_6 10 rfl rfl)
theorem dX0_costAt_153 : decode cX0_costAt 153 = .ok (.iconst 1, 1) := dk_4 (dk_at dksX0_costAt_6 13 rfl rfl)
theorem dX0_costAt_154 : decode cX0_costAt 154 = .ok (.goto 4, 3) := dk_167 0 4 (dk_at dksX0_costAt_6 14 rfl rfl)
theorem dX0_costAt_157 : decode cX0_costAt 157 = .ok (.iconst 0, 1) := dk_3 (dk_at dksX0_costAt_6 17 rfl rfl)
theorem dX0_costAt_158 : decode cX0_costAt 158 = .ok (.istore 6, 2) := dk_54 6 (dk_at dksX0_costAt_6 18 rfl rfl)
theorem dX0_costAt_160 : decode cX0_costAt 160 = .ok (.iload 6, 2) := dk_21 6 (dk_at dksX0_costAt_6 20 rfl rfl)
theorem dX0_costAt_162 : decode cX0_costAt 162 = .ok (.ifCond .eq 10, 3) := dk_153 0 10 (dk_at dksX0_costAt_7 0 rfl rfl)
theorem dX0_costAt_165 : decode cX0_costAt 165 = .ok (.iload 5, 2) := dk_21 5 (dk_at dksX0_costAt_7 3 rfl rfl)
theorem dX0_costAt_167 : decode cX0_costAt 167 = .ok (.iconst 1, 1) := dk_4 (dk_at dksX0_costAt_7 5 rfl rfl)
theorem dX0_costAt_168 : decode cX0_costAt 168 = .ok (.iadd, 1) := dk_96 (dk_at dksX0_costAt_7 6 rfl rfl)
theorem dX0_costAt_169 : decode cX0_costAt 169 = .ok (.goto 5, 3) := dk_167 0 5 (dk_at dksX0_costAt_7 7 rfl rfl)
theorem dX0_costAt_172 : decode cX0_costAt 172 = .ok (.iload 5, 2) := dk_21 5 (dk_at dksX0_costAt_7 10 rfl rfl)
theorem dX0_costAt_174 : decode cX0_costAt 174 = .ok (.ireturn, 1) := dk_172 (dk_at dksX0_costAt_7 12 rfl rfl)
abbrev cX0_has : ByteArray := prog_1_method_2_code
def yX0_has : MethodName := ⟨RX0, "has", "(II)Z"⟩
def dkwX0_has_0 : List UInt8 := [26, 27, 122, 4, 126, 4, 160, 0, 7, 4, 167, 0, 4, 3, 172]
abbrev dktX0_has_0 : List UInt8 := dkwX0_has_0 ++ []
theorem dksX0_has_0 : cX0_has.data.toList.drop 0 = dktX0_has_0 := by decide +kernel
theorem dX0_has_0 : decode cX0_has 0 = .ok (.iload_n 0, 1) := dk_26 (dk_at dksX0_has_0 0 rfl rfl)
theorem dX0_has_1 : decode cX0_has 1 = .ok (.iload_n 1, 1) := dk_27 (dk_at dksX0_has_0 1 rfl rfl)
theorem dX0_has_2 : decode cX0_has 2 = .ok (.ishr, 1) := dk_122 (dk_at dksX0_has_0 2 rfl rfl)
theorem dX0_has_3 : decode cX0_has 3 = .ok (.iconst 1, 1) := dk_4 (dk_at dksX0_has_0 3 rfl rfl)
theorem dX0_has_4 : decode cX0_has 4 = .ok (.iand, 1) := dk_126 (dk_at dksX0_has_0 4 rfl rfl)
theorem dX0_has_5 : decode cX0_has 5 = .ok (.iconst 1, 1) := dk_4 (dk_at dksX0_has_0 5 rfl rfl)
theorem dX0_has_6 : decode cX0_has 6 = .ok (.if_icmp .ne 7, 3) := dk_160 0 7 (dk_at dksX0_has_0 6 rfl rfl)
theorem dX0_has_9 : decode cX0_has 9 = .ok (.iconst 1, 1) := dk_4 (dk_at dksX0_has_0 9 rfl rfl)
theorem dX0_has_10 : decode cX0_has 10 = .ok (.goto 4, 3) := dk_167 0 4 (dk_at dksX0_has_0 10 rfl rfl)
theorem dX0_has_13 : decode cX0_has 13 = .ok (.iconst 0, 1) := dk_3 (dk_at dksX0_has_0 13 rfl rfl)
theorem dX0_has_14 : decode cX0_has 14 = .ok (.ireturn, 1) := dk_172 (dk_at dksX0_has_0 14 rfl rfl)
abbrev cX0_isAdjective : ByteArray := prog_1_method_10_code
def yX0_isAdjective : MethodName := ⟨RX0, "isAdjective", "([III)Z"⟩
def dkwX0_isAdjective_1 : List UInt8 := [153, 0, 7, 4, 167, 0, 4, 3, 172]
abbrev dktX0_isAdjective_1 : List UInt8 := dkwX0_isAdjective_1 ++ []
def dkwX0_isAdjective_0 : List UInt8 := [28, 155, 0, 28, 43, 28, 46, 2, 159, 0, 21, 42, 43, 28, 46, 29, 182, 0, 115, 182, 0, 119]
abbrev dktX0_isAdjective_0 : List UInt8 := dkwX0_isAdjective_0 ++ dktX0_isAdjective_1
theorem dksX0_isAdjective_0 : cX0_isAdjective.data.toList.drop 0 = dktX0_isAdjective_0 := by decide +kernel
theorem dksX0_isAdjective_1 : cX0_isAdjective.data.toList.drop 22 = dktX0_isAdjective_1 := dk_seg dksX0_isAdjective_0 22 rfl rfl
theorem dX0_isAdjective_0 : decode cX0_isAdjective 0 = .ok (.iload_n 2, 1) := dk_28 (dk_at dksX0_isAdjective_0 0 rfl rfl)
theorem dX0_isAdjective_1 : decode cX0_isAdjective 1 = .ok (.ifCond .lt 28, 3) := dk_155 0 28 (dk_at dksX0_isAdjective_0 1 rfl rfl)
theorem dX0_isAdjective_4 : decode cX0_isAdjective 4 = .ok (.aload_n 1, 1) := dk_43 (dk_at dksX0_isAdjective_0 4 rfl rfl)
theorem dX0_isAdjective_5 : decode cX0_isAdjective 5 = .ok (.iload_n 2, 1) := dk_28 (dk_at dksX0_isAdjective_0 5 rfl rfl)
theorem dX0_isAdjective_6 : decode cX0_isAdjective 6 = .ok (.iaload, 1) := dk_46 (dk_at dksX0_isAdjective_0 6 rfl rfl)
theorem dX0_isAdjective_7 : decode cX0_isAdjective 7 = .ok (.iconst (-1), 1) := dk_2 (dk_at dksX0_isAdjective_0 7 rfl rfl)
theorem dX0_isAdjective_8 : decode cX0_isAdjective 8 = .ok (.if_icmp .eq 21, 3) := dk_159 0 21 (dk_at dksX0_isAdjective_0 8 rfl rfl)
theorem dX0_isAdjective_11 : decode cX0_isAdjective 11 = .ok (.aload_n 0, 1) := dk_42 (dk_at dksX0_isAdjective_0 11 rfl rfl)
theorem dX0_isAdjective_12 : decode cX0_isAdjective 12 = .ok (.aload_n 1, 1) := dk_43 (dk_at dksX0_isAdjective_0 12 rfl rfl)
theorem dX0_isAdjective_13 : decode cX0_isAdjective 13 = .ok (.iload_n 2, 1) := dk_28 (dk_at dksX0_isAdjective_0 13 rfl rfl)
theorem dX0_isAdjective_14 : decode cX0_isAdjective 14 = .ok (.iaload, 1) := dk_46 (dk_at dksX0_isAdjective_0 14 rfl rfl)
theorem dX0_isAdjective_15 : decode cX0_isAdjective 15 = .ok (.iload_n 3, 1) := dk_29 (dk_at dksX0_isAdjective_0 15 rfl rfl)
theorem dX0_isAdjective_16 : decode cX0_isAdjective 16 = .ok (.invokevirtual 115, 3) := dk_182 0 115 (dk_at dksX0_isAdjective_0 16 rfl rfl)
theorem dX0_isAdjective_19 : decode cX0_isAdjective 19 = .ok (.invokevirtual 119, 3) := dk_182 0 119 (dk_at dksX0_isAdjective_0 19 rfl rfl)
theorem dX0_isAdjective_22 : decode cX0_isAdjective 22 = .ok (.ifCond .eq 7, 3) := dk_153 0 7 (dk_at dksX0_isAdjective_1 0 rfl rfl)
theorem dX0_isAdjective_25 : decode cX0_isAdjective 25 = .ok (.iconst 1, 1) := dk_4 (dk_at dksX0_isAdjective_1 3 rfl rfl)
theorem dX0_isAdjective_26 : decode cX0_isAdjective 26 = .ok (.goto 4, 3) := dk_167 0 4 (dk_at dksX0_isAdjective_1 4 rfl rfl)
theorem dX0_isAdjective_29 : decode cX0_isAdjective 29 = .ok (.iconst 0, 1) := dk_3 (dk_at dksX0_isAdjective_1 7 rfl rfl)
theorem dX0_isAdjective_30 : decode cX0_isAdjective 30 = .ok (.ireturn, 1) := dk_172 (dk_at dksX0_isAdjective_1 8 rfl rfl)
abbrev cX0_put : ByteArray := prog_1_method_29_code
def yX0_put : MethodName := ⟨RX0, "put", "(I)I"⟩
def dkwX0_put_2 : List UInt8 := [180, 0, 89, 172]
abbrev dktX0_put_2 : List UInt8 := dkwX0_put_2 ++ []
def dkwX0_put_1 : List UInt8 := [160, 0, 6, 16, 251, 172, 42, 180, 0, 171, 42, 89, 180, 0, 89, 90, 4, 96, 181, 0, 89, 27, 79, 42]
abbrev dktX0_put_1 : List UInt8 := dkwX0_put_1 ++ dktX0_put_2
def dkwX0_put_0 : List UInt8 := [27, 2, 159, 0, 14, 42, 27, 182, 0, 246, 154, 0, 6, 16, 254, 172, 42, 180, 0, 89, 16, 8]
abbrev dktX0_put_0 : List UInt8 := dkwX0_put_0 ++ dktX0_put_1
theorem dksX0_put_0 : cX0_put.data.toList.drop 0 = dktX0_put_0 := by decide +kernel
theorem dksX0_put_1 : cX0_put.data.toList.drop 22 = dktX0_put_1 := dk_seg dksX0_put_0 22 rfl rfl
theorem dksX0_put_2 : cX0_put.data.toList.drop 46 = dktX0_put_2 := dk_seg dksX0_put_1 24 rfl rfl
theorem dX0_put_0 : decode cX0_put 0 = .ok (.iload_n 1, 1) := dk_27 (dk_at dksX0_put_0 0 rfl rfl)
theorem dX0_put_1 : decode cX0_put 1 = .ok (.iconst (-1), 1) := dk_2 (dk_at dksX0_put_0 1 rfl rfl)
theorem dX0_put_2 : decode cX0_put 2 = .ok (.if_icmp .eq 14, 3) := dk_159 0 14 (dk_at dksX0_put_0 2 rfl rfl)
theorem dX0_put_5 : decode cX0_put 5 = .ok (.aload_n 0, 1) := dk_42 (dk_at dksX0_put_0 5 rfl rfl)
theorem dX0_put_6 : decode cX0_put 6 = .ok (.iload_n 1, 1) := dk_27 (dk_at dksX0_put_0 6 rfl rfl)
theorem dX0_put_7 : decode cX0_put 7 = .ok (.invokevirtual 246, 3) := dk_182 0 246 (dk_at dksX0_put_0 7 rfl rfl)
theorem dX0_put_10 : decode cX0_put 10 = .ok (.ifCond .ne 6, 3) := dk_154 0 6 (dk_at dksX0_put_0 10 rfl rfl)
theorem dX0_put_13 : decode cX0_put 13 = .ok (.bipush (-2), 2) := dk_16 254 (dk_at dksX0_put_0 13 rfl rfl)
theorem dX0_put_15 : decode cX0_put 15 = .ok (.ireturn, 1) := dk_172 (dk_at dksX0_put_0 15 rfl rfl)
theorem dX0_put_16 : decode cX0_put 16 = .ok (.aload_n 0, 1) := dk_42 (dk_at dksX0_put_0 16 rfl rfl)
theorem dX0_put_17 : decode cX0_put 17 = .ok (.getfield 89, 3) := dk_180 0 89 (dk_at dksX0_put_0 17 rfl rfl)
theorem dX0_put_20 : decode cX0_put 20 = .ok (.bipush 8, 2) := dk_16 8 (dk_at dksX0_put_0 20 rfl rfl)
theorem dX0_put_22 : decode cX0_put 22 = .ok (.if_icmp .ne 6, 3) := dk_160 0 6 (dk_at dksX0_put_1 0 rfl rfl)
theorem dX0_put_25 : decode cX0_put 25 = .ok (.bipush (-5), 2) := dk_16 251 (dk_at dksX0_put_1 3 rfl rfl)
theorem dX0_put_27 : decode cX0_put 27 = .ok (.ireturn, 1) := dk_172 (dk_at dksX0_put_1 5 rfl rfl)
theorem dX0_put_28 : decode cX0_put 28 = .ok (.aload_n 0, 1) := dk_42 (dk_at dksX0_put_1 6 rfl rfl)
theorem dX0_put_29 : decode cX0_put 29 = .ok (.getfield 171, 3) := dk_180 0 171 (dk_at dksX0_put_1 7 rfl rfl)
theorem dX0_put_32 : decode cX0_put 32 = .ok (.aload_n 0, 1) := dk_42 (dk_at dksX0_put_1 10 rfl rfl)
theorem dX0_put_33 : decode cX0_put 33 = .ok (.dup, 1) := dk_89 (dk_at dksX0_put_1 11 rfl rfl)
theorem dX0_put_34 : decode cX0_put 34 = .ok (.getfield 89, 3) := dk_180 0 89 (dk_at dksX0_put_1 12 rfl rfl)
theorem dX0_put_37 : decode cX0_put 37 = .ok (.dup_x1, 1) := dk_90 (dk_at dksX0_put_1 15 rfl rfl)
theorem dX0_put_38 : decode cX0_put 38 = .ok (.iconst 1, 1) := dk_4 (dk_at dksX0_put_1 16 rfl rfl)
theorem dX0_put_39 : decode cX0_put 39 = .ok (.iadd, 1) := dk_96 (dk_at dksX0_put_1 17 rfl rfl)
theorem dX0_put_40 : decode cX0_put 40 = .ok (.putfield 89, 3) := dk_181 0 89 (dk_at dksX0_put_1 18 rfl rfl)
theorem dX0_put_43 : decode cX0_put 43 = .ok (.iload_n 1, 1) := dk_27 (dk_at dksX0_put_1 21 rfl rfl)
theorem dX0_put_44 : decode cX0_put 44 = .ok (.iastore, 1) := dk_79 (dk_at dksX0_put_1 22 rfl rfl)
theorem dX0_put_45 : decode cX0_put 45 = .ok (.aload_n 0, 1) := dk_42 (dk_at dksX0_put_1 23 rfl rfl)
theorem dX0_put_46 : decode cX0_put 46 = .ok (.getfield 89, 3) := dk_180 0 89 (dk_at dksX0_put_2 0 rfl rfl)
theorem dX0_put_49 : decode cX0_put 49 = .ok (.ireturn, 1) := dk_172 (dk_at dksX0_put_2 3 rfl rfl)
abbrev cX0_wipe : ByteArray := prog_1_method_30_code
def yX0_wipe : MethodName := ⟨RX0, "wipe", "()I"⟩
def dkwX0_wipe_0 : List UInt8 := [42, 180, 0, 89, 60, 42, 3, 181, 0, 89, 27, 172]
abbrev dktX0_wipe_0 : List UInt8 := dkwX0_wipe_0 ++ []
theorem dksX0_wipe_0 : cX0_wipe.data.toList.drop 0 = dktX0_wipe_0 := by decide +kernel
theorem dX0_wipe_0 : decode cX0_wipe 0 = .ok (.aload_n 0, 1) := dk_42 (dk_at dksX0_wipe_0 0 rfl rfl)
theorem dX0_wipe_1 : decode cX0_wipe 1 = .ok (.getfield 89, 3) := dk_180 0 89 (dk_at dksX0_wipe_0 1 rfl rfl)
theorem dX0_wipe_4 : decode cX0_wipe 4 = .ok (.istore_n 1, 1) := dk_60 (dk_at dksX0_wipe_0 4 rfl rfl)
theorem dX0_wipe_5 : decode cX0_wipe 5 = .ok (.aload_n 0, 1) := dk_42 (dk_at dksX0_wipe_0 5 rfl rfl)
theorem dX0_wipe_6 : decode cX0_wipe 6 = .ok (.iconst 0, 1) := dk_3 (dk_at dksX0_wipe_0 6 rfl rfl)
theorem dX0_wipe_7 : decode cX0_wipe 7 = .ok (.putfield 89, 3) := dk_181 0 89 (dk_at dksX0_wipe_0 7 rfl rfl)
theorem dX0_wipe_10 : decode cX0_wipe 10 = .ok (.iload_n 1, 1) := dk_27 (dk_at dksX0_wipe_0 10 rfl rfl)
theorem dX0_wipe_11 : decode cX0_wipe 11 = .ok (.ireturn, 1) := dk_172 (dk_at dksX0_wipe_0 11 rfl rfl)
abbrev cX0_line : ByteArray := prog_1_method_31_code
def yX0_line : MethodName := ⟨RX0, "line", "(I)I"⟩
def dkwX0_line_1 : List UInt8 := [167, 0, 5, 16, 253, 172]
abbrev dktX0_line_1 : List UInt8 := dkwX0_line_1 ++ []
def dkwX0_line_0 : List UInt8 := [27, 133, 9, 42, 180, 0, 89, 4, 100, 133, 184, 0, 211, 153, 0, 12, 42, 180, 0, 171, 27, 46]
abbrev dktX0_line_0 : List UInt8 := dkwX0_line_0 ++ dktX0_line_1
theorem dksX0_line_0 : cX0_line.data.toList.drop 0 = dktX0_line_0 := by decide +kernel
theorem dksX0_line_1 : cX0_line.data.toList.drop 22 = dktX0_line_1 := dk_seg dksX0_line_0 22 rfl rfl
theorem dX0_line_0 : decode cX0_line 0 = .ok (.iload_n 1, 1) := dk_27 (dk_at dksX0_line_0 0 rfl rfl)
theorem dX0_line_1 : decode cX0_line 1 = .ok (.i2l, 1) := dk_133 (dk_at dksX0_line_0 1 rfl rfl)
theorem dX0_line_2 : decode cX0_line 2 = .ok (.lconst 0, 1) := dk_9 (dk_at dksX0_line_0 2 rfl rfl)
theorem dX0_line_3 : decode cX0_line 3 = .ok (.aload_n 0, 1) := dk_42 (dk_at dksX0_line_0 3 rfl rfl)
theorem dX0_line_4 : decode cX0_line 4 = .ok (.getfield 89, 3) := dk_180 0 89 (dk_at dksX0_line_0 4 rfl rfl)
theorem dX0_line_7 : decode cX0_line 7 = .ok (.iconst 1, 1) := dk_4 (dk_at dksX0_line_0 7 rfl rfl)
theorem dX0_line_8 : decode cX0_line 8 = .ok (.isub, 1) := dk_100 (dk_at dksX0_line_0 8 rfl rfl)
theorem dX0_line_9 : decode cX0_line 9 = .ok (.i2l, 1) := dk_133 (dk_at dksX0_line_0 9 rfl rfl)
theorem dX0_line_10 : decode cX0_line 10 = .ok (.invokestatic 211, 3) := dk_184 0 211 (dk_at dksX0_line_0 10 rfl rfl)
theorem dX0_line_13 : decode cX0_line 13 = .ok (.ifCond .eq 12, 3) := dk_153 0 12 (dk_at dksX0_line_0 13 rfl rfl)
theorem dX0_line_16 : decode cX0_line 16 = .ok (.aload_n 0, 1) := dk_42 (dk_at dksX0_line_0 16 rfl rfl)
theorem dX0_line_17 : decode cX0_line 17 = .ok (.getfield 171, 3) := dk_180 0 171 (dk_at dksX0_line_0 17 rfl rfl)
theorem dX0_line_20 : decode cX0_line 20 = .ok (.iload_n 1, 1) := dk_27 (dk_at dksX0_line_0 20 rfl rfl)
theorem dX0_line_21 : decode cX0_line 21 = .ok (.iaload, 1) := dk_46 (dk_at dksX0_line_0 21 rfl rfl)
theorem dX0_line_22 : decode cX0_line 22 = .ok (.goto 5, 3) := dk_167 0 5 (dk_at dksX0_line_1 0 rfl rfl)
theorem dX0_line_25 : decode cX0_line 25 = .ok (.bipush (-3), 2) := dk_16 253 (dk_at dksX0_line_1 3 rfl rfl)
theorem dX0_line_27 : decode cX0_line 27 = .ok (.ireturn, 1) := dk_172 (dk_at dksX0_line_1 5 rfl rfl)
abbrev cX0_cost : ByteArray := prog_1_method_32_code
def yX0_cost : MethodName := ⟨RX0, "cost", "(II)I"⟩
def dkwX0_cost_1 : List UInt8 := [42, 27, 182, 0, 249, 42, 180, 0, 171, 42, 180, 0, 89, 28, 182, 1, 12, 167, 0, 5, 16, 253, 172]
abbrev dktX0_cost_1 : List UInt8 := dkwX0_cost_1 ++ []
def dkwX0_cost_0 : List UInt8 := [42, 27, 182, 0, 215, 154, 0, 6, 16, 254, 172, 28, 133, 9, 20, 1, 18, 184, 0, 211, 153, 0, 24, 42]
abbrev dktX0_cost_0 : List UInt8 := dkwX0_cost_0 ++ dktX0_cost_1
theorem dksX0_cost_0 : cX0_cost.data.toList.drop 0 = dktX0_cost_0 := by decide +kernel
theorem dksX0_cost_1 : cX0_cost.data.toList.drop 24 = dktX0_cost_1 := dk_seg dksX0_cost_0 24 rfl rfl
theorem dX0_cost_0 : decode cX0_cost 0 = .ok (.aload_n 0, 1) := dk_42 (dk_at dksX0_cost_0 0 rfl rfl)
theorem dX0_cost_1 : decode cX0_cost 1 = .ok (.iload_n 1, 1) := dk_27 (dk_at dksX0_cost_0 1 rfl rfl)
theorem dX0_cost_2 : decode cX0_cost 2 = .ok (.invokevirtual 215, 3) := dk_182 0 215 (dk_at dksX0_cost_0 2 rfl rfl)
theorem dX0_cost_5 : decode cX0_cost 5 = .ok (.ifCond .ne 6, 3) := dk_154 0 6 (dk_at dksX0_cost_0 5 rfl rfl)
theorem dX0_cost_8 : decode cX0_cost 8 = .ok (.bipush (-2), 2) := dk_16 254 (dk_at dksX0_cost_0 8 rfl rfl)
theorem dX0_cost_10 : decode cX0_cost 10 = .ok (.ireturn, 1) := dk_172 (dk_at dksX0_cost_0 10 rfl rfl)
theorem dX0_cost_11 : decode cX0_cost 11 = .ok (.iload_n 2, 1) := dk_28 (dk_at dksX0_cost_0 11 rfl rfl)
theorem dX0_cost_12 : decode cX0_cost 12 = .ok (.i2l, 1) := dk_133 (dk_at dksX0_cost_0 12 rfl rfl)
theorem dX0_cost_13 : decode cX0_cost 13 = .ok (.lconst 0, 1) := dk_9 (dk_at dksX0_cost_0 13 rfl rfl)
theorem dX0_cost_14 : decode cX0_cost 14 = .ok (.ldc2_w 274, 3) := dk_20 1 18 (dk_at dksX0_cost_0 14 rfl rfl)
theorem dX0_cost_17 : decode cX0_cost 17 = .ok (.invokestatic 211, 3) := dk_184 0 211 (dk_at dksX0_cost_0 17 rfl rfl)
theorem dX0_cost_20 : decode cX0_cost 20 = .ok (.ifCond .eq 24, 3) := dk_153 0 24 (dk_at dksX0_cost_0 20 rfl rfl)
theorem dX0_cost_23 : decode cX0_cost 23 = .ok (.aload_n 0, 1) := dk_42 (dk_at dksX0_cost_0 23 rfl rfl)
theorem dX0_cost_24 : decode cX0_cost 24 = .ok (.aload_n 0, 1) := dk_42 (dk_at dksX0_cost_1 0 rfl rfl)
theorem dX0_cost_25 : decode cX0_cost 25 = .ok (.iload_n 1, 1) := dk_27 (dk_at dksX0_cost_1 1 rfl rfl)
theorem dX0_cost_26 : decode cX0_cost 26 = .ok (.invokevirtual 249, 3) := dk_182 0 249 (dk_at dksX0_cost_1 2 rfl rfl)
theorem dX0_cost_29 : decode cX0_cost 29 = .ok (.aload_n 0, 1) := dk_42 (dk_at dksX0_cost_1 5 rfl rfl)
theorem dX0_cost_30 : decode cX0_cost 30 = .ok (.getfield 171, 3) := dk_180 0 171 (dk_at dksX0_cost_1 6 rfl rfl)
theorem dX0_cost_33 : decode cX0_cost 33 = .ok (.aload_n 0, 1) := dk_42 (dk_at dksX0_cost_1 9 rfl rfl)
theorem dX0_cost_34 : decode cX0_cost 34 = .ok (.getfield 89, 3) := dk_180 0 89 (dk_at dksX0_cost_1 10 rfl rfl)
theorem dX0_cost_37 : decode cX0_cost 37 = .ok (.iload_n 2, 1) := dk_28 (dk_at dksX0_cost_1 13 rfl rfl)
theorem dX0_cost_38 : decode cX0_cost 38 = .ok (.invokevirtual 268, 3) := dk_182 1 12 (dk_at dksX0_cost_1 14 rfl rfl)
theorem dX0_cost_41 : decode cX0_cost 41 = .ok (.goto 5, 3) := dk_167 0 5 (dk_at dksX0_cost_1 17 rfl rfl)
theorem dX0_cost_44 : decode cX0_cost 44 = .ok (.bipush (-3), 2) := dk_16 253 (dk_at dksX0_cost_1 20 rfl rfl)
theorem dX0_cost_46 : decode cX0_cost 46 = .ok (.ireturn, 1) := dk_172 (dk_at dksX0_cost_1 22 rfl rfl)
abbrev cX0_good : ByteArray := prog_1_method_33_code
def yX0_good : MethodName := ⟨RX0, "good", "()I"⟩
def dkwX0_good_0 : List UInt8 := [42, 42, 180, 0, 171, 42, 180, 0, 89, 182, 1, 20, 153, 0, 7, 4, 167, 0, 4, 3, 172]
abbrev dktX0_good_0 : List UInt8 := dkwX0_good_0 ++ []
theorem dksX0_good_0 : cX0_good.data.toList.drop 0 = dktX0_good_0 := by decide +kernel
theorem dX0_good_0 : decode cX0_good 0 = .ok (.aload_n 0, 1) := dk_42 (dk_at dksX0_good_0 0 rfl rfl)
theorem dX0_good_1 : decode cX0_good 1 = .ok (.aload_n 0, 1) := dk_42 (dk_at dksX0_good_0 1 rfl rfl)
theorem dX0_good_2 : decode cX0_good 2 = .ok (.getfield 171, 3) := dk_180 0 171 (dk_at dksX0_good_0 2 rfl rfl)
theorem dX0_good_5 : decode cX0_good 5 = .ok (.aload_n 0, 1) := dk_42 (dk_at dksX0_good_0 5 rfl rfl)
theorem dX0_good_6 : decode cX0_good 6 = .ok (.getfield 89, 3) := dk_180 0 89 (dk_at dksX0_good_0 6 rfl rfl)
theorem dX0_good_9 : decode cX0_good 9 = .ok (.invokevirtual 276, 3) := dk_182 1 20 (dk_at dksX0_good_0 9 rfl rfl)
theorem dX0_good_12 : decode cX0_good 12 = .ok (.ifCond .eq 7, 3) := dk_153 0 7 (dk_at dksX0_good_0 12 rfl rfl)
theorem dX0_good_15 : decode cX0_good 15 = .ok (.iconst 1, 1) := dk_4 (dk_at dksX0_good_0 15 rfl rfl)
theorem dX0_good_16 : decode cX0_good 16 = .ok (.goto 4, 3) := dk_167 0 4 (dk_at dksX0_good_0 16 rfl rfl)
theorem dX0_good_19 : decode cX0_good 19 = .ok (.iconst 0, 1) := dk_3 (dk_at dksX0_good_0 19 rfl rfl)
theorem dX0_good_20 : decode cX0_good 20 = .ok (.ireturn, 1) := dk_172 (dk_at dksX0_good_0 20 rfl rfl)
abbrev cX0_isGood : ByteArray := prog_1_method_13_code
def yX0_isGood : MethodName := ⟨RX0, "isGood", "([II)Z"⟩
def dkwX0_isGood_4 : List UInt8 := [62, 132, 4, 1, 167, 255, 200, 29, 172]
abbrev dktX0_isGood_4 : List UInt8 := dkwX0_isGood_4 ++ []
def dkwX0_isGood_3 : List UInt8 := [182, 0, 162, 153, 0, 16, 42, 43, 21, 4, 4, 100, 46, 182, 0, 162, 154, 0, 7, 4, 167, 0, 4, 3]
abbrev dktX0_isGood_3 : List UInt8 := dkwX0_isGood_3 ++ dktX0_isGood_4
def dkwX0_isGood_2 : List UInt8 := [29, 153, 0, 52, 43, 21, 4, 46, 2, 159, 0, 36, 21, 4, 153, 0, 27, 42, 43, 21, 4, 46]
abbrev dktX0_isGood_2 : List UInt8 := dkwX0_isGood_2 ++ dktX0_isGood_3
def dkwX0_isGood_1 : List UInt8 := [180, 0, 83, 182, 0, 138, 154, 0, 7, 4, 167, 0, 4, 3, 62, 3, 54, 4, 21, 4, 28, 162, 0, 56]
abbrev dktX0_isGood_1 : List UInt8 := dkwX0_isGood_1 ++ dktX0_isGood_2
def dkwX0_isGood_0 : List UInt8 := [28, 158, 0, 34, 43, 28, 4, 100, 46, 2, 159, 0, 25, 42, 43, 28, 4, 100, 42, 180, 0, 49]
abbrev dktX0_isGood_0 : List UInt8 := dkwX0_isGood_0 ++ dktX0_isGood_1
theorem dksX0_isGood_0 : cX0_isGood.data.toList.drop 0 = dktX0_isGood_0 := by decide +kernel
theorem dksX0_isGood_1 : cX0_isGood.data.toList.drop 22 = dktX0_isGood_1 := dk_seg dksX0_isGood_0 22 rfl rfl
theorem dksX0_isGood_2 : cX0_isGood.data.toList.drop 46 = dktX0_isGood_2 := dk_seg dksX0_isGood_1 24 rfl rfl
theorem dksX0_isGood_3 : cX0_isGood.data.toList.drop 68 = dktX0_isGood_3 := dk_seg dksX0_isGood_2 22 rfl rfl
theorem dksX0_isGood_4 : cX0_isGood.data.toList.drop 92 = dktX0_isGood_4 := dk_seg dksX0_isGood_3 24 rfl rfl
theorem dX0_isGood_0 : decode cX0_isGood 0 = .ok (.iload_n 2, 1) := dk_28 (dk_at dksX0_isGood_0 0 rfl rfl)
theorem dX0_isGood_1 : decode cX0_isGood 1 = .ok (.ifCond .le 34, 3) := dk_158 0 34 (dk_at dksX0_isGood_0 1 rfl rfl)
theorem dX0_isGood_4 : decode cX0_isGood 4 = .ok (.aload_n 1, 1) := dk_43 (dk_at dksX0_isGood_0 4 rfl rfl)
theorem dX0_isGood_5 : decode cX0_isGood 5 = .ok (.iload_n 2, 1) := dk_28 (dk_at dksX0_isGood_0 5 rfl rfl)
theorem dX0_isGood_6 : decode cX0_isGood 6 = .ok (.iconst 1, 1) := dk_4 (dk_at dksX0_isGood_0 6 rfl rfl)
theorem dX0_isGood_7 : decode cX0_isGood 7 = .ok (.isub, 1) := dk_100 (dk_at dksX0_isGood_0 7 rfl rfl)
theorem dX0_isGood_8 : decode cX0_isGood 8 = .ok (.iaload, 1) := dk_46 (dk_at dksX0_isGood_0 8 rfl rfl)
theorem dX0_isGood_9 : decode cX0_isGood 9 = .ok (.iconst (-1), 1) := dk_2 (dk_at dksX0_isGood_0 9 rfl rfl)
theorem dX0_isGood_10 : decode cX0_isGood 10 = .ok (.if_icmp .eq 25, 3) := dk_159 0 25 (dk_at dksX0_isGood_0 10 rfl rfl)
theorem dX0_isGood_13 : decode cX0_isGood 13 = .ok (.aload_n 0, 1) := dk_42 (dk_at dksX0_isGood_0 13 rfl rfl)
theorem dX0_isGood_14 : decode cX0_isGood 14 = .ok (.aload_n 1, 1) := dk_43 (dk_at dksX0_isGood_0 14 rfl rfl)
theorem dX0_isGood_15 : decode cX0_isGood 15 = .ok (.iload_n 2, 1) := dk_28 (dk_at dksX0_isGood_0 15 rfl rfl)
theorem dX0_isGood_16 : decode cX0_isGood 16 = .ok (.iconst 1, 1) := dk_4 (dk_at dksX0_isGood_0 16 rfl rfl)
theorem dX0_isGood_17 : decode cX0_isGood 17 = .ok (.isub, 1) := dk_100 (dk_at dksX0_isGood_0 17 rfl rfl)
theorem dX0_isGood_18 : decode cX0_isGood 18 = .ok (.aload_n 0, 1) := dk_42 (dk_at dksX0_isGood_0 18 rfl rfl)
theorem dX0_isGood_19 : decode cX0_isGood 19 = .ok (.getfield 49, 3) := dk_180 0 49 (dk_at dksX0_isGood_0 19 rfl rfl)
theorem dX0_isGood_22 : decode cX0_isGood 22 = .ok (.getfield 83, 3) := dk_180 0 83 (dk_at dksX0_isGood_1 0 rfl rfl)
theorem dX0_isGood_25 : decode cX0_isGood 25 = .ok (.invokevirtual 138, 3) := dk_182 0 138 (dk_at dksX0_isGood_1 3 rfl rfl)
theorem dX0_isGood_28 : decode cX0_isGood 28 = .ok (.ifCond .ne 7, 3) := dk_154 0 7 (dk_at dksX0_isGood_1 6 rfl rfl)
theorem dX0_isGood_31 : decode cX0_isGood 31 = .ok (.iconst 1, 1) := dk_4 (dk_at dksX0_isGood_1 9 rfl rfl)
theorem dX0_isGood_32 : decode cX0_isGood 32 = .ok (.goto 4, 3) := dk_167 0 4 (dk_at dksX0_isGood_1 10 rfl rfl)
theorem dX0_isGood_35 : decode cX0_isGood 35 = .ok (.iconst 0, 1) := dk_3 (dk_at dksX0_isGood_1 13 rfl rfl)
theorem dX0_isGood_36 : decode cX0_isGood 36 = .ok (.istore_n 3, 1) := dk_62 (dk_at dksX0_isGood_1 14 rfl rfl)
theorem dX0_isGood_37 : decode cX0_isGood 37 = .ok (.iconst 0, 1) := dk_3 (dk_at dksX0_isGood_1 15 rfl rfl)
theorem dX0_isGood_38 : decode cX0_isGood 38 = .ok (.istore 4, 2) := dk_54 4 (dk_at dksX0_isGood_1 16 rfl rfl)
theorem dX0_isGood_40 : decode cX0_isGood 40 = .ok (.iload 4, 2) := dk_21 4 (dk_at dksX0_isGood_1 18 rfl rfl)
theorem dX0_isGood_42 : decode cX0_isGood 42 = .ok (.iload_n 2, 1) := dk_28 (dk_at dksX0_isGood_1 20 rfl rfl)
theorem dX0_isGood_43 : decode cX0_isGood 43 = .ok (.if_icmp .ge 56, 3) := dk_162 0 56 (dk_at dksX0_isGood_1 21 rfl rfl)
theorem dX0_isGood_46 : decode cX0_isGood 46 = .ok (.iload_n 3, 1) := dk_29 (dk_at dksX0_isGood_2 0 rfl rfl)
theorem dX0_isGood_47 : decode cX0_isGood 47 = .ok (.ifCond .eq 52, 3) := dk_153 0 52 (dk_at dksX0_isGood_2 1 rfl rfl)
theorem dX0_isGood_50 : decode cX0_isGood 50 = .ok (.aload_n 1, 1) := dk_43 (dk_at dksX0_isGood_2 4 rfl rfl)
theorem dX0_isGood_51 : decode cX0_isGood 51 = .ok (.iload 4, 2) := dk_21 4 (dk_at dksX0_isGood_2 5 rfl rfl)
theorem dX0_isGood_53 : decode cX0_isGood 53 = .ok (.iaload, 1) := dk_46 (dk_at dksX0_isGood_2 7 rfl rfl)
theorem dX0_isGood_54 : decode cX0_isGood 54 = .ok (.iconst (-1), 1) := dk_2 (dk_at dksX0_isGood_2 8 rfl rfl)
theorem dX0_isGood_55 : decode cX0_isGood 55 = .ok (.if_icmp .eq 36, 3) := dk_159 0 36 (dk_at dksX0_isGood_2 9 rfl rfl)
theorem dX0_isGood_58 : decode cX0_isGood 58 = .ok (.iload 4, 2) := dk_21 4 (dk_at dksX0_isGood_2 12 rfl rfl)
theorem dX0_isGood_60 : decode cX0_isGood 60 = .ok (.ifCond .eq 27, 3) := dk_153 0 27 (dk_at dksX0_isGood_2 14 rfl rfl)
theorem dX0_isGood_63 : decode cX0_isGood 63 = .ok (.aload_n 0, 1) := dk_42 (dk_at dksX0_isGood_2 17 rfl rfl)
theorem dX0_isGood_64 : decode cX0_isGood 64 = .ok (.aload_n 1, 1) := dk_43 (dk_at dksX0_isGood_2 18 rfl rfl)
theorem dX0_isGood_65 : decode cX0_isGood 65 = .ok (.iload 4, 2) := dk_21 4 (dk_at dksX0_isGood_2 19 rfl rfl)
theorem dX0_isGood_67 : decode cX0_isGood 67 = .ok (.iaload, 1) := dk_46 (dk_at dksX0_isGood_2 21 rfl rfl)
theorem dX0_isGood_68 : decode cX0_isGood 68 = .ok (.invokevirtual 162, 3) := dk_182 0 162 (dk_at dksX0_isGood_3 0 rfl rfl)
theorem dX0_isGood_71 : decode cX0_isGood 71 = .ok (.ifCond .eq 16, 3) := dk_153 0 16 (dk_at dksX0_isGood_3 3 rfl rfl)
theorem dX0_isGood_74 : decode cX0_isGood 74 = .ok (.aload_n 0, 1) := dk_42 (dk_at dksX0_isGood_3 6 rfl rfl)
theorem dX0_isGood_75 : decode cX0_isGood 75 = .ok (.aload_n 1, 1) := dk_43 (dk_at dksX0_isGood_3 7 rfl rfl)
theorem dX0_isGood_76 : decode cX0_isGood 76 = .ok (.iload 4, 2) := dk_21 4 (dk_at dksX0_isGood_3 8 rfl rfl)
theorem dX0_isGood_78 : decode cX0_isGood 78 = .ok (.iconst 1, 1) := dk_4 (dk_at dksX0_isGood_3 10 rfl rfl)
theorem dX0_isGood_79 : decode cX0_isGood 79 = .ok (.isub, 1) := dk_100 (dk_at dksX0_isGood_3 11 rfl rfl)
theorem dX0_isGood_80 : decode cX0_isGood 80 = .ok (.iaload, 1) := dk_46 (dk_at dksX0_isGood_3 12 rfl rfl)
theorem dX0_isGood_81 : decode cX0_isGood 81 = .ok (.invokevirtual 162, 3) := dk_182 0 162 (dk_at dksX0_isGood_3 13 rfl rfl)
theorem dX0_isGood_84 : decode cX0_isGood 84 = .ok (.ifCond .ne 7, 3) := dk_154 0 7 (dk_at dksX0_isGood_3 16 rfl rfl)
theorem dX0_isGood_87 : decode cX0_isGood 87 = .ok (.iconst 1, 1) := dk_4 (dk_at dksX0_isGood_3 19 rfl rfl)
theorem dX0_isGood_88 : decode cX0_isGood 88 = .ok (.goto 4, 3) := dk_167 0 4 (dk_at dksX0_isGood_3 20 rfl rfl)
theorem dX0_isGood_91 : decode cX0_isGood 91 = .ok (.iconst 0, 1) := dk_3 (dk_at dksX0_isGood_3 23 rfl rfl)
theorem dX0_isGood_92 : decode cX0_isGood 92 = .ok (.istore_n 3, 1) := dk_62 (dk_at dksX0_isGood_4 0 rfl rfl)
theorem dX0_isGood_93 : decode cX0_isGood 93 = .ok (.iinc 4 1, 3) := dk_132 4 1 (dk_at dksX0_isGood_4 1 rfl rfl)
theorem dX0_isGood_96 : decode cX0_isGood 96 = .ok (.goto (-56), 3) := dk_167 255 200 (dk_at dksX0_isGood_4 4 rfl rfl)
theorem dX0_isGood_99 : decode cX0_isGood 99 = .ok (.iload_n 3, 1) := dk_29 (dk_at dksX0_isGood_4 7 rfl rfl)
theorem dX0_isGood_100 : decode cX0_isGood 100 = .ok (.ireturn, 1) := dk_172 (dk_at dksX0_isGood_4 8 rfl rfl)
abbrev cX0_isNoun : ByteArray := prog_1_method_14_code
def yX0_isNoun : MethodName := ⟨RX0, "isNoun", "(I)Z"⟩
def dkwX0_isNoun_0 : List UInt8 := [42, 27, 42, 180, 0, 49, 180, 0, 83, 182, 0, 115, 182, 0, 166, 154, 0, 7, 4, 167, 0, 4, 3, 172]
abbrev dktX0_isNoun_0 : List UInt8 := dkwX0_isNoun_0 ++ []
theorem dksX0_isNoun_0 : cX0_isNoun.data.toList.drop 0 = dktX0_isNoun_0 := by decide +kernel
theorem dX0_isNoun_0 : decode cX0_isNoun 0 = .ok (.aload_n 0, 1) := dk_42 (dk_at dksX0_isNoun_0 0 rfl rfl)
theorem dX0_isNoun_1 : decode cX0_isNoun 1 = .ok (.iload_n 1, 1) := dk_27 (dk_at dksX0_isNoun_0 1 rfl rfl)
theorem dX0_isNoun_2 : decode cX0_isNoun 2 = .ok (.aload_n 0, 1) := dk_42 (dk_at dksX0_isNoun_0 2 rfl rfl)
theorem dX0_isNoun_3 : decode cX0_isNoun 3 = .ok (.getfield 49, 3) := dk_180 0 49 (dk_at dksX0_isNoun_0 3 rfl rfl)
theorem dX0_isNoun_6 : decode cX0_isNoun 6 = .ok (.getfield 83, 3) := dk_180 0 83 (dk_at dksX0_isNoun_0 6 rfl rfl)
theorem dX0_isNoun_9 : decode cX0_isNoun 9 = .ok (.invokevirtual 115, 3) := dk_182 0 115 (dk_at dksX0_isNoun_0 9 rfl rfl)
theorem dX0_isNoun_12 : decode cX0_isNoun 12 = .ok (.invokevirtual 166, 3) := dk_182 0 166 (dk_at dksX0_isNoun_0 12 rfl rfl)
theorem dX0_isNoun_15 : decode cX0_isNoun 15 = .ok (.ifCond .ne 7, 3) := dk_154 0 7 (dk_at dksX0_isNoun_0 15 rfl rfl)
theorem dX0_isNoun_18 : decode cX0_isNoun 18 = .ok (.iconst 1, 1) := dk_4 (dk_at dksX0_isNoun_0 18 rfl rfl)
theorem dX0_isNoun_19 : decode cX0_isNoun 19 = .ok (.goto 4, 3) := dk_167 0 4 (dk_at dksX0_isNoun_0 19 rfl rfl)
theorem dX0_isNoun_22 : decode cX0_isNoun 22 = .ok (.iconst 0, 1) := dk_3 (dk_at dksX0_isNoun_0 22 rfl rfl)
theorem dX0_isNoun_23 : decode cX0_isNoun 23 = .ok (.ireturn, 1) := dk_172 (dk_at dksX0_isNoun_0 23 rfl rfl)
abbrev cX0_say : ByteArray := prog_1_method_34_code
def yX0_say : MethodName := ⟨RX0, "say", "(I)I"⟩
def dkwX0_say_7 : List UInt8 := [167, 255, 225, 4, 172]
abbrev dktX0_say_7 : List UInt8 := dkwX0_say_7 ++ []
def dkwX0_say_6 : List UInt8 := [42, 180, 0, 49, 180, 0, 77, 27, 50, 42, 180, 0, 171, 29, 46, 92, 46, 4, 96, 79, 132, 3, 1]
abbrev dktX0_say_6 : List UInt8 := dkwX0_say_6 ++ dktX0_say_7
def dkwX0_say_5 : List UInt8 := [42, 42, 180, 0, 171, 42, 180, 0, 89, 182, 1, 30, 96, 79, 3, 62, 29, 42, 180, 0, 89, 162, 0, 29]
abbrev dktX0_say_5 : List UInt8 := dkwX0_say_5 ++ dktX0_say_6
def dkwX0_say_4 : List UInt8 := [172, 42, 180, 0, 49, 180, 0, 53, 27, 92, 46, 28, 100, 79, 42, 180, 0, 49, 180, 0, 74, 27, 92, 46]
abbrev dktX0_say_4 : List UInt8 := dkwX0_say_4 ++ dktX0_say_5
def dkwX0_say_3 : List UInt8 := [42, 180, 0, 49, 180, 0, 71, 27, 92, 46, 4, 96, 79, 42, 180, 0, 49, 180, 0, 53, 27, 3, 79, 3]
abbrev dktX0_say_3 : List UInt8 := dkwX0_say_3 ++ dktX0_say_4
def dkwX0_say_2 : List UInt8 := [180, 0, 83, 182, 1, 12, 61, 42, 182, 1, 27, 28, 42, 180, 0, 49, 180, 0, 53, 27, 46, 164, 0, 28]
abbrev dktX0_say_2 : List UInt8 := dkwX0_say_2 ++ dktX0_say_3
def dkwX0_say_1 : List UInt8 := [158, 0, 6, 16, 252, 172, 42, 42, 27, 182, 0, 249, 42, 180, 0, 171, 42, 180, 0, 89, 42, 180, 0, 49]
abbrev dktX0_say_1 : List UInt8 := dkwX0_say_1 ++ dktX0_say_2
def dkwX0_say_0 : List UInt8 := [42, 27, 182, 0, 215, 154, 0, 6, 16, 254, 172, 42, 180, 0, 89, 153, 0, 10, 42, 182, 1, 24]
abbrev dktX0_say_0 : List UInt8 := dkwX0_say_0 ++ dktX0_say_1
theorem dksX0_say_0 : cX0_say.data.toList.drop 0 = dktX0_say_0 := by decide +kernel
theorem dksX0_say_1 : cX0_say.data.toList.drop 22 = dktX0_say_1 := dk_seg dksX0_say_0 22 rfl rfl
theorem dksX0_say_2 : cX0_say.data.toList.drop 46 = dktX0_say_2 := dk_seg dksX0_say_1 24 rfl rfl
theorem dksX0_say_3 : cX0_say.data.toList.drop 70 = dktX0_say_3 := dk_seg dksX0_say_2 24 rfl rfl
theorem dksX0_say_4 : cX0_say.data.toList.drop 94 = dktX0_say_4 := dk_seg dksX0_say_3 24 rfl rfl
theorem dksX0_say_5 : cX0_say.data.toList.drop 118 = dktX0_say_5 := dk_seg dksX0_say_4 24 rfl rfl
theorem dksX0_say_6 : cX0_say.data.toList.drop 142 = dktX0_say_6 := dk_seg dksX0_say_5 24 rfl rfl
theorem dksX0_say_7 : cX0_say.data.toList.drop 165 = dktX0_say_7 := dk_seg dksX0_say_6 23 rfl rfl
theorem dX0_say_0 : decode cX0_say 0 = .ok (.aload_n 0, 1) := dk_42 (dk_at dksX0_say_0 0 rfl rfl)
theorem dX0_say_1 : decode cX0_say 1 = .ok (.iload_n 1, 1) := dk_27 (dk_at dksX0_say_0 1 rfl rfl)
theorem dX0_say_2 : decode cX0_say 2 = .ok (.invokevirtual 215, 3) := dk_182 0 215 (dk_at dksX0_say_0 2 rfl rfl)
theorem dX0_say_5 : decode cX0_say 5 = .ok (.ifCond .ne 6, 3) := dk_154 0 6 (dk_at dksX0_say_0 5 rfl rfl)
theorem dX0_say_8 : decode cX0_say 8 = .ok (.bipush (-2), 2) := dk_16 254 (dk_at dksX0_say_0 8 rfl rfl)
theorem dX0_say_10 : decode cX0_say 10 = .ok (.ireturn, 1) := dk_172 (dk_at dksX0_say_0 10 rfl rfl)
theorem dX0_say_11 : decode cX0_say 11 = .ok (.aload_n 0, 1) := dk_42 (dk_at dksX0_say_0 11 rfl rfl)
theorem dX0_say_12 : decode cX0_say 12 = .ok (.getfield 89, 3) := dk_180 0 89 (dk_at dksX0_say_0 12 rfl rfl)
theorem dX0_say_15 : decode cX0_say 15 = .ok (.ifCond .eq 10, 3) := dk_153 0 10 (dk_at dksX0_say_0 15 rfl rfl)
theorem dX0_say_18 : decode cX0_say 18 = .ok (.aload_n 0, 1) := dk_42 (dk_at dksX0_say_0 18 rfl rfl)
theorem dX0_say_19 : decode cX0_say 19 = .ok (.invokevirtual 280, 3) := dk_182 1 24 (dk_at dksX0_say_0 19 rfl rfl)
theorem dX0_say_22 : decode cX0_say 22 = .ok (.ifCond .le 6, 3) := dk_158 0 6 (dk_at dksX0_say_1 0 rfl rfl)
theorem dX0_say_25 : decode cX0_say 25 = .ok (.bipush (-4), 2) := dk_16 252 (dk_at dksX0_say_1 3 rfl rfl)
theorem dX0_say_27 : decode cX0_say 27 = .ok (.ireturn, 1) := dk_172 (dk_at dksX0_say_1 5 rfl rfl)
theorem dX0_say_28 : decode cX0_say 28 = .ok (.aload_n 0, 1) := dk_42 (dk_at dksX0_say_1 6 rfl rfl)
theorem dX0_say_29 : decode cX0_say 29 = .ok (.aload_n 0, 1) := dk_42 (dk_at dksX0_say_1 7 rfl rfl)
theorem dX0_say_30 : decode cX0_say 30 = .ok (.iload_n 1, 1) := dk_27 (dk_at dksX0_say_1 8 rfl rfl)
theorem dX0_say_31 : decode cX0_say 31 = .ok (.invokevirtual 249, 3) := dk_182 0 249 (dk_at dksX0_say_1 9 rfl rfl)
theorem dX0_say_34 : decode cX0_say 34 = .ok (.aload_n 0, 1) := dk_42 (dk_at dksX0_say_1 12 rfl rfl)
theorem dX0_say_35 : decode cX0_say 35 = .ok (.getfield 171, 3) := dk_180 0 171 (dk_at dksX0_say_1 13 rfl rfl)
theorem dX0_say_38 : decode cX0_say 38 = .ok (.aload_n 0, 1) := dk_42 (dk_at dksX0_say_1 16 rfl rfl)
theorem dX0_say_39 : decode cX0_say 39 = .ok (.getfield 89, 3) := dk_180 0 89 (dk_at dksX0_say_1 17 rfl rfl)
theorem dX0_say_42 : decode cX0_say 42 = .ok (.aload_n 0, 1) := dk_42 (dk_at dksX0_say_1 20 rfl rfl)
theorem dX0_say_43 : decode cX0_say 43 = .ok (.getfield 49, 3) := dk_180 0 49 (dk_at dksX0_say_1 21 rfl rfl)
theorem dX0_say_46 : decode cX0_say 46 = .ok (.getfield 83, 3) := dk_180 0 83 (dk_at dksX0_say_2 0 rfl rfl)
theorem dX0_say_49 : decode cX0_say 49 = .ok (.invokevirtual 268, 3) := dk_182 1 12 (dk_at dksX0_say_2 3 rfl rfl)
theorem dX0_say_52 : decode cX0_say 52 = .ok (.istore_n 2, 1) := dk_61 (dk_at dksX0_say_2 6 rfl rfl)
theorem dX0_say_53 : decode cX0_say 53 = .ok (.aload_n 0, 1) := dk_42 (dk_at dksX0_say_2 7 rfl rfl)
theorem dX0_say_54 : decode cX0_say 54 = .ok (.invokevirtual 283, 3) := dk_182 1 27 (dk_at dksX0_say_2 8 rfl rfl)
theorem dX0_say_57 : decode cX0_say 57 = .ok (.iload_n 2, 1) := dk_28 (dk_at dksX0_say_2 11 rfl rfl)
theorem dX0_say_58 : decode cX0_say 58 = .ok (.aload_n 0, 1) := dk_42 (dk_at dksX0_say_2 12 rfl rfl)
theorem dX0_say_59 : decode cX0_say 59 = .ok (.getfield 49, 3) := dk_180 0 49 (dk_at dksX0_say_2 13 rfl rfl)
theorem dX0_say_62 : decode cX0_say 62 = .ok (.getfield 53, 3) := dk_180 0 53 (dk_at dksX0_say_2 16 rfl rfl)
theorem dX0_say_65 : decode cX0_say 65 = .ok (.iload_n 1, 1) := dk_27 (dk_at dksX0_say_2 19 rfl rfl)
theorem dX0_say_66 : decode cX0_say 66 = .ok (.iaload, 1) := dk_46 (dk_at dksX0_say_2 20 rfl rfl)
theorem dX0_say_67 : decode cX0_say 67 = .ok (.if_icmp .le 28, 3) := dk_164 0 28 (dk_at dksX0_say_2 21 rfl rfl)
theorem dX0_say_70 : decode cX0_say 70 = .ok (.aload_n 0, 1) := dk_42 (dk_at dksX0_say_3 0 rfl rfl)
theorem dX0_say_71 : decode cX0_say 71 = .ok (.getfield 49, 3) := dk_180 0 49 (dk_at dksX0_say_3 1 rfl rfl)
theorem dX0_say_74 : decode cX0_say 74 = .ok (.getfield 71, 3) := dk_180 0 71 (dk_at dksX0_say_3 4 rfl rfl)
theorem dX0_say_77 : decode cX0_say 77 = .ok (.iload_n 1, 1) := dk_27 (dk_at dksX0_say_3 7 rfl rfl)
theorem dX0_say_78 : decode cX0_say 78 = .ok (.dup2, 1) := dk_92 (dk_at dksX0_say_3 8 rfl rfl)
theorem dX0_say_79 : decode cX0_say 79 = .ok (.iaload, 1) := dk_46 (dk_at dksX0_say_3 9 rfl rfl)
theorem dX0_say_80 : decode cX0_say 80 = .ok (.iconst 1, 1) := dk_4 (dk_at dksX0_say_3 10 rfl rfl)
theorem dX0_say_81 : decode cX0_say 81 = .ok (.iadd, 1) := dk_96 (dk_at dksX0_say_3 11 rfl rfl)
theorem dX0_say_82 : decode cX0_say 82 = .ok (.iastore, 1) := dk_79 (dk_at dksX0_say_3 12 rfl rfl)
theorem dX0_say_83 : decode cX0_say 83 = .ok (.aload_n 0, 1) := dk_42 (dk_at dksX0_say_3 13 rfl rfl)
theorem dX0_say_84 : decode cX0_say 84 = .ok (.getfield 49, 3) := dk_180 0 49 (dk_at dksX0_say_3 14 rfl rfl)
theorem dX0_say_87 : decode cX0_say 87 = .ok (.getfield 53, 3) := dk_180 0 53 (dk_at dksX0_say_3 17 rfl rfl)
theorem dX0_say_90 : decode cX0_say 90 = .ok (.iload_n 1, 1) := dk_27 (dk_at dksX0_say_3 20 rfl rfl)
theorem dX0_say_91 : decode cX0_say 91 = .ok (.iconst 0, 1) := dk_3 (dk_at dksX0_say_3 21 rfl rfl)
theorem dX0_say_92 : decode cX0_say 92 = .ok (.iastore, 1) := dk_79 (dk_at dksX0_say_3 22 rfl rfl)
theorem dX0_say_93 : decode cX0_say 93 = .ok (.iconst 0, 1) := dk_3 (dk_at dksX0_say_3 23 rfl rfl)
theorem dX0_say_94 : decode cX0_say 94 = .ok (.ireturn, 1) := dk_172 (dk_at dksX0_say_4 0 rfl rfl)
theorem dX0_say_95 : decode cX0_say 95 = .ok (.aload_n 0, 1) := dk_42 (dk_at dksX0_say_4 1 rfl rfl)
theorem dX0_say_96 : decode cX0_say 96 = .ok (.getfield 49, 3) := dk_180 0 49 (dk_at dksX0_say_4 2 rfl rfl)
theorem dX0_say_99 : decode cX0_say 99 = .ok (.getfield 53, 3) := dk_180 0 53 (dk_at dksX0_say_4 5 rfl rfl)
theorem dX0_say_102 : decode cX0_say 102 = .ok (.iload_n 1, 1) := dk_27 (dk_at dksX0_say_4 8 rfl rfl)
theorem dX0_say_103 : decode cX0_say 103 = .ok (.dup2, 1) := dk_92 (dk_at dksX0_say_4 9 rfl rfl)
theorem dX0_say_104 : decode cX0_say 104 = .ok (.iaload, 1) := dk_46 (dk_at dksX0_say_4 10 rfl rfl)
theorem dX0_say_105 : decode cX0_say 105 = .ok (.iload_n 2, 1) := dk_28 (dk_at dksX0_say_4 11 rfl rfl)
theorem dX0_say_106 : decode cX0_say 106 = .ok (.isub, 1) := dk_100 (dk_at dksX0_say_4 12 rfl rfl)
theorem dX0_say_107 : decode cX0_say 107 = .ok (.iastore, 1) := dk_79 (dk_at dksX0_say_4 13 rfl rfl)
theorem dX0_say_108 : decode cX0_say 108 = .ok (.aload_n 0, 1) := dk_42 (dk_at dksX0_say_4 14 rfl rfl)
theorem dX0_say_109 : decode cX0_say 109 = .ok (.getfield 49, 3) := dk_180 0 49 (dk_at dksX0_say_4 15 rfl rfl)
theorem dX0_say_112 : decode cX0_say 112 = .ok (.getfield 74, 3) := dk_180 0 74 (dk_at dksX0_say_4 18 rfl rfl)
theorem dX0_say_115 : decode cX0_say 115 = .ok (.iload_n 1, 1) := dk_27 (dk_at dksX0_say_4 21 rfl rfl)
theorem dX0_say_116 : decode cX0_say 116 = .ok (.dup2, 1) := dk_92 (dk_at dksX0_say_4 22 rfl rfl)
theorem dX0_say_117 : decode cX0_say 117 = .ok (.iaload, 1) := dk_46 (dk_at dksX0_say_4 23 rfl rfl)
theorem dX0_say_118 : decode cX0_say 118 = .ok (.aload_n 0, 1) := dk_42 (dk_at dksX0_say_5 0 rfl rfl)
theorem dX0_say_119 : decode cX0_say 119 = .ok (.aload_n 0, 1) := dk_42 (dk_at dksX0_say_5 1 rfl rfl)
theorem dX0_say_120 : decode cX0_say 120 = .ok (.getfield 171, 3) := dk_180 0 171 (dk_at dksX0_say_5 2 rfl rfl)
theorem dX0_say_123 : decode cX0_say 123 = .ok (.aload_n 0, 1) := dk_42 (dk_at dksX0_say_5 5 rfl rfl)
theorem dX0_say_124 : decode cX0_say 124 = .ok (.getfield 89, 3) := dk_180 0 89 (dk_at dksX0_say_5 6 rfl rfl)
theorem dX0_say_127 : decode cX0_say 127 = .ok (.invokevirtual 286, 3) := dk_182 1 30 (dk_at dksX0_say_5 9 rfl rfl)
theorem dX0_say_130 : decode cX0_say 130 = .ok (.iadd, 1) := dk_96 (dk_at dksX0_say_5 12 rfl rfl)
theorem dX0_say_131 : decode cX0_say 131 = .ok (.iastore, 1) := dk_79 (dk_at dksX0_say_5 13 rfl rfl)
theorem dX0_say_132 : decode cX0_say 132 = .ok (.iconst 0, 1) := dk_3 (dk_at dksX0_say_5 14 rfl rfl)
theorem dX0_say_133 : decode cX0_say 133 = .ok (.istore_n 3, 1) := dk_62 (dk_at dksX0_say_5 15 rfl rfl)
theorem dX0_say_134 : decode cX0_say 134 = .ok (.iload_n 3, 1) := dk_29 (dk_at dksX0_say_5 16 rfl rfl)
theorem dX0_say_135 : decode cX0_say 135 = .ok (.aload_n 0, 1) := dk_42 (dk_at dksX0_say_5 17 rfl rfl)
theorem dX0_say_136 : decode cX0_say 136 = .ok (.getfield 89, 3) := dk_180 0 89 (dk_at dksX0_say_5 18 rfl rfl)
theorem dX0_say_139 : decode cX0_say 139 = .ok (.if_icmp .ge 29, 3) := dk_162 0 29 (dk_at dksX0_say_5 21 rfl rfl)
theorem dX0_say_142 : decode cX0_say 142 = .ok (.aload_n 0, 1) := dk_42 (dk_at dksX0_say_6 0 rfl rfl)
theorem dX0_say_143 : decode cX0_say 143 = .ok (.getfield 49, 3) := dk_180 0 49 (dk_at dksX0_say_6 1 rfl rfl)
theorem dX0_say_146 : decode cX0_say 146 = .ok (.getfield 77, 3) := dk_180 0 77 (dk_at dksX0_say_6 4 rfl rfl)
theorem dX0_say_149 : decode cX0_say 149 = .ok (.iload_n 1, 1) := dk_27 (dk_at dksX0_say_6 7 rfl rfl)
theorem dX0_say_150 : decode cX0_say 150 = .ok (.aaload, 1) := dk_50 (dk_at dksX0_say_6 8 rfl rfl)
theorem dX0_say_151 : decode cX0_say 151 = .ok (.aload_n 0, 1) := dk_42 (dk_at dksX0_say_6 9 rfl rfl)
theorem dX0_say_152 : decode cX0_say 152 = .ok (.getfield 171, 3) := dk_180 0 171 (dk_at dksX0_say_6 10 rfl rfl)
theorem dX0_say_155 : decode cX0_say 155 = .ok (.iload_n 3, 1) := dk_29 (dk_at dksX0_say_6 13 rfl rfl)
theorem dX0_say_156 : decode cX0_say 156 = .ok (.iaload, 1) := dk_46 (dk_at dksX0_say_6 14 rfl rfl)
theorem dX0_say_157 : decode cX0_say 157 = .ok (.dup2, 1) := dk_92 (dk_at dksX0_say_6 15 rfl rfl)
theorem dX0_say_158 : decode cX0_say 158 = .ok (.iaload, 1) := dk_46 (dk_at dksX0_say_6 16 rfl rfl)
theorem dX0_say_159 : decode cX0_say 159 = .ok (.iconst 1, 1) := dk_4 (dk_at dksX0_say_6 17 rfl rfl)
theorem dX0_say_160 : decode cX0_say 160 = .ok (.iadd, 1) := dk_96 (dk_at dksX0_say_6 18 rfl rfl)
theorem dX0_say_161 : decode cX0_say 161 = .ok (.iastore, 1) := dk_79 (dk_at dksX0_say_6 19 rfl rfl)
theorem dX0_say_162 : decode cX0_say 162 = .ok (.iinc 3 1, 3) := dk_132 3 1 (dk_at dksX0_say_6 20 rfl rfl)
theorem dX0_say_165 : decode cX0_say 165 = .ok (.goto (-31), 3) := dk_167 255 225 (dk_at dksX0_say_7 0 rfl rfl)
theorem dX0_say_168 : decode cX0_say 168 = .ok (.iconst 1, 1) := dk_4 (dk_at dksX0_say_7 3 rfl rfl)
theorem dX0_say_169 : decode cX0_say 169 = .ok (.ireturn, 1) := dk_172 (dk_at dksX0_say_7 4 rfl rfl)
abbrev cX0_holesIn : ByteArray := prog_1_method_16_code
def yX0_holesIn : MethodName := ⟨RX0, "holesIn", "()I"⟩
def dkwX0_holesIn_1 : List UInt8 := [167, 0, 4, 3, 96, 60, 132, 2, 1, 167, 255, 227, 27, 172]
abbrev dktX0_holesIn_1 : List UInt8 := dkwX0_holesIn_1 ++ []
def dkwX0_holesIn_0 : List UInt8 := [3, 60, 3, 61, 28, 42, 180, 0, 89, 162, 0, 27, 27, 42, 180, 0, 171, 28, 46, 2, 160, 0, 7, 4]
abbrev dktX0_holesIn_0 : List UInt8 := dkwX0_holesIn_0 ++ dktX0_holesIn_1
theorem dksX0_holesIn_0 : cX0_holesIn.data.toList.drop 0 = dktX0_holesIn_0 := by decide +kernel
theorem dksX0_holesIn_1 : cX0_holesIn.data.toList.drop 24 = dktX0_holesIn_1 := dk_seg dksX0_holesIn_0 24 rfl rfl
theorem dX0_holesIn_0 : decode cX0_holesIn 0 = .ok (.iconst 0, 1) := dk_3 (dk_at dksX0_holesIn_0 0 rfl rfl)
theorem dX0_holesIn_1 : decode cX0_holesIn 1 = .ok (.istore_n 1, 1) := dk_60 (dk_at dksX0_holesIn_0 1 rfl rfl)
theorem dX0_holesIn_2 : decode cX0_holesIn 2 = .ok (.iconst 0, 1) := dk_3 (dk_at dksX0_holesIn_0 2 rfl rfl)
theorem dX0_holesIn_3 : decode cX0_holesIn 3 = .ok (.istore_n 2, 1) := dk_61 (dk_at dksX0_holesIn_0 3 rfl rfl)
theorem dX0_holesIn_4 : decode cX0_holesIn 4 = .ok (.iload_n 2, 1) := dk_28 (dk_at dksX0_holesIn_0 4 rfl rfl)
theorem dX0_holesIn_5 : decode cX0_holesIn 5 = .ok (.aload_n 0, 1) := dk_42 (dk_at dksX0_holesIn_0 5 rfl rfl)
theorem dX0_holesIn_6 : decode cX0_holesIn 6 = .ok (.getfield 89, 3) := dk_180 0 89 (dk_at dksX0_holesIn_0 6 rfl rfl)
theorem dX0_holesIn_9 : decode cX0_holesIn 9 = .ok (.if_icmp .ge 27, 3) := dk_162 0 27 (dk_at dksX0_holesIn_0 9 rfl rfl)
theorem dX0_holesIn_12 : decode cX0_holesIn 12 = .ok (.iload_n 1, 1) := dk_27 (dk_at dksX0_holesIn_0 12 rfl rfl)
theorem dX0_holesIn_13 : decode cX0_holesIn 13 = .ok (.aload_n 0, 1) := dk_42 (dk_at dksX0_holesIn_0 13 rfl rfl)
theorem dX0_holesIn_14 : decode cX0_holesIn 14 = .ok (.getfield 171, 3) := dk_180 0 171 (dk_at dksX0_holesIn_0 14 rfl rfl)
theorem dX0_holesIn_17 : decode cX0_holesIn 17 = .ok (.iload_n 2, 1) := dk_28 (dk_at dksX0_holesIn_0 17 rfl rfl)
theorem dX0_holesIn_18 : decode cX0_holesIn 18 = .ok (.iaload, 1) := dk_46 (dk_at dksX0_holesIn_0 18 rfl rfl)
theorem dX0_holesIn_19 : decode cX0_holesIn 19 = .ok (.iconst (-1), 1) := dk_2 (dk_at dksX0_holesIn_0 19 rfl rfl)
theorem dX0_holesIn_20 : decode cX0_holesIn 20 = .ok (.if_icmp .ne 7, 3) := dk_160 0 7 (dk_at dksX0_holesIn_0 20 rfl rfl)
theorem dX0_holesIn_23 : decode cX0_holesIn 23 = .ok (.iconst 1, 1) := dk_4 (dk_at dksX0_holesIn_0 23 rfl rfl)
theorem dX0_holesIn_24 : decode cX0_holesIn 24 = .ok (.goto 4, 3) := dk_167 0 4 (dk_at dksX0_holesIn_1 0 rfl rfl)
theorem dX0_holesIn_27 : decode cX0_holesIn 27 = .ok (.iconst 0, 1) := dk_3 (dk_at dksX0_holesIn_1 3 rfl rfl)
theorem dX0_holesIn_28 : decode cX0_holesIn 28 = .ok (.iadd, 1) := dk_96 (dk_at dksX0_holesIn_1 4 rfl rfl)
theorem dX0_holesIn_29 : decode cX0_holesIn 29 = .ok (.istore_n 1, 1) := dk_60 (dk_at dksX0_holesIn_1 5 rfl rfl)
theorem dX0_holesIn_30 : decode cX0_holesIn 30 = .ok (.iinc 2 1, 3) := dk_132 2 1 (dk_at dksX0_holesIn_1 6 rfl rfl)
theorem dX0_holesIn_33 : decode cX0_holesIn 33 = .ok (.goto (-29), 3) := dk_167 255 227 (dk_at dksX0_holesIn_1 9 rfl rfl)
theorem dX0_holesIn_36 : decode cX0_holesIn 36 = .ok (.iload_n 1, 1) := dk_27 (dk_at dksX0_holesIn_1 12 rfl rfl)
theorem dX0_holesIn_37 : decode cX0_holesIn 37 = .ok (.ireturn, 1) := dk_172 (dk_at dksX0_holesIn_1 13 rfl rfl)
abbrev cX0_note : ByteArray := prog_1_method_9_code
def yX0_note : MethodName := ⟨RX0, "note", "()V"⟩
def dkwX0_note_4 : List UInt8 := [42, 180, 0, 49, 182, 0, 111, 87, 177]
abbrev dktX0_note_4 : List UInt8 := dkwX0_note_4 ++ []
def dkwX0_note_3 : List UInt8 := [187, 0, 54, 89, 183, 0, 108, 83, 42, 180, 0, 99, 42, 89, 180, 0, 86, 90, 4, 96, 181, 0, 86, 50]
abbrev dktX0_note_3 : List UInt8 := dkwX0_note_3 ++ dktX0_note_4
def dkwX0_note_2 : List UInt8 := [181, 0, 86, 42, 180, 0, 99, 42, 180, 0, 86, 50, 199, 0, 19, 42, 180, 0, 99, 42, 180, 0, 86]
abbrev dktX0_note_2 : List UInt8 := dkwX0_note_2 ++ dktX0_note_3
def dkwX0_note_1 : List UInt8 := [180, 0, 99, 3, 16, 7, 184, 0, 102, 42, 180, 0, 99, 16, 7, 43, 83, 42, 89, 180, 0, 86, 4, 100]
abbrev dktX0_note_1 : List UInt8 := dkwX0_note_1 ++ dktX0_note_2
def dkwX0_note_0 : List UInt8 := [42, 180, 0, 86, 16, 8, 160, 0, 43, 42, 180, 0, 99, 3, 50, 76, 42, 180, 0, 99, 4, 42]
abbrev dktX0_note_0 : List UInt8 := dkwX0_note_0 ++ dktX0_note_1
theorem dksX0_note_0 : cX0_note.data.toList.drop 0 = dktX0_note_0 := by decide +kernel
theorem dksX0_note_1 : cX0_note.data.toList.drop 22 = dktX0_note_1 := dk_seg dksX0_note_0 22 rfl rfl
theorem dksX0_note_2 : cX0_note.data.toList.drop 46 = dktX0_note_2 := dk_seg dksX0_note_1 24 rfl rfl
theorem dksX0_note_3 : cX0_note.data.toList.drop 69 = dktX0_note_3 := dk_seg dksX0_note_2 23 rfl rfl
theorem dksX0_note_4 : cX0_note.data.toList.drop 93 = dktX0_note_4 := dk_seg dksX0_note_3 24 rfl rfl
theorem dX0_note_0 : decode cX0_note 0 = .ok (.aload_n 0, 1) := dk_42 (dk_at dksX0_note_0 0 rfl rfl)
theorem dX0_note_1 : decode cX0_note 1 = .ok (.getfield 86, 3) := dk_180 0 86 (dk_at dksX0_note_0 1 rfl rfl)
theorem dX0_note_4 : decode cX0_note 4 = .ok (.bipush 8, 2) := dk_16 8 (dk_at dksX0_note_0 4 rfl rfl)
theorem dX0_note_6 : decode cX0_note 6 = .ok (.if_icmp .ne 43, 3) := dk_160 0 43 (dk_at dksX0_note_0 6 rfl rfl)
theorem dX0_note_9 : decode cX0_note 9 = .ok (.aload_n 0, 1) := dk_42 (dk_at dksX0_note_0 9 rfl rfl)
theorem dX0_note_10 : decode cX0_note 10 = .ok (.getfield 99, 3) := dk_180 0 99 (dk_at dksX0_note_0 10 rfl rfl)
theorem dX0_note_13 : decode cX0_note 13 = .ok (.iconst 0, 1) := dk_3 (dk_at dksX0_note_0 13 rfl rfl)
theorem dX0_note_14 : decode cX0_note 14 = .ok (.aaload, 1) := dk_50 (dk_at dksX0_note_0 14 rfl rfl)
theorem dX0_note_15 : decode cX0_note 15 = .ok (.astore_n 1, 1) := dk_76 (dk_at dksX0_note_0 15 rfl rfl)
theorem dX0_note_16 : decode cX0_note 16 = .ok (.aload_n 0, 1) := dk_42 (dk_at dksX0_note_0 16 rfl rfl)
theorem dX0_note_17 : decode cX0_note 17 = .ok (.getfield 99, 3) := dk_180 0 99 (dk_at dksX0_note_0 17 rfl rfl)
theorem dX0_note_20 : decode cX0_note 20 = .ok (.iconst 1, 1) := dk_4 (dk_at dksX0_note_0 20 rfl rfl)
theorem dX0_note_21 : decode cX0_note 21 = .ok (.aload_n 0, 1) := dk_42 (dk_at dksX0_note_0 21 rfl rfl)
theorem dX0_note_22 : decode cX0_note 22 = .ok (.getfield 99, 3) := dk_180 0 99 (dk_at dksX0_note_1 0 rfl rfl)
theorem dX0_note_25 : decode cX0_note 25 = .ok (.iconst 0, 1) := dk_3 (dk_at dksX0_note_1 3 rfl rfl)
theorem dX0_note_26 : decode cX0_note 26 = .ok (.bipush 7, 2) := dk_16 7 (dk_at dksX0_note_1 4 rfl rfl)
theorem dX0_note_28 : decode cX0_note 28 = .ok (.invokestatic 102, 3) := dk_184 0 102 (dk_at dksX0_note_1 6 rfl rfl)
theorem dX0_note_31 : decode cX0_note 31 = .ok (.aload_n 0, 1) := dk_42 (dk_at dksX0_note_1 9 rfl rfl)
theorem dX0_note_32 : decode cX0_note 32 = .ok (.getfield 99, 3) := dk_180 0 99 (dk_at dksX0_note_1 10 rfl rfl)
theorem dX0_note_35 : decode cX0_note 35 = .ok (.bipush 7, 2) := dk_16 7 (dk_at dksX0_note_1 13 rfl rfl)
theorem dX0_note_37 : decode cX0_note 37 = .ok (.aload_n 1, 1) := dk_43 (dk_at dksX0_note_1 15 rfl rfl)
theorem dX0_note_38 : decode cX0_note 38 = .ok (.aastore, 1) := dk_83 (dk_at dksX0_note_1 16 rfl rfl)
theorem dX0_note_39 : decode cX0_note 39 = .ok (.aload_n 0, 1) := dk_42 (dk_at dksX0_note_1 17 rfl rfl)
theorem dX0_note_40 : decode cX0_note 40 = .ok (.dup, 1) := dk_89 (dk_at dksX0_note_1 18 rfl rfl)
theorem dX0_note_41 : decode cX0_note 41 = .ok (.getfield 86, 3) := dk_180 0 86 (dk_at dksX0_note_1 19 rfl rfl)
theorem dX0_note_44 : decode cX0_note 44 = .ok (.iconst 1, 1) := dk_4 (dk_at dksX0_note_1 22 rfl rfl)
theorem dX0_note_45 : decode cX0_note 45 = .ok (.isub, 1) := dk_100 (dk_at dksX0_note_1 23 rfl rfl)
theorem dX0_note_46 : decode cX0_note 46 = .ok (.putfield 86, 3) := dk_181 0 86 (dk_at dksX0_note_2 0 rfl rfl)
theorem dX0_note_49 : decode cX0_note 49 = .ok (.aload_n 0, 1) := dk_42 (dk_at dksX0_note_2 3 rfl rfl)
theorem dX0_note_50 : decode cX0_note 50 = .ok (.getfield 99, 3) := dk_180 0 99 (dk_at dksX0_note_2 4 rfl rfl)
theorem dX0_note_53 : decode cX0_note 53 = .ok (.aload_n 0, 1) := dk_42 (dk_at dksX0_note_2 7 rfl rfl)
theorem dX0_note_54 : decode cX0_note 54 = .ok (.getfield 86, 3) := dk_180 0 86 (dk_at dksX0_note_2 8 rfl rfl)
theorem dX0_note_57 : decode cX0_note 57 = .ok (.aaload, 1) := dk_50 (dk_at dksX0_note_2 11 rfl rfl)
theorem dX0_note_58 : decode cX0_note 58 = .ok (.ifnonnull 19, 3) := dk_199 0 19 (dk_at dksX0_note_2 12 rfl rfl)
theorem dX0_note_61 : decode cX0_note 61 = .ok (.aload_n 0, 1) := dk_42 (dk_at dksX0_note_2 15 rfl rfl)
theorem dX0_note_62 : decode cX0_note 62 = .ok (.getfield 99, 3) := dk_180 0 99 (dk_at dksX0_note_2 16 rfl rfl)
theorem dX0_note_65 : decode cX0_note 65 = .ok (.aload_n 0, 1) := dk_42 (dk_at dksX0_note_2 19 rfl rfl)
theorem dX0_note_66 : decode cX0_note 66 = .ok (.getfield 86, 3) := dk_180 0 86 (dk_at dksX0_note_2 20 rfl rfl)
theorem dX0_note_69 : decode cX0_note 69 = .ok (.new 54, 3) := dk_187 0 54 (dk_at dksX0_note_3 0 rfl rfl)
theorem dX0_note_72 : decode cX0_note 72 = .ok (.dup, 1) := dk_89 (dk_at dksX0_note_3 3 rfl rfl)
theorem dX0_note_73 : decode cX0_note 73 = .ok (.invokespecial 108, 3) := dk_183 0 108 (dk_at dksX0_note_3 4 rfl rfl)
theorem dX0_note_76 : decode cX0_note 76 = .ok (.aastore, 1) := dk_83 (dk_at dksX0_note_3 7 rfl rfl)
theorem dX0_note_77 : decode cX0_note 77 = .ok (.aload_n 0, 1) := dk_42 (dk_at dksX0_note_3 8 rfl rfl)
theorem dX0_note_78 : decode cX0_note 78 = .ok (.getfield 99, 3) := dk_180 0 99 (dk_at dksX0_note_3 9 rfl rfl)
theorem dX0_note_81 : decode cX0_note 81 = .ok (.aload_n 0, 1) := dk_42 (dk_at dksX0_note_3 12 rfl rfl)
theorem dX0_note_82 : decode cX0_note 82 = .ok (.dup, 1) := dk_89 (dk_at dksX0_note_3 13 rfl rfl)
theorem dX0_note_83 : decode cX0_note 83 = .ok (.getfield 86, 3) := dk_180 0 86 (dk_at dksX0_note_3 14 rfl rfl)
theorem dX0_note_86 : decode cX0_note 86 = .ok (.dup_x1, 1) := dk_90 (dk_at dksX0_note_3 17 rfl rfl)
theorem dX0_note_87 : decode cX0_note 87 = .ok (.iconst 1, 1) := dk_4 (dk_at dksX0_note_3 18 rfl rfl)
theorem dX0_note_88 : decode cX0_note 88 = .ok (.iadd, 1) := dk_96 (dk_at dksX0_note_3 19 rfl rfl)
theorem dX0_note_89 : decode cX0_note 89 = .ok (.putfield 86, 3) := dk_181 0 86 (dk_at dksX0_note_3 20 rfl rfl)
theorem dX0_note_92 : decode cX0_note 92 = .ok (.aaload, 1) := dk_50 (dk_at dksX0_note_3 23 rfl rfl)
theorem dX0_note_93 : decode cX0_note 93 = .ok (.aload_n 0, 1) := dk_42 (dk_at dksX0_note_4 0 rfl rfl)
theorem dX0_note_94 : decode cX0_note 94 = .ok (.getfield 49, 3) := dk_180 0 49 (dk_at dksX0_note_4 1 rfl rfl)
theorem dX0_note_97 : decode cX0_note 97 = .ok (.invokevirtual 111, 3) := dk_182 0 111 (dk_at dksX0_note_4 4 rfl rfl)
theorem dX0_note_100 : decode cX0_note 100 = .ok (.pop, 1) := dk_87 (dk_at dksX0_note_4 7 rfl rfl)
theorem dX0_note_101 : decode cX0_note 101 = .ok (.return_, 1) := dk_177 (dk_at dksX0_note_4 8 rfl rfl)
abbrev cX0_worthOf : ByteArray := prog_1_method_15_code
def yX0_worthOf : MethodName := ⟨RX0, "worthOf", "([II)I"⟩
def dkwX0_worthOf_1 : List UInt8 := [42, 43, 21, 4, 46, 182, 0, 29, 180, 0, 169, 96, 62, 132, 4, 1, 167, 255, 221, 29, 172]
abbrev dktX0_worthOf_1 : List UInt8 := dkwX0_worthOf_1 ++ []
def dkwX0_worthOf_0 : List UInt8 := [3, 62, 3, 54, 4, 21, 4, 28, 162, 0, 35, 29, 43, 21, 4, 46, 2, 160, 0, 7, 3, 167, 0, 14]
abbrev dktX0_worthOf_0 : List UInt8 := dkwX0_worthOf_0 ++ dktX0_worthOf_1
theorem dksX0_worthOf_0 : cX0_worthOf.data.toList.drop 0 = dktX0_worthOf_0 := by decide +kernel
theorem dksX0_worthOf_1 : cX0_worthOf.data.toList.drop 24 = dktX0_worthOf_1 := dk_seg dksX0_worthOf_0 24 rfl rfl
theorem dX0_worthOf_0 : decode cX0_worthOf 0 = .ok (.iconst 0, 1) := dk_3 (dk_at dksX0_worthOf_0 0 rfl rfl)
theorem dX0_worthOf_1 : decode cX0_worthOf 1 = .ok (.istore_n 3, 1) := dk_62 (dk_at dksX0_worthOf_0 1 rfl rfl)
theorem dX0_worthOf_2 : decode cX0_worthOf 2 = .ok (.iconst 0, 1) := dk_3 (dk_at dksX0_worthOf_0 2 rfl rfl)
theorem dX0_worthOf_3 : decode cX0_worthOf 3 = .ok (.istore 4, 2) := dk_54 4 (dk_at dksX0_worthOf_0 3 rfl rfl)
theorem dX0_worthOf_5 : decode cX0_worthOf 5 = .ok (.iload 4, 2) := dk_21 4 (dk_at dksX0_worthOf_0 5 rfl rfl)
theorem dX0_worthOf_7 : decode cX0_worthOf 7 = .ok (.iload_n 2, 1) := dk_28 (dk_at dksX0_worthOf_0 7 rfl rfl)
theorem dX0_worthOf_8 : decode cX0_worthOf 8 = .ok (.if_icmp .ge 35, 3) := dk_162 0 35 (dk_at dksX0_worthOf_0 8 rfl rfl)
theorem dX0_worthOf_11 : decode cX0_worthOf 11 = .ok (.iload_n 3, 1) := dk_29 (dk_at dksX0_worthOf_0 11 rfl rfl)
theorem dX0_worthOf_12 : decode cX0_worthOf 12 = .ok (.aload_n 1, 1) := dk_43 (dk_at dksX0_worthOf_0 12 rfl rfl)
theorem dX0_worthOf_13 : decode cX0_worthOf 13 = .ok (.iload 4, 2) := dk_21 4 (dk_at dksX0_worthOf_0 13 rfl rfl)
theorem dX0_worthOf_15 : decode cX0_worthOf 15 = .ok (.iaload, 1) := dk_46 (dk_at dksX0_worthOf_0 15 rfl rfl)
theorem dX0_worthOf_16 : decode cX0_worthOf 16 = .ok (.iconst (-1), 1) := dk_2 (dk_at dksX0_worthOf_0 16 rfl rfl)
theorem dX0_worthOf_17 : decode cX0_worthOf 17 = .ok (.if_icmp .ne 7, 3) := dk_160 0 7 (dk_at dksX0_worthOf_0 17 rfl rfl)
theorem dX0_worthOf_20 : decode cX0_worthOf 20 = .ok (.iconst 0, 1) := dk_3 (dk_at dksX0_worthOf_0 20 rfl rfl)
theorem dX0_worthOf_21 : decode cX0_worthOf 21 = .ok (.goto 14, 3) := dk_167 0 14 (dk_at dksX0_worthOf_0 21 rfl rfl)
theorem dX0_worthOf_24 : decode cX0_worthOf 24 = .ok (.aload_n 0, 1) := dk_42 (dk_at dksX0_worthOf_1 0 rfl rfl)
theorem dX0_worthOf_25 : decode cX0_worthOf 25 = .ok (.aload_n 1, 1) := dk_43 (dk_at dksX0_worthOf_1 1 rfl rfl)
theorem dX0_worthOf_26 : decode cX0_worthOf 26 = .ok (.iload 4, 2) := dk_21 4 (dk_at dksX0_worthOf_1 2 rfl rfl)
theorem dX0_worthOf_28 : decode cX0_worthOf 28 = .ok (.iaload, 1) := dk_46 (dk_at dksX0_worthOf_1 4 rfl rfl)
theorem dX0_worthOf_29 : decode cX0_worthOf 29 = .ok (.invokevirtual 29, 3) := dk_182 0 29 (dk_at dksX0_worthOf_1 5 rfl rfl)
theorem dX0_worthOf_32 : decode cX0_worthOf 32 = .ok (.getfield 169, 3) := dk_180 0 169 (dk_at dksX0_worthOf_1 8 rfl rfl)
theorem dX0_worthOf_35 : decode cX0_worthOf 35 = .ok (.iadd, 1) := dk_96 (dk_at dksX0_worthOf_1 11 rfl rfl)
theorem dX0_worthOf_36 : decode cX0_worthOf 36 = .ok (.istore_n 3, 1) := dk_62 (dk_at dksX0_worthOf_1 12 rfl rfl)
theorem dX0_worthOf_37 : decode cX0_worthOf 37 = .ok (.iinc 4 1, 3) := dk_132 4 1 (dk_at dksX0_worthOf_1 13 rfl rfl)
theorem dX0_worthOf_40 : decode cX0_worthOf 40 = .ok (.goto (-35), 3) := dk_167 255 221 (dk_at dksX0_worthOf_1 16 rfl rfl)
theorem dX0_worthOf_43 : decode cX0_worthOf 43 = .ok (.iload_n 3, 1) := dk_29 (dk_at dksX0_worthOf_1 19 rfl rfl)
theorem dX0_worthOf_44 : decode cX0_worthOf 44 = .ok (.ireturn, 1) := dk_172 (dk_at dksX0_worthOf_1 20 rfl rfl)
abbrev cX0_week : ByteArray := prog_1_method_36_code
def yX0_week : MethodName := ⟨RX0, "week", "()I"⟩
def dkwX0_week_3 : List UInt8 := [181, 0, 83, 172]
abbrev dktX0_week_3 : List UInt8 := dkwX0_week_3 ++ []
def dkwX0_week_2 : List UInt8 := [46, 182, 1, 43, 79, 132, 1, 1, 167, 255, 222, 42, 180, 0, 49, 89, 180, 0, 83, 4, 96, 90]
abbrev dktX0_week_2 : List UInt8 := dkwX0_week_2 ++ dktX0_week_3
def dkwX0_week_1 : List UInt8 := [180, 0, 180, 162, 0, 32, 42, 180, 0, 49, 180, 0, 53, 27, 42, 27, 42, 180, 0, 49, 180, 0, 53, 27]
abbrev dktX0_week_1 : List UInt8 := dkwX0_week_1 ++ dktX0_week_2
def dkwX0_week_0 : List UInt8 := [42, 180, 0, 49, 180, 0, 83, 17, 3, 231, 160, 0, 6, 16, 251, 172, 42, 182, 1, 27, 3, 60, 27, 42]
abbrev dktX0_week_0 : List UInt8 := dkwX0_week_0 ++ dktX0_week_1
theorem dksX0_week_0 : cX0_week.data.toList.drop 0 = dktX0_week_0 := by decide +kernel
theorem dksX0_week_1 : cX0_week.data.toList.drop 24 = dktX0_week_1 := dk_seg dksX0_week_0 24 rfl rfl
theorem dksX0_week_2 : cX0_week.data.toList.drop 48 = dktX0_week_2 := dk_seg dksX0_week_1 24 rfl rfl
theorem dksX0_week_3 : cX0_week.data.toList.drop 70 = dktX0_week_3 := dk_seg dksX0_week_2 22 rfl rfl
theorem dX0_week_0 : decode cX0_week 0 = .ok (.aload_n 0, 1) := dk_42 (dk_at dksX0_week_0 0 rfl rfl)
theorem dX0_week_1 : decode cX0_week 1 = .ok (.getfield 49, 3) := dk_180 0 49 (dk_at dksX0_week_0 1 rfl rfl)
theorem dX0_week_4 : decode cX0_week 4 = .ok (.getfield 83, 3) := dk_180 0 83 (dk_at dksX0_week_0 4 rfl rfl)
theorem dX0_week_7 : decode cX0_week 7 = .ok (.sipush 999, 3) := dk_17 3 231 (dk_at dksX0_week_0 7 rfl rfl)
theorem dX0_week_10 : decode cX0_week 10 = .ok (.if_icmp .ne 6, 3) := dk_160 0 6 (dk_at dksX0_week_0 10 rfl rfl)
theorem dX0_week_13 : decode cX0_week 13 = .ok (.bipush (-5), 2) := dk_16 251 (dk_at dksX0_week_0 13 rfl rfl)
theorem dX0_week_15 : decode cX0_week 15 = .ok (.ireturn, 1) := dk_172 (dk_at dksX0_week_0 15 rfl rfl)
theorem dX0_week_16 : decode cX0_week 16 = .ok (.aload_n 0, 1) := dk_42 (dk_at dksX0_week_0 16 rfl rfl)
theorem dX0_week_17 : decode cX0_week 17 = .ok (.invokevirtual 283, 3) := dk_182 1 27 (dk_at dksX0_week_0 17 rfl rfl)
theorem dX0_week_20 : decode cX0_week 20 = .ok (.iconst 0, 1) := dk_3 (dk_at dksX0_week_0 20 rfl rfl)
theorem dX0_week_21 : decode cX0_week 21 = .ok (.istore_n 1, 1) := dk_60 (dk_at dksX0_week_0 21 rfl rfl)
theorem dX0_week_22 : decode cX0_week 22 = .ok (.iload_n 1, 1) := dk_27 (dk_at dksX0_week_0 22 rfl rfl)
theorem dX0_week_23 : decode cX0_week 23 = .ok (.aload_n 0, 1) := dk_42 (dk_at dksX0_week_0 23 rfl rfl)
theorem dX0_week_24 : decode cX0_week 24 = .ok (.getfield 180, 3) := dk_180 0 180 (dk_at dksX0_week_1 0 rfl rfl)
theorem dX0_week_27 : decode cX0_week 27 = .ok (.if_icmp .ge 32, 3) := dk_162 0 32 (dk_at dksX0_week_1 3 rfl rfl)
theorem dX0_week_30 : decode cX0_week 30 = .ok (.aload_n 0, 1) := dk_42 (dk_at dksX0_week_1 6 rfl rfl)
theorem dX0_week_31 : decode cX0_week 31 = .ok (.getfield 49, 3) := dk_180 0 49 (dk_at dksX0_week_1 7 rfl rfl)
theorem dX0_week_34 : decode cX0_week 34 = .ok (.getfield 53, 3) := dk_180 0 53 (dk_at dksX0_week_1 10 rfl rfl)
theorem dX0_week_37 : decode cX0_week 37 = .ok (.iload_n 1, 1) := dk_27 (dk_at dksX0_week_1 13 rfl rfl)
theorem dX0_week_38 : decode cX0_week 38 = .ok (.aload_n 0, 1) := dk_42 (dk_at dksX0_week_1 14 rfl rfl)
theorem dX0_week_39 : decode cX0_week 39 = .ok (.iload_n 1, 1) := dk_27 (dk_at dksX0_week_1 15 rfl rfl)
theorem dX0_week_40 : decode cX0_week 40 = .ok (.aload_n 0, 1) := dk_42 (dk_at dksX0_week_1 16 rfl rfl)
theorem dX0_week_41 : decode cX0_week 41 = .ok (.getfield 49, 3) := dk_180 0 49 (dk_at dksX0_week_1 17 rfl rfl)
theorem dX0_week_44 : decode cX0_week 44 = .ok (.getfield 53, 3) := dk_180 0 53 (dk_at dksX0_week_1 20 rfl rfl)
theorem dX0_week_47 : decode cX0_week 47 = .ok (.iload_n 1, 1) := dk_27 (dk_at dksX0_week_1 23 rfl rfl)
theorem dX0_week_48 : decode cX0_week 48 = .ok (.iaload, 1) := dk_46 (dk_at dksX0_week_2 0 rfl rfl)
theorem dX0_week_49 : decode cX0_week 49 = .ok (.invokevirtual 299, 3) := dk_182 1 43 (dk_at dksX0_week_2 1 rfl rfl)
theorem dX0_week_52 : decode cX0_week 52 = .ok (.iastore, 1) := dk_79 (dk_at dksX0_week_2 4 rfl rfl)
theorem dX0_week_53 : decode cX0_week 53 = .ok (.iinc 1 1, 3) := dk_132 1 1 (dk_at dksX0_week_2 5 rfl rfl)
theorem dX0_week_56 : decode cX0_week 56 = .ok (.goto (-34), 3) := dk_167 255 222 (dk_at dksX0_week_2 8 rfl rfl)
theorem dX0_week_59 : decode cX0_week 59 = .ok (.aload_n 0, 1) := dk_42 (dk_at dksX0_week_2 11 rfl rfl)
theorem dX0_week_60 : decode cX0_week 60 = .ok (.getfield 49, 3) := dk_180 0 49 (dk_at dksX0_week_2 12 rfl rfl)
theorem dX0_week_63 : decode cX0_week 63 = .ok (.dup, 1) := dk_89 (dk_at dksX0_week_2 15 rfl rfl)
theorem dX0_week_64 : decode cX0_week 64 = .ok (.getfield 83, 3) := dk_180 0 83 (dk_at dksX0_week_2 16 rfl rfl)
theorem dX0_week_67 : decode cX0_week 67 = .ok (.iconst 1, 1) := dk_4 (dk_at dksX0_week_2 19 rfl rfl)
theorem dX0_week_68 : decode cX0_week 68 = .ok (.iadd, 1) := dk_96 (dk_at dksX0_week_2 20 rfl rfl)
theorem dX0_week_69 : decode cX0_week 69 = .ok (.dup_x1, 1) := dk_90 (dk_at dksX0_week_2 21 rfl rfl)
theorem dX0_week_70 : decode cX0_week 70 = .ok (.putfield 83, 3) := dk_181 0 83 (dk_at dksX0_week_3 0 rfl rfl)
theorem dX0_week_73 : decode cX0_week 73 = .ok (.ireturn, 1) := dk_172 (dk_at dksX0_week_3 3 rfl rfl)
abbrev cX0_behind : ByteArray := prog_1_method_35_code
def yX0_behind : MethodName := ⟨RX0, "behind", "(II)I"⟩
def dkwX0_behind_1 : List UInt8 := [96, 184, 1, 37, 172]
abbrev dktX0_behind_1 : List UInt8 := dkwX0_behind_1 ++ []
def dkwX0_behind_0 : List UInt8 := [16, 60, 42, 27, 182, 0, 249, 182, 1, 34, 153, 0, 7, 28, 167, 0, 4, 3, 5, 42, 180, 0, 59, 104]
abbrev dktX0_behind_0 : List UInt8 := dkwX0_behind_0 ++ dktX0_behind_1
theorem dksX0_behind_0 : cX0_behind.data.toList.drop 0 = dktX0_behind_0 := by decide +kernel
theorem dksX0_behind_1 : cX0_behind.data.toList.drop 24 = dktX0_behind_1 := dk_seg dksX0_behind_0 24 rfl rfl
theorem dX0_behind_0 : decode cX0_behind 0 = .ok (.bipush 60, 2) := dk_16 60 (dk_at dksX0_behind_0 0 rfl rfl)
theorem dX0_behind_2 : decode cX0_behind 2 = .ok (.aload_n 0, 1) := dk_42 (dk_at dksX0_behind_0 2 rfl rfl)
theorem dX0_behind_3 : decode cX0_behind 3 = .ok (.iload_n 1, 1) := dk_27 (dk_at dksX0_behind_0 3 rfl rfl)
theorem dX0_behind_4 : decode cX0_behind 4 = .ok (.invokevirtual 249, 3) := dk_182 0 249 (dk_at dksX0_behind_0 4 rfl rfl)
theorem dX0_behind_7 : decode cX0_behind 7 = .ok (.invokevirtual 290, 3) := dk_182 1 34 (dk_at dksX0_behind_0 7 rfl rfl)
theorem dX0_behind_10 : decode cX0_behind 10 = .ok (.ifCond .eq 7, 3) := dk_153 0 7 (dk_at dksX0_behind_0 10 rfl rfl)
theorem dX0_behind_13 : decode cX0_behind 13 = .ok (.iload_n 2, 1) := dk_28 (dk_at dksX0_behind_0 13 rfl rfl)
theorem dX0_behind_14 : decode cX0_behind 14 = .ok (.goto 4, 3) := dk_167 0 4 (dk_at dksX0_behind_0 14 rfl rfl)
theorem dX0_behind_17 : decode cX0_behind 17 = .ok (.iconst 0, 1) := dk_3 (dk_at dksX0_behind_0 17 rfl rfl)
theorem dX0_behind_18 : decode cX0_behind 18 = .ok (.iconst 2, 1) := dk_5 (dk_at dksX0_behind_0 18 rfl rfl)
theorem dX0_behind_19 : decode cX0_behind 19 = .ok (.aload_n 0, 1) := dk_42 (dk_at dksX0_behind_0 19 rfl rfl)
theorem dX0_behind_20 : decode cX0_behind 20 = .ok (.getfield 59, 3) := dk_180 0 59 (dk_at dksX0_behind_0 20 rfl rfl)
theorem dX0_behind_23 : decode cX0_behind 23 = .ok (.imul, 1) := dk_104 (dk_at dksX0_behind_0 23 rfl rfl)
theorem dX0_behind_24 : decode cX0_behind 24 = .ok (.iadd, 1) := dk_96 (dk_at dksX0_behind_1 0 rfl rfl)
theorem dX0_behind_25 : decode cX0_behind 25 = .ok (.invokestatic 293, 3) := dk_184 1 37 (dk_at dksX0_behind_1 1 rfl rfl)
theorem dX0_behind_28 : decode cX0_behind 28 = .ok (.ireturn, 1) := dk_172 (dk_at dksX0_behind_1 4 rfl rfl)
abbrev cX0_trade : ByteArray := prog_1_method_37_code
def yX0_trade : MethodName := ⟨RX0, "trade", "(IIII)I"⟩
def dkwX0_trade_6 : List UInt8 := [46, 21, 4, 96, 79, 42, 180, 0, 49, 180, 0, 53, 28, 46, 172]
abbrev dktX0_trade_6 : List UInt8 := dkwX0_trade_6 ++ []
def dkwX0_trade_5 : List UInt8 := [79, 42, 180, 0, 49, 180, 0, 68, 28, 92, 46, 21, 4, 100, 79, 42, 180, 0, 49, 180, 0, 68, 27, 92]
abbrev dktX0_trade_5 : List UInt8 := dkwX0_trade_5 ++ dktX0_trade_6
def dkwX0_trade_4 : List UInt8 := [180, 0, 49, 180, 0, 53, 27, 92, 46, 29, 100, 79, 42, 180, 0, 49, 180, 0, 53, 28, 92, 46, 29, 96]
abbrev dktX0_trade_4 : List UInt8 := dkwX0_trade_4 ++ dktX0_trade_5
def dkwX0_trade_3 : List UInt8 := [180, 0, 49, 180, 0, 53, 28, 46, 29, 96, 16, 60, 164, 0, 6, 16, 251, 172, 42, 182, 1, 27, 42]
abbrev dktX0_trade_3 : List UInt8 := dkwX0_trade_3 ++ dktX0_trade_4
def dkwX0_trade_2 : List UInt8 := [46, 29, 161, 0, 17, 42, 180, 0, 49, 180, 0, 68, 28, 46, 21, 4, 162, 0, 6, 16, 252, 172, 42]
abbrev dktX0_trade_2 : List UInt8 := dkwX0_trade_2 ++ dktX0_trade_3
def dkwX0_trade_1 : List UInt8 := [21, 4, 133, 9, 20, 1, 51, 184, 0, 211, 154, 0, 6, 16, 253, 172, 42, 180, 0, 49, 180, 0, 53, 27]
abbrev dktX0_trade_1 : List UInt8 := dkwX0_trade_1 ++ dktX0_trade_2
def dkwX0_trade_0 : List UInt8 := [42, 27, 28, 182, 1, 46, 154, 0, 6, 16, 254, 172, 29, 133, 10, 20, 1, 49, 184, 0, 211, 153, 0, 16]
abbrev dktX0_trade_0 : List UInt8 := dkwX0_trade_0 ++ dktX0_trade_1
theorem dksX0_trade_0 : cX0_trade.data.toList.drop 0 = dktX0_trade_0 := by decide +kernel
theorem dksX0_trade_1 : cX0_trade.data.toList.drop 24 = dktX0_trade_1 := dk_seg dksX0_trade_0 24 rfl rfl
theorem dksX0_trade_2 : cX0_trade.data.toList.drop 48 = dktX0_trade_2 := dk_seg dksX0_trade_1 24 rfl rfl
theorem dksX0_trade_3 : cX0_trade.data.toList.drop 71 = dktX0_trade_3 := dk_seg dksX0_trade_2 23 rfl rfl
theorem dksX0_trade_4 : cX0_trade.data.toList.drop 94 = dktX0_trade_4 := dk_seg dksX0_trade_3 23 rfl rfl
theorem dksX0_trade_5 : cX0_trade.data.toList.drop 118 = dktX0_trade_5 := dk_seg dksX0_trade_4 24 rfl rfl
theorem dksX0_trade_6 : cX0_trade.data.toList.drop 142 = dktX0_trade_6 := dk_seg dksX0_trade_5 24 rfl rfl
theorem dX0_trade_0 : decode cX0_trade 0 = .ok (.aload_n 0, 1) := dk_42 (dk_at dksX0_trade_0 0 rfl rfl)
theorem dX0_trade_1 : decode cX0_trade 1 = .ok (.iload_n 1, 1) := dk_27 (dk_at dksX0_trade_0 1 rfl rfl)
theorem dX0_trade_2 : decode cX0_trade 2 = .ok (.iload_n 2, 1) := dk_28 (dk_at dksX0_trade_0 2 rfl rfl)
theorem dX0_trade_3 : decode cX0_trade 3 = .ok (.invokevirtual 302, 3) := dk_182 1 46 (dk_at dksX0_trade_0 3 rfl rfl)
theorem dX0_trade_6 : decode cX0_trade 6 = .ok (.ifCond .ne 6, 3) := dk_154 0 6 (dk_at dksX0_trade_0 6 rfl rfl)
theorem dX0_trade_9 : decode cX0_trade 9 = .ok (.bipush (-2), 2) := dk_16 254 (dk_at dksX0_trade_0 9 rfl rfl)
theorem dX0_trade_11 : decode cX0_trade 11 = .ok (.ireturn, 1) := dk_172 (dk_at dksX0_trade_0 11 rfl rfl)
theorem dX0_trade_12 : decode cX0_trade 12 = .ok (.iload_n 3, 1) := dk_29 (dk_at dksX0_trade_0 12 rfl rfl)
theorem dX0_trade_13 : decode cX0_trade 13 = .ok (.i2l, 1) := dk_133 (dk_at dksX0_trade_0 13 rfl rfl)
theorem dX0_trade_14 : decode cX0_trade 14 = .ok (.lconst 1, 1) := dk_10 (dk_at dksX0_trade_0 14 rfl rfl)
theorem dX0_trade_15 : decode cX0_trade 15 = .ok (.ldc2_w 305, 3) := dk_20 1 49 (dk_at dksX0_trade_0 15 rfl rfl)
theorem dX0_trade_18 : decode cX0_trade 18 = .ok (.invokestatic 211, 3) := dk_184 0 211 (dk_at dksX0_trade_0 18 rfl rfl)
theorem dX0_trade_21 : decode cX0_trade 21 = .ok (.ifCond .eq 16, 3) := dk_153 0 16 (dk_at dksX0_trade_0 21 rfl rfl)
theorem dX0_trade_24 : decode cX0_trade 24 = .ok (.iload 4, 2) := dk_21 4 (dk_at dksX0_trade_1 0 rfl rfl)
theorem dX0_trade_26 : decode cX0_trade 26 = .ok (.i2l, 1) := dk_133 (dk_at dksX0_trade_1 2 rfl rfl)
theorem dX0_trade_27 : decode cX0_trade 27 = .ok (.lconst 0, 1) := dk_9 (dk_at dksX0_trade_1 3 rfl rfl)
theorem dX0_trade_28 : decode cX0_trade 28 = .ok (.ldc2_w 307, 3) := dk_20 1 51 (dk_at dksX0_trade_1 4 rfl rfl)
theorem dX0_trade_31 : decode cX0_trade 31 = .ok (.invokestatic 211, 3) := dk_184 0 211 (dk_at dksX0_trade_1 7 rfl rfl)
theorem dX0_trade_34 : decode cX0_trade 34 = .ok (.ifCond .ne 6, 3) := dk_154 0 6 (dk_at dksX0_trade_1 10 rfl rfl)
theorem dX0_trade_37 : decode cX0_trade 37 = .ok (.bipush (-3), 2) := dk_16 253 (dk_at dksX0_trade_1 13 rfl rfl)
theorem dX0_trade_39 : decode cX0_trade 39 = .ok (.ireturn, 1) := dk_172 (dk_at dksX0_trade_1 15 rfl rfl)
theorem dX0_trade_40 : decode cX0_trade 40 = .ok (.aload_n 0, 1) := dk_42 (dk_at dksX0_trade_1 16 rfl rfl)
theorem dX0_trade_41 : decode cX0_trade 41 = .ok (.getfield 49, 3) := dk_180 0 49 (dk_at dksX0_trade_1 17 rfl rfl)
theorem dX0_trade_44 : decode cX0_trade 44 = .ok (.getfield 53, 3) := dk_180 0 53 (dk_at dksX0_trade_1 20 rfl rfl)
theorem dX0_trade_47 : decode cX0_trade 47 = .ok (.iload_n 1, 1) := dk_27 (dk_at dksX0_trade_1 23 rfl rfl)
theorem dX0_trade_48 : decode cX0_trade 48 = .ok (.iaload, 1) := dk_46 (dk_at dksX0_trade_2 0 rfl rfl)
theorem dX0_trade_49 : decode cX0_trade 49 = .ok (.iload_n 3, 1) := dk_29 (dk_at dksX0_trade_2 1 rfl rfl)
theorem dX0_trade_50 : decode cX0_trade 50 = .ok (.if_icmp .lt 17, 3) := dk_161 0 17 (dk_at dksX0_trade_2 2 rfl rfl)
theorem dX0_trade_53 : decode cX0_trade 53 = .ok (.aload_n 0, 1) := dk_42 (dk_at dksX0_trade_2 5 rfl rfl)
theorem dX0_trade_54 : decode cX0_trade 54 = .ok (.getfield 49, 3) := dk_180 0 49 (dk_at dksX0_trade_2 6 rfl rfl)
theorem dX0_trade_57 : decode cX0_trade 57 = .ok (.getfield 68, 3) := dk_180 0 68 (dk_at dksX0_trade_2 9 rfl rfl)
theorem dX0_trade_60 : decode cX0_trade 60 = .ok (.iload_n 2, 1) := dk_28 (dk_at dksX0_trade_2 12 rfl rfl)
theorem dX0_trade_61 : decode cX0_trade 61 = .ok (.iaload, 1) := dk_46 (dk_at dksX0_trade_2 13 rfl rfl)
theorem dX0_trade_62 : decode cX0_trade 62 = .ok (.iload 4, 2) := dk_21 4 (dk_at dksX0_trade_2 14 rfl rfl)
theorem dX0_trade_64 : decode cX0_trade 64 = .ok (.if_icmp .ge 6, 3) := dk_162 0 6 (dk_at dksX0_trade_2 16 rfl rfl)
theorem dX0_trade_67 : decode cX0_trade 67 = .ok (.bipush (-4), 2) := dk_16 252 (dk_at dksX0_trade_2 19 rfl rfl)
theorem dX0_trade_69 : decode cX0_trade 69 = .ok (.ireturn, 1) := dk_172 (dk_at dksX0_trade_2 21 rfl rfl)
theorem dX0_trade_70 : decode cX0_trade 70 = .ok (.aload_n 0, 1) := dk_42 (dk_at dksX0_trade_2 22 rfl rfl)
theorem dX0_trade_71 : decode cX0_trade 71 = .ok (.getfield 49, 3) := dk_180 0 49 (dk_at dksX0_trade_3 0 rfl rfl)
theorem dX0_trade_74 : decode cX0_trade 74 = .ok (.getfield 53, 3) := dk_180 0 53 (dk_at dksX0_trade_3 3 rfl rfl)
theorem dX0_trade_77 : decode cX0_trade 77 = .ok (.iload_n 2, 1) := dk_28 (dk_at dksX0_trade_3 6 rfl rfl)
theorem dX0_trade_78 : decode cX0_trade 78 = .ok (.iaload, 1) := dk_46 (dk_at dksX0_trade_3 7 rfl rfl)
theorem dX0_trade_79 : decode cX0_trade 79 = .ok (.iload_n 3, 1) := dk_29 (dk_at dksX0_trade_3 8 rfl rfl)
theorem dX0_trade_80 : decode cX0_trade 80 = .ok (.iadd, 1) := dk_96 (dk_at dksX0_trade_3 9 rfl rfl)
theorem dX0_trade_81 : decode cX0_trade 81 = .ok (.bipush 60, 2) := dk_16 60 (dk_at dksX0_trade_3 10 rfl rfl)
theorem dX0_trade_83 : decode cX0_trade 83 = .ok (.if_icmp .le 6, 3) := dk_164 0 6 (dk_at dksX0_trade_3 12 rfl rfl)
theorem dX0_trade_86 : decode cX0_trade 86 = .ok (.bipush (-5), 2) := dk_16 251 (dk_at dksX0_trade_3 15 rfl rfl)
theorem dX0_trade_88 : decode cX0_trade 88 = .ok (.ireturn, 1) := dk_172 (dk_at dksX0_trade_3 17 rfl rfl)
theorem dX0_trade_89 : decode cX0_trade 89 = .ok (.aload_n 0, 1) := dk_42 (dk_at dksX0_trade_3 18 rfl rfl)
theorem dX0_trade_90 : decode cX0_trade 90 = .ok (.invokevirtual 283, 3) := dk_182 1 27 (dk_at dksX0_trade_3 19 rfl rfl)
theorem dX0_trade_93 : decode cX0_trade 93 = .ok (.aload_n 0, 1) := dk_42 (dk_at dksX0_trade_3 22 rfl rfl)
theorem dX0_trade_94 : decode cX0_trade 94 = .ok (.getfield 49, 3) := dk_180 0 49 (dk_at dksX0_trade_4 0 rfl rfl)
theorem dX0_trade_97 : decode cX0_trade 97 = .ok (.getfield 53, 3) := dk_180 0 53 (dk_at dksX0_trade_4 3 rfl rfl)
theorem dX0_trade_100 : decode cX0_trade 100 = .ok (.iload_n 1, 1) := dk_27 (dk_at dksX0_trade_4 6 rfl rfl)
theorem dX0_trade_101 : decode cX0_trade 101 = .ok (.dup2, 1) := dk_92 (dk_at dksX0_trade_4 7 rfl rfl)
theorem dX0_trade_102 : decode cX0_trade 102 = .ok (.iaload, 1) := dk_46 (dk_at dksX0_trade_4 8 rfl rfl)
theorem dX0_trade_103 : decode cX0_trade 103 = .ok (.iload_n 3, 1) := dk_29 (dk_at dksX0_trade_4 9 rfl rfl)
theorem dX0_trade_104 : decode cX0_trade 104 = .ok (.isub, 1) := dk_100 (dk_at dksX0_trade_4 10 rfl rfl)
theorem dX0_trade_105 : decode cX0_trade 105 = .ok (.iastore, 1) := dk_79 (dk_at dksX0_trade_4 11 rfl rfl)
theorem dX0_trade_106 : decode cX0_trade 106 = .ok (.aload_n 0, 1) := dk_42 (dk_at dksX0_trade_4 12 rfl rfl)
theorem dX0_trade_107 : decode cX0_trade 107 = .ok (.getfield 49, 3) := dk_180 0 49 (dk_at dksX0_trade_4 13 rfl rfl)
theorem dX0_trade_110 : decode cX0_trade 110 = .ok (.getfield 53, 3) := dk_180 0 53 (dk_at dksX0_trade_4 16 rfl rfl)
theorem dX0_trade_113 : decode cX0_trade 113 = .ok (.iload_n 2, 1) := dk_28 (dk_at dksX0_trade_4 19 rfl rfl)
theorem dX0_trade_114 : decode cX0_trade 114 = .ok (.dup2, 1) := dk_92 (dk_at dksX0_trade_4 20 rfl rfl)
theorem dX0_trade_115 : decode cX0_trade 115 = .ok (.iaload, 1) := dk_46 (dk_at dksX0_trade_4 21 rfl rfl)
theorem dX0_trade_116 : decode cX0_trade 116 = .ok (.iload_n 3, 1) := dk_29 (dk_at dksX0_trade_4 22 rfl rfl)
theorem dX0_trade_117 : decode cX0_trade 117 = .ok (.iadd, 1) := dk_96 (dk_at dksX0_trade_4 23 rfl rfl)
theorem dX0_trade_118 : decode cX0_trade 118 = .ok (.iastore, 1) := dk_79 (dk_at dksX0_trade_5 0 rfl rfl)
theorem dX0_trade_119 : decode cX0_trade 119 = .ok (.aload_n 0, 1) := dk_42 (dk_at dksX0_trade_5 1 rfl rfl)
theorem dX0_trade_120 : decode cX0_trade 120 = .ok (.getfield 49, 3) := dk_180 0 49 (dk_at dksX0_trade_5 2 rfl rfl)
theorem dX0_trade_123 : decode cX0_trade 123 = .ok (.getfield 68, 3) := dk_180 0 68 (dk_at dksX0_trade_5 5 rfl rfl)
theorem dX0_trade_126 : decode cX0_trade 126 = .ok (.iload_n 2, 1) := dk_28 (dk_at dksX0_trade_5 8 rfl rfl)
theorem dX0_trade_127 : decode cX0_trade 127 = .ok (.dup2, 1) := dk_92 (dk_at dksX0_trade_5 9 rfl rfl)
theorem dX0_trade_128 : decode cX0_trade 128 = .ok (.iaload, 1) := dk_46 (dk_at dksX0_trade_5 10 rfl rfl)
theorem dX0_trade_129 : decode cX0_trade 129 = .ok (.iload 4, 2) := dk_21 4 (dk_at dksX0_trade_5 11 rfl rfl)
theorem dX0_trade_131 : decode cX0_trade 131 = .ok (.isub, 1) := dk_100 (dk_at dksX0_trade_5 13 rfl rfl)
theorem dX0_trade_132 : decode cX0_trade 132 = .ok (.iastore, 1) := dk_79 (dk_at dksX0_trade_5 14 rfl rfl)
theorem dX0_trade_133 : decode cX0_trade 133 = .ok (.aload_n 0, 1) := dk_42 (dk_at dksX0_trade_5 15 rfl rfl)
theorem dX0_trade_134 : decode cX0_trade 134 = .ok (.getfield 49, 3) := dk_180 0 49 (dk_at dksX0_trade_5 16 rfl rfl)
theorem dX0_trade_137 : decode cX0_trade 137 = .ok (.getfield 68, 3) := dk_180 0 68 (dk_at dksX0_trade_5 19 rfl rfl)
theorem dX0_trade_140 : decode cX0_trade 140 = .ok (.iload_n 1, 1) := dk_27 (dk_at dksX0_trade_5 22 rfl rfl)
theorem dX0_trade_141 : decode cX0_trade 141 = .ok (.dup2, 1) := dk_92 (dk_at dksX0_trade_5 23 rfl rfl)
theorem dX0_trade_142 : decode cX0_trade 142 = .ok (.iaload, 1) := dk_46 (dk_at dksX0_trade_6 0 rfl rfl)
theorem dX0_trade_143 : decode cX0_trade 143 = .ok (.iload 4, 2) := dk_21 4 (dk_at dksX0_trade_6 1 rfl rfl)
theorem dX0_trade_145 : decode cX0_trade 145 = .ok (.iadd, 1) := dk_96 (dk_at dksX0_trade_6 3 rfl rfl)
theorem dX0_trade_146 : decode cX0_trade 146 = .ok (.iastore, 1) := dk_79 (dk_at dksX0_trade_6 4 rfl rfl)
theorem dX0_trade_147 : decode cX0_trade 147 = .ok (.aload_n 0, 1) := dk_42 (dk_at dksX0_trade_6 5 rfl rfl)
theorem dX0_trade_148 : decode cX0_trade 148 = .ok (.getfield 49, 3) := dk_180 0 49 (dk_at dksX0_trade_6 6 rfl rfl)
theorem dX0_trade_151 : decode cX0_trade 151 = .ok (.getfield 53, 3) := dk_180 0 53 (dk_at dksX0_trade_6 9 rfl rfl)
theorem dX0_trade_154 : decode cX0_trade 154 = .ok (.iload_n 2, 1) := dk_28 (dk_at dksX0_trade_6 12 rfl rfl)
theorem dX0_trade_155 : decode cX0_trade 155 = .ok (.iaload, 1) := dk_46 (dk_at dksX0_trade_6 13 rfl rfl)
theorem dX0_trade_156 : decode cX0_trade 156 = .ok (.ireturn, 1) := dk_172 (dk_at dksX0_trade_6 14 rfl rfl)
abbrev cX0_areTwo : ByteArray := prog_1_method_21_code
def yX0_areTwo : MethodName := ⟨RX0, "areTwo", "(II)Z"⟩
def dkwX0_areTwo_1 : List UInt8 := [167, 0, 4, 3, 172]
abbrev dktX0_areTwo_1 : List UInt8 := dkwX0_areTwo_1 ++ []
def dkwX0_areTwo_0 : List UInt8 := [42, 27, 182, 0, 215, 153, 0, 20, 42, 28, 182, 0, 215, 153, 0, 12, 27, 28, 159, 0, 7, 4]
abbrev dktX0_areTwo_0 : List UInt8 := dkwX0_areTwo_0 ++ dktX0_areTwo_1
theorem dksX0_areTwo_0 : cX0_areTwo.data.toList.drop 0 = dktX0_areTwo_0 := by decide +kernel
theorem dksX0_areTwo_1 : cX0_areTwo.data.toList.drop 22 = dktX0_areTwo_1 := dk_seg dksX0_areTwo_0 22 rfl rfl
theorem dX0_areTwo_0 : decode cX0_areTwo 0 = .ok (.aload_n 0, 1) := dk_42 (dk_at dksX0_areTwo_0 0 rfl rfl)
theorem dX0_areTwo_1 : decode cX0_areTwo 1 = .ok (.iload_n 1, 1) := dk_27 (dk_at dksX0_areTwo_0 1 rfl rfl)
theorem dX0_areTwo_2 : decode cX0_areTwo 2 = .ok (.invokevirtual 215, 3) := dk_182 0 215 (dk_at dksX0_areTwo_0 2 rfl rfl)
theorem dX0_areTwo_5 : decode cX0_areTwo 5 = .ok (.ifCond .eq 20, 3) := dk_153 0 20 (dk_at dksX0_areTwo_0 5 rfl rfl)
theorem dX0_areTwo_8 : decode cX0_areTwo 8 = .ok (.aload_n 0, 1) := dk_42 (dk_at dksX0_areTwo_0 8 rfl rfl)
theorem dX0_areTwo_9 : decode cX0_areTwo 9 = .ok (.iload_n 2, 1) := dk_28 (dk_at dksX0_areTwo_0 9 rfl rfl)
theorem dX0_areTwo_10 : decode cX0_areTwo 10 = .ok (.invokevirtual 215, 3) := dk_182 0 215 (dk_at dksX0_areTwo_0 10 rfl rfl)
theorem dX0_areTwo_13 : decode cX0_areTwo 13 = .ok (.ifCond .eq 12, 3) := dk_153 0 12 (dk_at dksX0_areTwo_0 13 rfl rfl)
theorem dX0_areTwo_16 : decode cX0_areTwo 16 = .ok (.iload_n 1, 1) := dk_27 (dk_at dksX0_areTwo_0 16 rfl rfl)
theorem dX0_areTwo_17 : decode cX0_areTwo 17 = .ok (.iload_n 2, 1) := dk_28 (dk_at dksX0_areTwo_0 17 rfl rfl)
theorem dX0_areTwo_18 : decode cX0_areTwo 18 = .ok (.if_icmp .eq 7, 3) := dk_159 0 7 (dk_at dksX0_areTwo_0 18 rfl rfl)
theorem dX0_areTwo_21 : decode cX0_areTwo 21 = .ok (.iconst 1, 1) := dk_4 (dk_at dksX0_areTwo_0 21 rfl rfl)
theorem dX0_areTwo_22 : decode cX0_areTwo 22 = .ok (.goto 4, 3) := dk_167 0 4 (dk_at dksX0_areTwo_1 0 rfl rfl)
theorem dX0_areTwo_25 : decode cX0_areTwo 25 = .ok (.iconst 0, 1) := dk_3 (dk_at dksX0_areTwo_1 3 rfl rfl)
theorem dX0_areTwo_26 : decode cX0_areTwo 26 = .ok (.ireturn, 1) := dk_172 (dk_at dksX0_areTwo_1 4 rfl rfl)
abbrev cX0_owe : ByteArray := prog_1_method_38_code
def yX0_owe : MethodName := ⟨RX0, "owe", "(III)I"⟩
def dkwX0_owe_3 : List UInt8 := [180, 0, 80, 27, 50, 28, 46, 172]
abbrev dktX0_owe_3 : List UInt8 := dkwX0_owe_3 ++ []
def dkwX0_owe_2 : List UInt8 := [172, 42, 182, 1, 27, 42, 180, 0, 49, 180, 0, 80, 27, 50, 28, 92, 46, 29, 96, 79, 42, 180, 0, 49]
abbrev dktX0_owe_2 : List UInt8 := dkwX0_owe_2 ++ dktX0_owe_3
def dkwX0_owe_1 : List UInt8 := [16, 253, 172, 42, 180, 0, 49, 180, 0, 80, 27, 50, 28, 46, 29, 96, 17, 3, 231, 164, 0, 6, 16, 251]
abbrev dktX0_owe_1 : List UInt8 := dkwX0_owe_1 ++ dktX0_owe_2
def dkwX0_owe_0 : List UInt8 := [42, 27, 28, 182, 1, 46, 154, 0, 6, 16, 254, 172, 29, 133, 10, 20, 1, 51, 184, 0, 211, 154, 0, 6]
abbrev dktX0_owe_0 : List UInt8 := dkwX0_owe_0 ++ dktX0_owe_1
theorem dksX0_owe_0 : cX0_owe.data.toList.drop 0 = dktX0_owe_0 := by decide +kernel
theorem dksX0_owe_1 : cX0_owe.data.toList.drop 24 = dktX0_owe_1 := dk_seg dksX0_owe_0 24 rfl rfl
theorem dksX0_owe_2 : cX0_owe.data.toList.drop 48 = dktX0_owe_2 := dk_seg dksX0_owe_1 24 rfl rfl
theorem dksX0_owe_3 : cX0_owe.data.toList.drop 72 = dktX0_owe_3 := dk_seg dksX0_owe_2 24 rfl rfl
theorem dX0_owe_0 : decode cX0_owe 0 = .ok (.aload_n 0, 1) := dk_42 (dk_at dksX0_owe_0 0 rfl rfl)
theorem dX0_owe_1 : decode cX0_owe 1 = .ok (.iload_n 1, 1) := dk_27 (dk_at dksX0_owe_0 1 rfl rfl)
theorem dX0_owe_2 : decode cX0_owe 2 = .ok (.iload_n 2, 1) := dk_28 (dk_at dksX0_owe_0 2 rfl rfl)
theorem dX0_owe_3 : decode cX0_owe 3 = .ok (.invokevirtual 302, 3) := dk_182 1 46 (dk_at dksX0_owe_0 3 rfl rfl)
theorem dX0_owe_6 : decode cX0_owe 6 = .ok (.ifCond .ne 6, 3) := dk_154 0 6 (dk_at dksX0_owe_0 6 rfl rfl)
theorem dX0_owe_9 : decode cX0_owe 9 = .ok (.bipush (-2), 2) := dk_16 254 (dk_at dksX0_owe_0 9 rfl rfl)
theorem dX0_owe_11 : decode cX0_owe 11 = .ok (.ireturn, 1) := dk_172 (dk_at dksX0_owe_0 11 rfl rfl)
theorem dX0_owe_12 : decode cX0_owe 12 = .ok (.iload_n 3, 1) := dk_29 (dk_at dksX0_owe_0 12 rfl rfl)
theorem dX0_owe_13 : decode cX0_owe 13 = .ok (.i2l, 1) := dk_133 (dk_at dksX0_owe_0 13 rfl rfl)
theorem dX0_owe_14 : decode cX0_owe 14 = .ok (.lconst 1, 1) := dk_10 (dk_at dksX0_owe_0 14 rfl rfl)
theorem dX0_owe_15 : decode cX0_owe 15 = .ok (.ldc2_w 307, 3) := dk_20 1 51 (dk_at dksX0_owe_0 15 rfl rfl)
theorem dX0_owe_18 : decode cX0_owe 18 = .ok (.invokestatic 211, 3) := dk_184 0 211 (dk_at dksX0_owe_0 18 rfl rfl)
theorem dX0_owe_21 : decode cX0_owe 21 = .ok (.ifCond .ne 6, 3) := dk_154 0 6 (dk_at dksX0_owe_0 21 rfl rfl)
theorem dX0_owe_24 : decode cX0_owe 24 = .ok (.bipush (-3), 2) := dk_16 253 (dk_at dksX0_owe_1 0 rfl rfl)
theorem dX0_owe_26 : decode cX0_owe 26 = .ok (.ireturn, 1) := dk_172 (dk_at dksX0_owe_1 2 rfl rfl)
theorem dX0_owe_27 : decode cX0_owe 27 = .ok (.aload_n 0, 1) := dk_42 (dk_at dksX0_owe_1 3 rfl rfl)
theorem dX0_owe_28 : decode cX0_owe 28 = .ok (.getfield 49, 3) := dk_180 0 49 (dk_at dksX0_owe_1 4 rfl rfl)
theorem dX0_owe_31 : decode cX0_owe 31 = .ok (.getfield 80, 3) := dk_180 0 80 (dk_at dksX0_owe_1 7 rfl rfl)
theorem dX0_owe_34 : decode cX0_owe 34 = .ok (.iload_n 1, 1) := dk_27 (dk_at dksX0_owe_1 10 rfl rfl)
theorem dX0_owe_35 : decode cX0_owe 35 = .ok (.aaload, 1) := dk_50 (dk_at dksX0_owe_1 11 rfl rfl)
theorem dX0_owe_36 : decode cX0_owe 36 = .ok (.iload_n 2, 1) := dk_28 (dk_at dksX0_owe_1 12 rfl rfl)
theorem dX0_owe_37 : decode cX0_owe 37 = .ok (.iaload, 1) := dk_46 (dk_at dksX0_owe_1 13 rfl rfl)
theorem dX0_owe_38 : decode cX0_owe 38 = .ok (.iload_n 3, 1) := dk_29 (dk_at dksX0_owe_1 14 rfl rfl)
theorem dX0_owe_39 : decode cX0_owe 39 = .ok (.iadd, 1) := dk_96 (dk_at dksX0_owe_1 15 rfl rfl)
theorem dX0_owe_40 : decode cX0_owe 40 = .ok (.sipush 999, 3) := dk_17 3 231 (dk_at dksX0_owe_1 16 rfl rfl)
theorem dX0_owe_43 : decode cX0_owe 43 = .ok (.if_icmp .le 6, 3) := dk_164 0 6 (dk_at dksX0_owe_1 19 rfl rfl)
theorem dX0_owe_46 : decode cX0_owe 46 = .ok (.bipush (-5), 2) := dk_16 251 (dk_at dksX0_owe_1 22 rfl rfl)
theorem dX0_owe_48 : decode cX0_owe 48 = .ok (.ireturn, 1) := dk_172 (dk_at dksX0_owe_2 0 rfl rfl)
theorem dX0_owe_49 : decode cX0_owe 49 = .ok (.aload_n 0, 1) := dk_42 (dk_at dksX0_owe_2 1 rfl rfl)
theorem dX0_owe_50 : decode cX0_owe 50 = .ok (.invokevirtual 283, 3) := dk_182 1 27 (dk_at dksX0_owe_2 2 rfl rfl)
theorem dX0_owe_53 : decode cX0_owe 53 = .ok (.aload_n 0, 1) := dk_42 (dk_at dksX0_owe_2 5 rfl rfl)
theorem dX0_owe_54 : decode cX0_owe 54 = .ok (.getfield 49, 3) := dk_180 0 49 (dk_at dksX0_owe_2 6 rfl rfl)
theorem dX0_owe_57 : decode cX0_owe 57 = .ok (.getfield 80, 3) := dk_180 0 80 (dk_at dksX0_owe_2 9 rfl rfl)
theorem dX0_owe_60 : decode cX0_owe 60 = .ok (.iload_n 1, 1) := dk_27 (dk_at dksX0_owe_2 12 rfl rfl)
theorem dX0_owe_61 : decode cX0_owe 61 = .ok (.aaload, 1) := dk_50 (dk_at dksX0_owe_2 13 rfl rfl)
theorem dX0_owe_62 : decode cX0_owe 62 = .ok (.iload_n 2, 1) := dk_28 (dk_at dksX0_owe_2 14 rfl rfl)
theorem dX0_owe_63 : decode cX0_owe 63 = .ok (.dup2, 1) := dk_92 (dk_at dksX0_owe_2 15 rfl rfl)
theorem dX0_owe_64 : decode cX0_owe 64 = .ok (.iaload, 1) := dk_46 (dk_at dksX0_owe_2 16 rfl rfl)
theorem dX0_owe_65 : decode cX0_owe 65 = .ok (.iload_n 3, 1) := dk_29 (dk_at dksX0_owe_2 17 rfl rfl)
theorem dX0_owe_66 : decode cX0_owe 66 = .ok (.iadd, 1) := dk_96 (dk_at dksX0_owe_2 18 rfl rfl)
theorem dX0_owe_67 : decode cX0_owe 67 = .ok (.iastore, 1) := dk_79 (dk_at dksX0_owe_2 19 rfl rfl)
theorem dX0_owe_68 : decode cX0_owe 68 = .ok (.aload_n 0, 1) := dk_42 (dk_at dksX0_owe_2 20 rfl rfl)
theorem dX0_owe_69 : decode cX0_owe 69 = .ok (.getfield 49, 3) := dk_180 0 49 (dk_at dksX0_owe_2 21 rfl rfl)
theorem dX0_owe_72 : decode cX0_owe 72 = .ok (.getfield 80, 3) := dk_180 0 80 (dk_at dksX0_owe_3 0 rfl rfl)
theorem dX0_owe_75 : decode cX0_owe 75 = .ok (.iload_n 1, 1) := dk_27 (dk_at dksX0_owe_3 3 rfl rfl)
theorem dX0_owe_76 : decode cX0_owe 76 = .ok (.aaload, 1) := dk_50 (dk_at dksX0_owe_3 4 rfl rfl)
theorem dX0_owe_77 : decode cX0_owe 77 = .ok (.iload_n 2, 1) := dk_28 (dk_at dksX0_owe_3 5 rfl rfl)
theorem dX0_owe_78 : decode cX0_owe 78 = .ok (.iaload, 1) := dk_46 (dk_at dksX0_owe_3 6 rfl rfl)
theorem dX0_owe_79 : decode cX0_owe 79 = .ok (.ireturn, 1) := dk_172 (dk_at dksX0_owe_3 7 rfl rfl)
abbrev cX0_owes : ByteArray := prog_1_method_39_code
def yX0_owes : MethodName := ⟨RX0, "owes", "(II)I"⟩
def dkwX0_owes_1 : List UInt8 := [16, 254, 172]
abbrev dktX0_owes_1 : List UInt8 := dkwX0_owes_1 ++ []
def dkwX0_owes_0 : List UInt8 := [42, 27, 28, 182, 1, 46, 153, 0, 17, 42, 180, 0, 49, 180, 0, 80, 27, 50, 28, 46, 167, 0, 5]
abbrev dktX0_owes_0 : List UInt8 := dkwX0_owes_0 ++ dktX0_owes_1
theorem dksX0_owes_0 : cX0_owes.data.toList.drop 0 = dktX0_owes_0 := by decide +kernel
theorem dksX0_owes_1 : cX0_owes.data.toList.drop 23 = dktX0_owes_1 := dk_seg dksX0_owes_0 23 rfl rfl
theorem dX0_owes_0 : decode cX0_owes 0 = .ok (.aload_n 0, 1) := dk_42 (dk_at dksX0_owes_0 0 rfl rfl)
theorem dX0_owes_1 : decode cX0_owes 1 = .ok (.iload_n 1, 1) := dk_27 (dk_at dksX0_owes_0 1 rfl rfl)
theorem dX0_owes_2 : decode cX0_owes 2 = .ok (.iload_n 2, 1) := dk_28 (dk_at dksX0_owes_0 2 rfl rfl)
theorem dX0_owes_3 : decode cX0_owes 3 = .ok (.invokevirtual 302, 3) := dk_182 1 46 (dk_at dksX0_owes_0 3 rfl rfl)
theorem dX0_owes_6 : decode cX0_owes 6 = .ok (.ifCond .eq 17, 3) := dk_153 0 17 (dk_at dksX0_owes_0 6 rfl rfl)
theorem dX0_owes_9 : decode cX0_owes 9 = .ok (.aload_n 0, 1) := dk_42 (dk_at dksX0_owes_0 9 rfl rfl)
theorem dX0_owes_10 : decode cX0_owes 10 = .ok (.getfield 49, 3) := dk_180 0 49 (dk_at dksX0_owes_0 10 rfl rfl)
theorem dX0_owes_13 : decode cX0_owes 13 = .ok (.getfield 80, 3) := dk_180 0 80 (dk_at dksX0_owes_0 13 rfl rfl)
theorem dX0_owes_16 : decode cX0_owes 16 = .ok (.iload_n 1, 1) := dk_27 (dk_at dksX0_owes_0 16 rfl rfl)
theorem dX0_owes_17 : decode cX0_owes 17 = .ok (.aaload, 1) := dk_50 (dk_at dksX0_owes_0 17 rfl rfl)
theorem dX0_owes_18 : decode cX0_owes 18 = .ok (.iload_n 2, 1) := dk_28 (dk_at dksX0_owes_0 18 rfl rfl)
theorem dX0_owes_19 : decode cX0_owes 19 = .ok (.iaload, 1) := dk_46 (dk_at dksX0_owes_0 19 rfl rfl)
theorem dX0_owes_20 : decode cX0_owes 20 = .ok (.goto 5, 3) := dk_167 0 5 (dk_at dksX0_owes_0 20 rfl rfl)
theorem dX0_owes_23 : decode cX0_owes 23 = .ok (.bipush (-2), 2) := dk_16 254 (dk_at dksX0_owes_1 0 rfl rfl)
theorem dX0_owes_25 : decode cX0_owes 25 = .ok (.ireturn, 1) := dk_172 (dk_at dksX0_owes_1 2 rfl rfl)
abbrev cX0_undo : ByteArray := prog_1_method_40_code
def yX0_undo : MethodName := ⟨RX0, "undo", "()I"⟩
def dkwX0_undo_1 : List UInt8 := [100, 90, 181, 0, 86, 50, 182, 0, 111, 87, 42, 180, 0, 86, 172]
abbrev dktX0_undo_1 : List UInt8 := dkwX0_undo_1 ++ []
def dkwX0_undo_0 : List UInt8 := [42, 180, 0, 86, 154, 0, 6, 16, 252, 172, 42, 180, 0, 49, 42, 180, 0, 99, 42, 89, 180, 0, 86, 4]
abbrev dktX0_undo_0 : List UInt8 := dkwX0_undo_0 ++ dktX0_undo_1
theorem dksX0_undo_0 : cX0_undo.data.toList.drop 0 = dktX0_undo_0 := by decide +kernel
theorem dksX0_undo_1 : cX0_undo.data.toList.drop 24 = dktX0_undo_1 := dk_seg dksX0_undo_0 24 rfl rfl
theorem dX0_undo_0 : decode cX0_undo 0 = .ok (.aload_n 0, 1) := dk_42 (dk_at dksX0_undo_0 0 rfl rfl)
theorem dX0_undo_1 : decode cX0_undo 1 = .ok (.getfield 86, 3) := dk_180 0 86 (dk_at dksX0_undo_0 1 rfl rfl)
theorem dX0_undo_4 : decode cX0_undo 4 = .ok (.ifCond .ne 6, 3) := dk_154 0 6 (dk_at dksX0_undo_0 4 rfl rfl)
theorem dX0_undo_7 : decode cX0_undo 7 = .ok (.bipush (-4), 2) := dk_16 252 (dk_at dksX0_undo_0 7 rfl rfl)
theorem dX0_undo_9 : decode cX0_undo 9 = .ok (.ireturn, 1) := dk_172 (dk_at dksX0_undo_0 9 rfl rfl)
theorem dX0_undo_10 : decode cX0_undo 10 = .ok (.aload_n 0, 1) := dk_42 (dk_at dksX0_undo_0 10 rfl rfl)
theorem dX0_undo_11 : decode cX0_undo 11 = .ok (.getfield 49, 3) := dk_180 0 49 (dk_at dksX0_undo_0 11 rfl rfl)
theorem dX0_undo_14 : decode cX0_undo 14 = .ok (.aload_n 0, 1) := dk_42 (dk_at dksX0_undo_0 14 rfl rfl)
theorem dX0_undo_15 : decode cX0_undo 15 = .ok (.getfield 99, 3) := dk_180 0 99 (dk_at dksX0_undo_0 15 rfl rfl)
theorem dX0_undo_18 : decode cX0_undo 18 = .ok (.aload_n 0, 1) := dk_42 (dk_at dksX0_undo_0 18 rfl rfl)
theorem dX0_undo_19 : decode cX0_undo 19 = .ok (.dup, 1) := dk_89 (dk_at dksX0_undo_0 19 rfl rfl)
theorem dX0_undo_20 : decode cX0_undo 20 = .ok (.getfield 86, 3) := dk_180 0 86 (dk_at dksX0_undo_0 20 rfl rfl)
theorem dX0_undo_23 : decode cX0_undo 23 = .ok (.iconst 1, 1) := dk_4 (dk_at dksX0_undo_0 23 rfl rfl)
theorem dX0_undo_24 : decode cX0_undo 24 = .ok (.isub, 1) := dk_100 (dk_at dksX0_undo_1 0 rfl rfl)
theorem dX0_undo_25 : decode cX0_undo 25 = .ok (.dup_x1, 1) := dk_90 (dk_at dksX0_undo_1 1 rfl rfl)
theorem dX0_undo_26 : decode cX0_undo 26 = .ok (.putfield 86, 3) := dk_181 0 86 (dk_at dksX0_undo_1 2 rfl rfl)
theorem dX0_undo_29 : decode cX0_undo 29 = .ok (.aaload, 1) := dk_50 (dk_at dksX0_undo_1 5 rfl rfl)
theorem dX0_undo_30 : decode cX0_undo 30 = .ok (.invokevirtual 111, 3) := dk_182 0 111 (dk_at dksX0_undo_1 6 rfl rfl)
theorem dX0_undo_33 : decode cX0_undo 33 = .ok (.pop, 1) := dk_87 (dk_at dksX0_undo_1 9 rfl rfl)
theorem dX0_undo_34 : decode cX0_undo 34 = .ok (.aload_n 0, 1) := dk_42 (dk_at dksX0_undo_1 10 rfl rfl)
theorem dX0_undo_35 : decode cX0_undo 35 = .ok (.getfield 86, 3) := dk_180 0 86 (dk_at dksX0_undo_1 11 rfl rfl)
theorem dX0_undo_38 : decode cX0_undo 38 = .ok (.ireturn, 1) := dk_172 (dk_at dksX0_undo_1 14 rfl rfl)
abbrev cX0_keep : ByteArray := prog_1_method_41_code
def yX0_keep : MethodName := ⟨RX0, "keep", "(I)I"⟩
def dkwX0_keep_1 : List UInt8 := [183, 0, 108, 42, 180, 0, 49, 182, 0, 111, 83, 42, 180, 0, 49, 180, 0, 83, 172]
abbrev dktX0_keep_1 : List UInt8 := dkwX0_keep_1 ++ []
def dkwX0_keep_0 : List UInt8 := [27, 133, 9, 10, 184, 0, 211, 154, 0, 6, 16, 254, 172, 42, 180, 0, 95, 27, 187, 0, 54, 89]
abbrev dktX0_keep_0 : List UInt8 := dkwX0_keep_0 ++ dktX0_keep_1
theorem dksX0_keep_0 : cX0_keep.data.toList.drop 0 = dktX0_keep_0 := by decide +kernel
theorem dksX0_keep_1 : cX0_keep.data.toList.drop 22 = dktX0_keep_1 := dk_seg dksX0_keep_0 22 rfl rfl
theorem dX0_keep_0 : decode cX0_keep 0 = .ok (.iload_n 1, 1) := dk_27 (dk_at dksX0_keep_0 0 rfl rfl)
theorem dX0_keep_1 : decode cX0_keep 1 = .ok (.i2l, 1) := dk_133 (dk_at dksX0_keep_0 1 rfl rfl)
theorem dX0_keep_2 : decode cX0_keep 2 = .ok (.lconst 0, 1) := dk_9 (dk_at dksX0_keep_0 2 rfl rfl)
theorem dX0_keep_3 : decode cX0_keep 3 = .ok (.lconst 1, 1) := dk_10 (dk_at dksX0_keep_0 3 rfl rfl)
theorem dX0_keep_4 : decode cX0_keep 4 = .ok (.invokestatic 211, 3) := dk_184 0 211 (dk_at dksX0_keep_0 4 rfl rfl)
theorem dX0_keep_7 : decode cX0_keep 7 = .ok (.ifCond .ne 6, 3) := dk_154 0 6 (dk_at dksX0_keep_0 7 rfl rfl)
theorem dX0_keep_10 : decode cX0_keep 10 = .ok (.bipush (-2), 2) := dk_16 254 (dk_at dksX0_keep_0 10 rfl rfl)
theorem dX0_keep_12 : decode cX0_keep 12 = .ok (.ireturn, 1) := dk_172 (dk_at dksX0_keep_0 12 rfl rfl)
theorem dX0_keep_13 : decode cX0_keep 13 = .ok (.aload_n 0, 1) := dk_42 (dk_at dksX0_keep_0 13 rfl rfl)
theorem dX0_keep_14 : decode cX0_keep 14 = .ok (.getfield 95, 3) := dk_180 0 95 (dk_at dksX0_keep_0 14 rfl rfl)
theorem dX0_keep_17 : decode cX0_keep 17 = .ok (.iload_n 1, 1) := dk_27 (dk_at dksX0_keep_0 17 rfl rfl)
theorem dX0_keep_18 : decode cX0_keep 18 = .ok (.new 54, 3) := dk_187 0 54 (dk_at dksX0_keep_0 18 rfl rfl)
theorem dX0_keep_21 : decode cX0_keep 21 = .ok (.dup, 1) := dk_89 (dk_at dksX0_keep_0 21 rfl rfl)
theorem dX0_keep_22 : decode cX0_keep 22 = .ok (.invokespecial 108, 3) := dk_183 0 108 (dk_at dksX0_keep_1 0 rfl rfl)
theorem dX0_keep_25 : decode cX0_keep 25 = .ok (.aload_n 0, 1) := dk_42 (dk_at dksX0_keep_1 3 rfl rfl)
theorem dX0_keep_26 : decode cX0_keep 26 = .ok (.getfield 49, 3) := dk_180 0 49 (dk_at dksX0_keep_1 4 rfl rfl)
theorem dX0_keep_29 : decode cX0_keep 29 = .ok (.invokevirtual 111, 3) := dk_182 0 111 (dk_at dksX0_keep_1 7 rfl rfl)
theorem dX0_keep_32 : decode cX0_keep 32 = .ok (.aastore, 1) := dk_83 (dk_at dksX0_keep_1 10 rfl rfl)
theorem dX0_keep_33 : decode cX0_keep 33 = .ok (.aload_n 0, 1) := dk_42 (dk_at dksX0_keep_1 11 rfl rfl)
theorem dX0_keep_34 : decode cX0_keep 34 = .ok (.getfield 49, 3) := dk_180 0 49 (dk_at dksX0_keep_1 12 rfl rfl)
theorem dX0_keep_37 : decode cX0_keep 37 = .ok (.getfield 83, 3) := dk_180 0 83 (dk_at dksX0_keep_1 15 rfl rfl)
theorem dX0_keep_40 : decode cX0_keep 40 = .ok (.ireturn, 1) := dk_172 (dk_at dksX0_keep_1 18 rfl rfl)
abbrev cX0_back : ByteArray := prog_1_method_42_code
def yX0_back : MethodName := ⟨RX0, "back", "(I)I"⟩
def dkwX0_back_1 : List UInt8 := [182, 0, 111, 87, 167, 0, 7, 77, 16, 252, 172, 42, 3, 181, 0, 86, 42, 180, 0, 49, 180, 0, 83, 172]
abbrev dktX0_back_1 : List UInt8 := dkwX0_back_1 ++ []
def dkwX0_back_0 : List UInt8 := [27, 133, 9, 10, 184, 0, 211, 154, 0, 6, 16, 254, 172, 42, 180, 0, 49, 42, 180, 0, 95, 27, 50]
abbrev dktX0_back_0 : List UInt8 := dkwX0_back_0 ++ dktX0_back_1
theorem dksX0_back_0 : cX0_back.data.toList.drop 0 = dktX0_back_0 := by decide +kernel
theorem dksX0_back_1 : cX0_back.data.toList.drop 23 = dktX0_back_1 := dk_seg dksX0_back_0 23 rfl rfl
theorem dX0_back_0 : decode cX0_back 0 = .ok (.iload_n 1, 1) := dk_27 (dk_at dksX0_back_0 0 rfl rfl)
theorem dX0_back_1 : decode cX0_back 1 = .ok (.i2l, 1) := dk_133 (dk_at dksX0_back_0 1 rfl rfl)
theorem dX0_back_2 : decode cX0_back 2 = .ok (.lconst 0, 1) := dk_9 (dk_at dksX0_back_0 2 rfl rfl)
theorem dX0_back_3 : decode cX0_back 3 = .ok (.lconst 1, 1) := dk_10 (dk_at dksX0_back_0 3 rfl rfl)
theorem dX0_back_4 : decode cX0_back 4 = .ok (.invokestatic 211, 3) := dk_184 0 211 (dk_at dksX0_back_0 4 rfl rfl)
theorem dX0_back_7 : decode cX0_back 7 = .ok (.ifCond .ne 6, 3) := dk_154 0 6 (dk_at dksX0_back_0 7 rfl rfl)
theorem dX0_back_10 : decode cX0_back 10 = .ok (.bipush (-2), 2) := dk_16 254 (dk_at dksX0_back_0 10 rfl rfl)
theorem dX0_back_12 : decode cX0_back 12 = .ok (.ireturn, 1) := dk_172 (dk_at dksX0_back_0 12 rfl rfl)
theorem dX0_back_13 : decode cX0_back 13 = .ok (.aload_n 0, 1) := dk_42 (dk_at dksX0_back_0 13 rfl rfl)
theorem dX0_back_14 : decode cX0_back 14 = .ok (.getfield 49, 3) := dk_180 0 49 (dk_at dksX0_back_0 14 rfl rfl)
theorem dX0_back_17 : decode cX0_back 17 = .ok (.aload_n 0, 1) := dk_42 (dk_at dksX0_back_0 17 rfl rfl)
theorem dX0_back_18 : decode cX0_back 18 = .ok (.getfield 95, 3) := dk_180 0 95 (dk_at dksX0_back_0 18 rfl rfl)
theorem dX0_back_21 : decode cX0_back 21 = .ok (.iload_n 1, 1) := dk_27 (dk_at dksX0_back_0 21 rfl rfl)
theorem dX0_back_22 : decode cX0_back 22 = .ok (.aaload, 1) := dk_50 (dk_at dksX0_back_0 22 rfl rfl)
theorem dX0_back_23 : decode cX0_back 23 = .ok (.invokevirtual 111, 3) := dk_182 0 111 (dk_at dksX0_back_1 0 rfl rfl)
theorem dX0_back_26 : decode cX0_back 26 = .ok (.pop, 1) := dk_87 (dk_at dksX0_back_1 3 rfl rfl)
theorem dX0_back_27 : decode cX0_back 27 = .ok (.goto 7, 3) := dk_167 0 7 (dk_at dksX0_back_1 4 rfl rfl)
theorem dX0_back_30 : decode cX0_back 30 = .ok (.astore_n 2, 1) := dk_77 (dk_at dksX0_back_1 7 rfl rfl)
theorem dX0_back_31 : decode cX0_back 31 = .ok (.bipush (-4), 2) := dk_16 252 (dk_at dksX0_back_1 8 rfl rfl)
theorem dX0_back_33 : decode cX0_back 33 = .ok (.ireturn, 1) := dk_172 (dk_at dksX0_back_1 10 rfl rfl)
theorem dX0_back_34 : decode cX0_back 34 = .ok (.aload_n 0, 1) := dk_42 (dk_at dksX0_back_1 11 rfl rfl)
theorem dX0_back_35 : decode cX0_back 35 = .ok (.iconst 0, 1) := dk_3 (dk_at dksX0_back_1 12 rfl rfl)
theorem dX0_back_36 : decode cX0_back 36 = .ok (.putfield 86, 3) := dk_181 0 86 (dk_at dksX0_back_1 13 rfl rfl)
theorem dX0_back_39 : decode cX0_back 39 = .ok (.aload_n 0, 1) := dk_42 (dk_at dksX0_back_1 16 rfl rfl)
theorem dX0_back_40 : decode cX0_back 40 = .ok (.getfield 49, 3) := dk_180 0 49 (dk_at dksX0_back_1 17 rfl rfl)
theorem dX0_back_43 : decode cX0_back 43 = .ok (.getfield 83, 3) := dk_180 0 83 (dk_at dksX0_back_1 20 rfl rfl)
theorem dX0_back_46 : decode cX0_back 46 = .ok (.ireturn, 1) := dk_172 (dk_at dksX0_back_1 23 rfl rfl)
abbrev cX0_cheapest : ByteArray := prog_1_method_45_code
def yX0_cheapest : MethodName := ⟨RX0, "cheapest", "(I)I"⟩
def dkwX0_cheapest_2 : List UInt8 := [167, 0, 9, 42, 180, 0, 205, 27, 46, 172]
abbrev dktX0_cheapest_2 : List UInt8 := dkwX0_cheapest_2 ++ []
def dkwX0_cheapest_1 : List UInt8 := [180, 1, 59, 167, 0, 29, 42, 180, 1, 59, 2, 159, 0, 11, 27, 42, 180, 0, 89, 161, 0, 7, 2]
abbrev dktX0_cheapest_1 : List UInt8 := dkwX0_cheapest_1 ++ dktX0_cheapest_2
def dkwX0_cheapest_0 : List UInt8 := [27, 2, 162, 0, 6, 16, 253, 172, 42, 182, 1, 71, 154, 0, 6, 16, 252, 172, 27, 2, 160, 0, 10, 42]
abbrev dktX0_cheapest_0 : List UInt8 := dkwX0_cheapest_0 ++ dktX0_cheapest_1
theorem dksX0_cheapest_0 : cX0_cheapest.data.toList.drop 0 = dktX0_cheapest_0 := by decide +kernel
theorem dksX0_cheapest_1 : cX0_cheapest.data.toList.drop 24 = dktX0_cheapest_1 := dk_seg dksX0_cheapest_0 24 rfl rfl
theorem dksX0_cheapest_2 : cX0_cheapest.data.toList.drop 47 = dktX0_cheapest_2 := dk_seg dksX0_cheapest_1 23 rfl rfl
theorem dX0_cheapest_0 : decode cX0_cheapest 0 = .ok (.iload_n 1, 1) := dk_27 (dk_at dksX0_cheapest_0 0 rfl rfl)
theorem dX0_cheapest_1 : decode cX0_cheapest 1 = .ok (.iconst (-1), 1) := dk_2 (dk_at dksX0_cheapest_0 1 rfl rfl)
theorem dX0_cheapest_2 : decode cX0_cheapest 2 = .ok (.if_icmp .ge 6, 3) := dk_162 0 6 (dk_at dksX0_cheapest_0 2 rfl rfl)
theorem dX0_cheapest_5 : decode cX0_cheapest 5 = .ok (.bipush (-3), 2) := dk_16 253 (dk_at dksX0_cheapest_0 5 rfl rfl)
theorem dX0_cheapest_7 : decode cX0_cheapest 7 = .ok (.ireturn, 1) := dk_172 (dk_at dksX0_cheapest_0 7 rfl rfl)
theorem dX0_cheapest_8 : decode cX0_cheapest 8 = .ok (.aload_n 0, 1) := dk_42 (dk_at dksX0_cheapest_0 8 rfl rfl)
theorem dX0_cheapest_9 : decode cX0_cheapest 9 = .ok (.invokevirtual 327, 3) := dk_182 1 71 (dk_at dksX0_cheapest_0 9 rfl rfl)
theorem dX0_cheapest_12 : decode cX0_cheapest 12 = .ok (.ifCond .ne 6, 3) := dk_154 0 6 (dk_at dksX0_cheapest_0 12 rfl rfl)
theorem dX0_cheapest_15 : decode cX0_cheapest 15 = .ok (.bipush (-4), 2) := dk_16 252 (dk_at dksX0_cheapest_0 15 rfl rfl)
theorem dX0_cheapest_17 : decode cX0_cheapest 17 = .ok (.ireturn, 1) := dk_172 (dk_at dksX0_cheapest_0 17 rfl rfl)
theorem dX0_cheapest_18 : decode cX0_cheapest 18 = .ok (.iload_n 1, 1) := dk_27 (dk_at dksX0_cheapest_0 18 rfl rfl)
theorem dX0_cheapest_19 : decode cX0_cheapest 19 = .ok (.iconst (-1), 1) := dk_2 (dk_at dksX0_cheapest_0 19 rfl rfl)
theorem dX0_cheapest_20 : decode cX0_cheapest 20 = .ok (.if_icmp .ne 10, 3) := dk_160 0 10 (dk_at dksX0_cheapest_0 20 rfl rfl)
theorem dX0_cheapest_23 : decode cX0_cheapest 23 = .ok (.aload_n 0, 1) := dk_42 (dk_at dksX0_cheapest_0 23 rfl rfl)
theorem dX0_cheapest_24 : decode cX0_cheapest 24 = .ok (.getfield 315, 3) := dk_180 1 59 (dk_at dksX0_cheapest_1 0 rfl rfl)
theorem dX0_cheapest_27 : decode cX0_cheapest 27 = .ok (.goto 29, 3) := dk_167 0 29 (dk_at dksX0_cheapest_1 3 rfl rfl)
theorem dX0_cheapest_30 : decode cX0_cheapest 30 = .ok (.aload_n 0, 1) := dk_42 (dk_at dksX0_cheapest_1 6 rfl rfl)
theorem dX0_cheapest_31 : decode cX0_cheapest 31 = .ok (.getfield 315, 3) := dk_180 1 59 (dk_at dksX0_cheapest_1 7 rfl rfl)
theorem dX0_cheapest_34 : decode cX0_cheapest 34 = .ok (.iconst (-1), 1) := dk_2 (dk_at dksX0_cheapest_1 10 rfl rfl)
theorem dX0_cheapest_35 : decode cX0_cheapest 35 = .ok (.if_icmp .eq 11, 3) := dk_159 0 11 (dk_at dksX0_cheapest_1 11 rfl rfl)
theorem dX0_cheapest_38 : decode cX0_cheapest 38 = .ok (.iload_n 1, 1) := dk_27 (dk_at dksX0_cheapest_1 14 rfl rfl)
theorem dX0_cheapest_39 : decode cX0_cheapest 39 = .ok (.aload_n 0, 1) := dk_42 (dk_at dksX0_cheapest_1 15 rfl rfl)
theorem dX0_cheapest_40 : decode cX0_cheapest 40 = .ok (.getfield 89, 3) := dk_180 0 89 (dk_at dksX0_cheapest_1 16 rfl rfl)
theorem dX0_cheapest_43 : decode cX0_cheapest 43 = .ok (.if_icmp .lt 7, 3) := dk_161 0 7 (dk_at dksX0_cheapest_1 19 rfl rfl)
theorem dX0_cheapest_46 : decode cX0_cheapest 46 = .ok (.iconst (-1), 1) := dk_2 (dk_at dksX0_cheapest_1 22 rfl rfl)
theorem dX0_cheapest_47 : decode cX0_cheapest 47 = .ok (.goto 9, 3) := dk_167 0 9 (dk_at dksX0_cheapest_2 0 rfl rfl)
theorem dX0_cheapest_50 : decode cX0_cheapest 50 = .ok (.aload_n 0, 1) := dk_42 (dk_at dksX0_cheapest_2 3 rfl rfl)
theorem dX0_cheapest_51 : decode cX0_cheapest 51 = .ok (.getfield 205, 3) := dk_180 0 205 (dk_at dksX0_cheapest_2 4 rfl rfl)
theorem dX0_cheapest_54 : decode cX0_cheapest 54 = .ok (.iload_n 1, 1) := dk_27 (dk_at dksX0_cheapest_2 7 rfl rfl)
theorem dX0_cheapest_55 : decode cX0_cheapest 55 = .ok (.iaload, 1) := dk_46 (dk_at dksX0_cheapest_2 8 rfl rfl)
theorem dX0_cheapest_56 : decode cX0_cheapest 56 = .ok (.ireturn, 1) := dk_172 (dk_at dksX0_cheapest_2 9 rfl rfl)
abbrev cX0_isOrdered : ByteArray := prog_1_method_44_code
def yX0_isOrdered : MethodName := ⟨RX0, "isOrdered", "()Z"⟩
def dkwX0_isOrdered_1 : List UInt8 := [2, 181, 1, 62, 42, 3, 3, 182, 1, 68, 4, 172]
abbrev dktX0_isOrdered_1 : List UInt8 := dkwX0_isOrdered_1 ++ []
def dkwX0_isOrdered_0 : List UInt8 := [42, 182, 1, 24, 157, 0, 12, 42, 180, 0, 89, 16, 6, 164, 0, 5, 3, 172, 42, 2, 181, 1, 59, 42]
abbrev dktX0_isOrdered_0 : List UInt8 := dkwX0_isOrdered_0 ++ dktX0_isOrdered_1
theorem dksX0_isOrdered_0 : cX0_isOrdered.data.toList.drop 0 = dktX0_isOrdered_0 := by decide +kernel
theorem dksX0_isOrdered_1 : cX0_isOrdered.data.toList.drop 24 = dktX0_isOrdered_1 := dk_seg dksX0_isOrdered_0 24 rfl rfl
theorem dX0_isOrdered_0 : decode cX0_isOrdered 0 = .ok (.aload_n 0, 1) := dk_42 (dk_at dksX0_isOrdered_0 0 rfl rfl)
theorem dX0_isOrdered_1 : decode cX0_isOrdered 1 = .ok (.invokevirtual 280, 3) := dk_182 1 24 (dk_at dksX0_isOrdered_0 1 rfl rfl)
theorem dX0_isOrdered_4 : decode cX0_isOrdered 4 = .ok (.ifCond .gt 12, 3) := dk_157 0 12 (dk_at dksX0_isOrdered_0 4 rfl rfl)
theorem dX0_isOrdered_7 : decode cX0_isOrdered 7 = .ok (.aload_n 0, 1) := dk_42 (dk_at dksX0_isOrdered_0 7 rfl rfl)
theorem dX0_isOrdered_8 : decode cX0_isOrdered 8 = .ok (.getfield 89, 3) := dk_180 0 89 (dk_at dksX0_isOrdered_0 8 rfl rfl)
theorem dX0_isOrdered_11 : decode cX0_isOrdered 11 = .ok (.bipush 6, 2) := dk_16 6 (dk_at dksX0_isOrdered_0 11 rfl rfl)
theorem dX0_isOrdered_13 : decode cX0_isOrdered 13 = .ok (.if_icmp .le 5, 3) := dk_164 0 5 (dk_at dksX0_isOrdered_0 13 rfl rfl)
theorem dX0_isOrdered_16 : decode cX0_isOrdered 16 = .ok (.iconst 0, 1) := dk_3 (dk_at dksX0_isOrdered_0 16 rfl rfl)
theorem dX0_isOrdered_17 : decode cX0_isOrdered 17 = .ok (.ireturn, 1) := dk_172 (dk_at dksX0_isOrdered_0 17 rfl rfl)
theorem dX0_isOrdered_18 : decode cX0_isOrdered 18 = .ok (.aload_n 0, 1) := dk_42 (dk_at dksX0_isOrdered_0 18 rfl rfl)
theorem dX0_isOrdered_19 : decode cX0_isOrdered 19 = .ok (.iconst (-1), 1) := dk_2 (dk_at dksX0_isOrdered_0 19 rfl rfl)
theorem dX0_isOrdered_20 : decode cX0_isOrdered 20 = .ok (.putfield 315, 3) := dk_181 1 59 (dk_at dksX0_isOrdered_0 20 rfl rfl)
theorem dX0_isOrdered_23 : decode cX0_isOrdered 23 = .ok (.aload_n 0, 1) := dk_42 (dk_at dksX0_isOrdered_0 23 rfl rfl)
theorem dX0_isOrdered_24 : decode cX0_isOrdered 24 = .ok (.iconst (-1), 1) := dk_2 (dk_at dksX0_isOrdered_1 0 rfl rfl)
theorem dX0_isOrdered_25 : decode cX0_isOrdered 25 = .ok (.putfield 318, 3) := dk_181 1 62 (dk_at dksX0_isOrdered_1 1 rfl rfl)
theorem dX0_isOrdered_28 : decode cX0_isOrdered 28 = .ok (.aload_n 0, 1) := dk_42 (dk_at dksX0_isOrdered_1 4 rfl rfl)
theorem dX0_isOrdered_29 : decode cX0_isOrdered 29 = .ok (.iconst 0, 1) := dk_3 (dk_at dksX0_isOrdered_1 5 rfl rfl)
theorem dX0_isOrdered_30 : decode cX0_isOrdered 30 = .ok (.iconst 0, 1) := dk_3 (dk_at dksX0_isOrdered_1 6 rfl rfl)
theorem dX0_isOrdered_31 : decode cX0_isOrdered 31 = .ok (.invokevirtual 324, 3) := dk_182 1 68 (dk_at dksX0_isOrdered_1 7 rfl rfl)
theorem dX0_isOrdered_34 : decode cX0_isOrdered 34 = .ok (.iconst 1, 1) := dk_4 (dk_at dksX0_isOrdered_1 10 rfl rfl)
theorem dX0_isOrdered_35 : decode cX0_isOrdered 35 = .ok (.ireturn, 1) := dk_172 (dk_at dksX0_isOrdered_1 11 rfl rfl)
abbrev cX0_layOrders : ByteArray := prog_1_method_43_code
def yX0_layOrders : MethodName := ⟨RX0, "layOrders", "(II)V"⟩
def dkwX0_layOrders_7 : List UInt8 := [4, 21, 4, 120, 128, 182, 1, 68, 132, 3, 1, 167, 255, 169, 177]
abbrev dktX0_layOrders_7 : List UInt8 := dkwX0_layOrders_7 ++ []
def dkwX0_layOrders_6 : List UInt8 := [132, 5, 1, 167, 255, 215, 21, 4, 2, 159, 0, 23, 42, 180, 0, 202, 27, 29, 79, 42, 27, 4, 96, 28]
abbrev dktX0_layOrders_6 : List UInt8 := dkwX0_layOrders_6 ++ dktX0_layOrders_7
def dkwX0_layOrders_5 : List UInt8 := [46, 29, 160, 0, 17, 28, 21, 5, 184, 0, 132, 154, 0, 8, 21, 5, 167, 0, 5, 21, 4, 54, 4]
abbrev dktX0_layOrders_5 : List UInt8 := dkwX0_layOrders_5 ++ dktX0_layOrders_6
def dkwX0_layOrders_4 : List UInt8 := [162, 0, 85, 2, 54, 4, 3, 54, 5, 21, 5, 42, 180, 0, 89, 162, 0, 38, 42, 180, 0, 171, 21, 5]
abbrev dktX0_layOrders_4 : List UInt8 := dkwX0_layOrders_4 ++ dktX0_layOrders_5
def dkwX0_layOrders_3 : List UInt8 := [184, 0, 102, 42, 42, 180, 1, 62, 29, 184, 1, 65, 181, 1, 62, 177, 3, 62, 29, 42, 180, 0, 174]
abbrev dktX0_layOrders_3 : List UInt8 := dkwX0_layOrders_3 ++ dktX0_layOrders_4
def dkwX0_layOrders_2 : List UInt8 := [29, 42, 180, 1, 59, 162, 0, 22, 42, 29, 181, 1, 59, 42, 180, 0, 202, 3, 42, 180, 0, 205, 3, 27]
abbrev dktX0_layOrders_2 : List UInt8 := dkwX0_layOrders_2 ++ dktX0_layOrders_3
def dkwX0_layOrders_1 : List UInt8 := [42, 180, 0, 202, 27, 42, 180, 0, 49, 180, 0, 83, 182, 1, 12, 62, 42, 180, 1, 59, 2, 159, 0, 11]
abbrev dktX0_layOrders_1 : List UInt8 := dkwX0_layOrders_1 ++ dktX0_layOrders_2
def dkwX0_layOrders_0 : List UInt8 := [27, 42, 180, 0, 89, 160, 0, 83, 42, 42, 180, 0, 202, 27, 182, 1, 20, 153, 0, 70, 42, 178, 1, 55]
abbrev dktX0_layOrders_0 : List UInt8 := dkwX0_layOrders_0 ++ dktX0_layOrders_1
theorem dksX0_layOrders_0 : cX0_layOrders.data.toList.drop 0 = dktX0_layOrders_0 := by decide +kernel
theorem dksX0_layOrders_1 : cX0_layOrders.data.toList.drop 24 = dktX0_layOrders_1 := dk_seg dksX0_layOrders_0 24 rfl rfl
theorem dksX0_layOrders_2 : cX0_layOrders.data.toList.drop 48 = dktX0_layOrders_2 := dk_seg dksX0_layOrders_1 24 rfl rfl
theorem dksX0_layOrders_3 : cX0_layOrders.data.toList.drop 72 = dktX0_layOrders_3 := dk_seg dksX0_layOrders_2 24 rfl rfl
theorem dksX0_layOrders_4 : cX0_layOrders.data.toList.drop 95 = dktX0_layOrders_4 := dk_seg dksX0_layOrders_3 23 rfl rfl
theorem dksX0_layOrders_5 : cX0_layOrders.data.toList.drop 119 = dktX0_layOrders_5 := dk_seg dksX0_layOrders_4 24 rfl rfl
theorem dksX0_layOrders_6 : cX0_layOrders.data.toList.drop 142 = dktX0_layOrders_6 := dk_seg dksX0_layOrders_5 23 rfl rfl
theorem dksX0_layOrders_7 : cX0_layOrders.data.toList.drop 166 = dktX0_layOrders_7 := dk_seg dksX0_layOrders_6 24 rfl rfl
theorem dX0_layOrders_0 : decode cX0_layOrders 0 = .ok (.iload_n 1, 1) := dk_27 (dk_at dksX0_layOrders_0 0 rfl rfl)
theorem dX0_layOrders_1 : decode cX0_layOrders 1 = .ok (.aload_n 0, 1) := dk_42 (dk_at dksX0_layOrders_0 1 rfl rfl)
theorem dX0_layOrders_2 : decode cX0_layOrders 2 = .ok (.getfield 89, 3) := dk_180 0 89 (dk_at dksX0_layOrders_0 2 rfl rfl)
theorem dX0_layOrders_5 : decode cX0_layOrders 5 = .ok (.if_icmp .ne 83, 3) := dk_160 0 83 (dk_at dksX0_layOrders_0 5 rfl rfl)
theorem dX0_layOrders_8 : decode cX0_layOrders 8 = .ok (.aload_n 0, 1) := dk_42 (dk_at dksX0_layOrders_0 8 rfl rfl)
theorem dX0_layOrders_9 : decode cX0_layOrders 9 = .ok (.aload_n 0, 1) := dk_42 (dk_at dksX0_layOrders_0 9 rfl rfl)
theorem dX0_layOrders_10 : decode cX0_layOrders 10 = .ok (.getfield 202, 3) := dk_180 0 202 (dk_at dksX0_layOrders_0 10 rfl rfl)
theorem dX0_layOrders_13 : decode cX0_layOrders 13 = .ok (.iload_n 1, 1) := dk_27 (dk_at dksX0_layOrders_0 13 rfl rfl)
theorem dX0_layOrders_14 : decode cX0_layOrders 14 = .ok (.invokevirtual 276, 3) := dk_182 1 20 (dk_at dksX0_layOrders_0 14 rfl rfl)
theorem dX0_layOrders_17 : decode cX0_layOrders 17 = .ok (.ifCond .eq 70, 3) := dk_153 0 70 (dk_at dksX0_layOrders_0 17 rfl rfl)
theorem dX0_layOrders_20 : decode cX0_layOrders 20 = .ok (.aload_n 0, 1) := dk_42 (dk_at dksX0_layOrders_0 20 rfl rfl)
theorem dX0_layOrders_21 : decode cX0_layOrders 21 = .ok (.getstatic 311, 3) := dk_178 1 55 (dk_at dksX0_layOrders_0 21 rfl rfl)
theorem dX0_layOrders_24 : decode cX0_layOrders 24 = .ok (.aload_n 0, 1) := dk_42 (dk_at dksX0_layOrders_1 0 rfl rfl)
theorem dX0_layOrders_25 : decode cX0_layOrders 25 = .ok (.getfield 202, 3) := dk_180 0 202 (dk_at dksX0_layOrders_1 1 rfl rfl)
theorem dX0_layOrders_28 : decode cX0_layOrders 28 = .ok (.iload_n 1, 1) := dk_27 (dk_at dksX0_layOrders_1 4 rfl rfl)
theorem dX0_layOrders_29 : decode cX0_layOrders 29 = .ok (.aload_n 0, 1) := dk_42 (dk_at dksX0_layOrders_1 5 rfl rfl)
theorem dX0_layOrders_30 : decode cX0_layOrders 30 = .ok (.getfield 49, 3) := dk_180 0 49 (dk_at dksX0_layOrders_1 6 rfl rfl)
theorem dX0_layOrders_33 : decode cX0_layOrders 33 = .ok (.getfield 83, 3) := dk_180 0 83 (dk_at dksX0_layOrders_1 9 rfl rfl)
theorem dX0_layOrders_36 : decode cX0_layOrders 36 = .ok (.invokevirtual 268, 3) := dk_182 1 12 (dk_at dksX0_layOrders_1 12 rfl rfl)
theorem dX0_layOrders_39 : decode cX0_layOrders 39 = .ok (.istore_n 3, 1) := dk_62 (dk_at dksX0_layOrders_1 15 rfl rfl)
theorem dX0_layOrders_40 : decode cX0_layOrders 40 = .ok (.aload_n 0, 1) := dk_42 (dk_at dksX0_layOrders_1 16 rfl rfl)
theorem dX0_layOrders_41 : decode cX0_layOrders 41 = .ok (.getfield 315, 3) := dk_180 1 59 (dk_at dksX0_layOrders_1 17 rfl rfl)
theorem dX0_layOrders_44 : decode cX0_layOrders 44 = .ok (.iconst (-1), 1) := dk_2 (dk_at dksX0_layOrders_1 20 rfl rfl)
theorem dX0_layOrders_45 : decode cX0_layOrders 45 = .ok (.if_icmp .eq 11, 3) := dk_159 0 11 (dk_at dksX0_layOrders_1 21 rfl rfl)
theorem dX0_layOrders_48 : decode cX0_layOrders 48 = .ok (.iload_n 3, 1) := dk_29 (dk_at dksX0_layOrders_2 0 rfl rfl)
theorem dX0_layOrders_49 : decode cX0_layOrders 49 = .ok (.aload_n 0, 1) := dk_42 (dk_at dksX0_layOrders_2 1 rfl rfl)
theorem dX0_layOrders_50 : decode cX0_layOrders 50 = .ok (.getfield 315, 3) := dk_180 1 59 (dk_at dksX0_layOrders_2 2 rfl rfl)
theorem dX0_layOrders_53 : decode cX0_layOrders 53 = .ok (.if_icmp .ge 22, 3) := dk_162 0 22 (dk_at dksX0_layOrders_2 5 rfl rfl)
theorem dX0_layOrders_56 : decode cX0_layOrders 56 = .ok (.aload_n 0, 1) := dk_42 (dk_at dksX0_layOrders_2 8 rfl rfl)
theorem dX0_layOrders_57 : decode cX0_layOrders 57 = .ok (.iload_n 3, 1) := dk_29 (dk_at dksX0_layOrders_2 9 rfl rfl)
theorem dX0_layOrders_58 : decode cX0_layOrders 58 = .ok (.putfield 315, 3) := dk_181 1 59 (dk_at dksX0_layOrders_2 10 rfl rfl)
theorem dX0_layOrders_61 : decode cX0_layOrders 61 = .ok (.aload_n 0, 1) := dk_42 (dk_at dksX0_layOrders_2 13 rfl rfl)
theorem dX0_layOrders_62 : decode cX0_layOrders 62 = .ok (.getfield 202, 3) := dk_180 0 202 (dk_at dksX0_layOrders_2 14 rfl rfl)
theorem dX0_layOrders_65 : decode cX0_layOrders 65 = .ok (.iconst 0, 1) := dk_3 (dk_at dksX0_layOrders_2 17 rfl rfl)
theorem dX0_layOrders_66 : decode cX0_layOrders 66 = .ok (.aload_n 0, 1) := dk_42 (dk_at dksX0_layOrders_2 18 rfl rfl)
theorem dX0_layOrders_67 : decode cX0_layOrders 67 = .ok (.getfield 205, 3) := dk_180 0 205 (dk_at dksX0_layOrders_2 19 rfl rfl)
theorem dX0_layOrders_70 : decode cX0_layOrders 70 = .ok (.iconst 0, 1) := dk_3 (dk_at dksX0_layOrders_2 22 rfl rfl)
theorem dX0_layOrders_71 : decode cX0_layOrders 71 = .ok (.iload_n 1, 1) := dk_27 (dk_at dksX0_layOrders_2 23 rfl rfl)
theorem dX0_layOrders_72 : decode cX0_layOrders 72 = .ok (.invokestatic 102, 3) := dk_184 0 102 (dk_at dksX0_layOrders_3 0 rfl rfl)
theorem dX0_layOrders_75 : decode cX0_layOrders 75 = .ok (.aload_n 0, 1) := dk_42 (dk_at dksX0_layOrders_3 3 rfl rfl)
theorem dX0_layOrders_76 : decode cX0_layOrders 76 = .ok (.aload_n 0, 1) := dk_42 (dk_at dksX0_layOrders_3 4 rfl rfl)
theorem dX0_layOrders_77 : decode cX0_layOrders 77 = .ok (.getfield 318, 3) := dk_180 1 62 (dk_at dksX0_layOrders_3 5 rfl rfl)
theorem dX0_layOrders_80 : decode cX0_layOrders 80 = .ok (.iload_n 3, 1) := dk_29 (dk_at dksX0_layOrders_3 8 rfl rfl)
theorem dX0_layOrders_81 : decode cX0_layOrders 81 = .ok (.invokestatic 321, 3) := dk_184 1 65 (dk_at dksX0_layOrders_3 9 rfl rfl)
theorem dX0_layOrders_84 : decode cX0_layOrders 84 = .ok (.putfield 318, 3) := dk_181 1 62 (dk_at dksX0_layOrders_3 12 rfl rfl)
theorem dX0_layOrders_87 : decode cX0_layOrders 87 = .ok (.return_, 1) := dk_177 (dk_at dksX0_layOrders_3 15 rfl rfl)
theorem dX0_layOrders_88 : decode cX0_layOrders 88 = .ok (.iconst 0, 1) := dk_3 (dk_at dksX0_layOrders_3 16 rfl rfl)
theorem dX0_layOrders_89 : decode cX0_layOrders 89 = .ok (.istore_n 3, 1) := dk_62 (dk_at dksX0_layOrders_3 17 rfl rfl)
theorem dX0_layOrders_90 : decode cX0_layOrders 90 = .ok (.iload_n 3, 1) := dk_29 (dk_at dksX0_layOrders_3 18 rfl rfl)
theorem dX0_layOrders_91 : decode cX0_layOrders 91 = .ok (.aload_n 0, 1) := dk_42 (dk_at dksX0_layOrders_3 19 rfl rfl)
theorem dX0_layOrders_92 : decode cX0_layOrders 92 = .ok (.getfield 174, 3) := dk_180 0 174 (dk_at dksX0_layOrders_3 20 rfl rfl)
theorem dX0_layOrders_95 : decode cX0_layOrders 95 = .ok (.if_icmp .ge 85, 3) := dk_162 0 85 (dk_at dksX0_layOrders_4 0 rfl rfl)
theorem dX0_layOrders_98 : decode cX0_layOrders 98 = .ok (.iconst (-1), 1) := dk_2 (dk_at dksX0_layOrders_4 3 rfl rfl)
theorem dX0_layOrders_99 : decode cX0_layOrders 99 = .ok (.istore 4, 2) := dk_54 4 (dk_at dksX0_layOrders_4 4 rfl rfl)
theorem dX0_layOrders_101 : decode cX0_layOrders 101 = .ok (.iconst 0, 1) := dk_3 (dk_at dksX0_layOrders_4 6 rfl rfl)
theorem dX0_layOrders_102 : decode cX0_layOrders 102 = .ok (.istore 5, 2) := dk_54 5 (dk_at dksX0_layOrders_4 7 rfl rfl)
theorem dX0_layOrders_104 : decode cX0_layOrders 104 = .ok (.iload 5, 2) := dk_21 5 (dk_at dksX0_layOrders_4 9 rfl rfl)
theorem dX0_layOrders_106 : decode cX0_layOrders 106 = .ok (.aload_n 0, 1) := dk_42 (dk_at dksX0_layOrders_4 11 rfl rfl)
theorem dX0_layOrders_107 : decode cX0_layOrders 107 = .ok (.getfield 89, 3) := dk_180 0 89 (dk_at dksX0_layOrders_4 12 rfl rfl)
theorem dX0_layOrders_110 : decode cX0_layOrders 110 = .ok (.if_icmp .ge 38, 3) := dk_162 0 38 (dk_at dksX0_layOrders_4 15 rfl rfl)
theorem dX0_layOrders_113 : decode cX0_layOrders 113 = .ok (.aload_n 0, 1) := dk_42 (dk_at dksX0_layOrders_4 18 rfl rfl)
theorem dX0_layOrders_114 : decode cX0_layOrders 114 = .ok (.getfield 171, 3) := dk_180 0 171 (dk_at dksX0_layOrders_4 19 rfl rfl)
theorem dX0_layOrders_117 : decode cX0_layOrders 117 = .ok (.iload 5, 2) := dk_21 5 (dk_at dksX0_layOrders_4 22 rfl rfl)
theorem dX0_layOrders_119 : decode cX0_layOrders 119 = .ok (.iaload, 1) := dk_46 (dk_at dksX0_layOrders_5 0 rfl rfl)
theorem dX0_layOrders_120 : decode cX0_layOrders 120 = .ok (.iload_n 3, 1) := dk_29 (dk_at dksX0_layOrders_5 1 rfl rfl)
theorem dX0_layOrders_121 : decode cX0_layOrders 121 = .ok (.if_icmp .ne 17, 3) := dk_160 0 17 (dk_at dksX0_layOrders_5 2 rfl rfl)
theorem dX0_layOrders_124 : decode cX0_layOrders 124 = .ok (.iload_n 2, 1) := dk_28 (dk_at dksX0_layOrders_5 5 rfl rfl)
theorem dX0_layOrders_125 : decode cX0_layOrders 125 = .ok (.iload 5, 2) := dk_21 5 (dk_at dksX0_layOrders_5 6 rfl rfl)
theorem dX0_layOrders_127 : decode cX0_layOrders 127 = .ok (.invokestatic 132, 3) := dk_184 0 132 (dk_at dksX0_layOrders_5 8 rfl rfl)
theorem dX0_layOrders_130 : decode cX0_layOrders 130 = .ok (.ifCond .ne 8, 3) := dk_154 0 8 (dk_at dksX0_layOrders_5 11 rfl rfl)
theorem dX0_layOrders_133 : decode cX0_layOrders 133 = .ok (.iload 5, 2) := dk_21 5 (dk_at dksX0_layOrders_5 14 rfl rfl)
theorem dX0_layOrders_135 : decode cX0_layOrders 135 = .ok (.goto 5, 3) := dk_167 0 5 (dk_at dksX0_layOrders_5 16 rfl rfl)
theorem dX0_layOrders_138 : decode cX0_layOrders 138 = .ok (.iload 4, 2) := dk_21 4 (dk_at dksX0_layOrders_5 19 rfl rfl)
theorem dX0_layOrders_140 : decode cX0_layOrders 140 = .ok (.istore 4, 2) := dk_54 4 (dk_at dksX0_layOrders_5 21 rfl rfl)
theorem dX0_layOrders_142 : decode cX0_layOrders 142 = .ok (.iinc 5 1, 3) := dk_132 5 1 (dk_at dksX0_layOrders_6 0 rfl rfl)
theorem dX0_layOrders_145 : decode cX0_layOrders 145 = .ok (.goto (-41), 3) := dk_167 255 215 (dk_at dksX0_layOrders_6 3 rfl rfl)
theorem dX0_layOrders_148 : decode cX0_layOrders 148 = .ok (.iload 4, 2) := dk_21 4 (dk_at dksX0_layOrders_6 6 rfl rfl)
theorem dX0_layOrders_150 : decode cX0_layOrders 150 = .ok (.iconst (-1), 1) := dk_2 (dk_at dksX0_layOrders_6 8 rfl rfl)
theorem dX0_layOrders_151 : decode cX0_layOrders 151 = .ok (.if_icmp .eq 23, 3) := dk_159 0 23 (dk_at dksX0_layOrders_6 9 rfl rfl)
theorem dX0_layOrders_154 : decode cX0_layOrders 154 = .ok (.aload_n 0, 1) := dk_42 (dk_at dksX0_layOrders_6 12 rfl rfl)
theorem dX0_layOrders_155 : decode cX0_layOrders 155 = .ok (.getfield 202, 3) := dk_180 0 202 (dk_at dksX0_layOrders_6 13 rfl rfl)
theorem dX0_layOrders_158 : decode cX0_layOrders 158 = .ok (.iload_n 1, 1) := dk_27 (dk_at dksX0_layOrders_6 16 rfl rfl)
theorem dX0_layOrders_159 : decode cX0_layOrders 159 = .ok (.iload_n 3, 1) := dk_29 (dk_at dksX0_layOrders_6 17 rfl rfl)
theorem dX0_layOrders_160 : decode cX0_layOrders 160 = .ok (.iastore, 1) := dk_79 (dk_at dksX0_layOrders_6 18 rfl rfl)
theorem dX0_layOrders_161 : decode cX0_layOrders 161 = .ok (.aload_n 0, 1) := dk_42 (dk_at dksX0_layOrders_6 19 rfl rfl)
theorem dX0_layOrders_162 : decode cX0_layOrders 162 = .ok (.iload_n 1, 1) := dk_27 (dk_at dksX0_layOrders_6 20 rfl rfl)
theorem dX0_layOrders_163 : decode cX0_layOrders 163 = .ok (.iconst 1, 1) := dk_4 (dk_at dksX0_layOrders_6 21 rfl rfl)
theorem dX0_layOrders_164 : decode cX0_layOrders 164 = .ok (.iadd, 1) := dk_96 (dk_at dksX0_layOrders_6 22 rfl rfl)
theorem dX0_layOrders_165 : decode cX0_layOrders 165 = .ok (.iload_n 2, 1) := dk_28 (dk_at dksX0_layOrders_6 23 rfl rfl)
theorem dX0_layOrders_166 : decode cX0_layOrders 166 = .ok (.iconst 1, 1) := dk_4 (dk_at dksX0_layOrders_7 0 rfl rfl)
theorem dX0_layOrders_167 : decode cX0_layOrders 167 = .ok (.iload 4, 2) := dk_21 4 (dk_at dksX0_layOrders_7 1 rfl rfl)
theorem dX0_layOrders_169 : decode cX0_layOrders 169 = .ok (.ishl, 1) := dk_120 (dk_at dksX0_layOrders_7 3 rfl rfl)
theorem dX0_layOrders_170 : decode cX0_layOrders 170 = .ok (.ior, 1) := dk_128 (dk_at dksX0_layOrders_7 4 rfl rfl)
theorem dX0_layOrders_171 : decode cX0_layOrders 171 = .ok (.invokevirtual 324, 3) := dk_182 1 68 (dk_at dksX0_layOrders_7 5 rfl rfl)
theorem dX0_layOrders_174 : decode cX0_layOrders 174 = .ok (.iinc 3 1, 3) := dk_132 3 1 (dk_at dksX0_layOrders_7 8 rfl rfl)
theorem dX0_layOrders_177 : decode cX0_layOrders 177 = .ok (.goto (-87), 3) := dk_167 255 169 (dk_at dksX0_layOrders_7 11 rfl rfl)
theorem dX0_layOrders_180 : decode cX0_layOrders 180 = .ok (.return_, 1) := dk_177 (dk_at dksX0_layOrders_7 14 rfl rfl)
abbrev cX0_loophole : ByteArray := prog_1_method_46_code
def yX0_loophole : MethodName := ⟨RX0, "loophole", "()I"⟩
def dkwX0_loophole_1 : List UInt8 := [180, 1, 62, 42, 180, 1, 59, 100, 172]
abbrev dktX0_loophole_1 : List UInt8 := dkwX0_loophole_1 ++ []
def dkwX0_loophole_0 : List UInt8 := [42, 182, 1, 71, 154, 0, 6, 16, 252, 172, 42, 180, 1, 59, 2, 160, 0, 7, 2, 167, 0, 12, 42]
abbrev dktX0_loophole_0 : List UInt8 := dkwX0_loophole_0 ++ dktX0_loophole_1
theorem dksX0_loophole_0 : cX0_loophole.data.toList.drop 0 = dktX0_loophole_0 := by decide +kernel
theorem dksX0_loophole_1 : cX0_loophole.data.toList.drop 23 = dktX0_loophole_1 := dk_seg dksX0_loophole_0 23 rfl rfl
theorem dX0_loophole_0 : decode cX0_loophole 0 = .ok (.aload_n 0, 1) := dk_42 (dk_at dksX0_loophole_0 0 rfl rfl)
theorem dX0_loophole_1 : decode cX0_loophole 1 = .ok (.invokevirtual 327, 3) := dk_182 1 71 (dk_at dksX0_loophole_0 1 rfl rfl)
theorem dX0_loophole_4 : decode cX0_loophole 4 = .ok (.ifCond .ne 6, 3) := dk_154 0 6 (dk_at dksX0_loophole_0 4 rfl rfl)
theorem dX0_loophole_7 : decode cX0_loophole 7 = .ok (.bipush (-4), 2) := dk_16 252 (dk_at dksX0_loophole_0 7 rfl rfl)
theorem dX0_loophole_9 : decode cX0_loophole 9 = .ok (.ireturn, 1) := dk_172 (dk_at dksX0_loophole_0 9 rfl rfl)
theorem dX0_loophole_10 : decode cX0_loophole 10 = .ok (.aload_n 0, 1) := dk_42 (dk_at dksX0_loophole_0 10 rfl rfl)
theorem dX0_loophole_11 : decode cX0_loophole 11 = .ok (.getfield 315, 3) := dk_180 1 59 (dk_at dksX0_loophole_0 11 rfl rfl)
theorem dX0_loophole_14 : decode cX0_loophole 14 = .ok (.iconst (-1), 1) := dk_2 (dk_at dksX0_loophole_0 14 rfl rfl)
theorem dX0_loophole_15 : decode cX0_loophole 15 = .ok (.if_icmp .ne 7, 3) := dk_160 0 7 (dk_at dksX0_loophole_0 15 rfl rfl)
theorem dX0_loophole_18 : decode cX0_loophole 18 = .ok (.iconst (-1), 1) := dk_2 (dk_at dksX0_loophole_0 18 rfl rfl)
theorem dX0_loophole_19 : decode cX0_loophole 19 = .ok (.goto 12, 3) := dk_167 0 12 (dk_at dksX0_loophole_0 19 rfl rfl)
theorem dX0_loophole_22 : decode cX0_loophole 22 = .ok (.aload_n 0, 1) := dk_42 (dk_at dksX0_loophole_0 22 rfl rfl)
theorem dX0_loophole_23 : decode cX0_loophole 23 = .ok (.getfield 318, 3) := dk_180 1 62 (dk_at dksX0_loophole_1 0 rfl rfl)
theorem dX0_loophole_26 : decode cX0_loophole 26 = .ok (.aload_n 0, 1) := dk_42 (dk_at dksX0_loophole_1 3 rfl rfl)
theorem dX0_loophole_27 : decode cX0_loophole 27 = .ok (.getfield 315, 3) := dk_180 1 59 (dk_at dksX0_loophole_1 4 rfl rfl)
theorem dX0_loophole_30 : decode cX0_loophole 30 = .ok (.isub, 1) := dk_100 (dk_at dksX0_loophole_1 7 rfl rfl)
theorem dX0_loophole_31 : decode cX0_loophole 31 = .ok (.ireturn, 1) := dk_172 (dk_at dksX0_loophole_1 8 rfl rfl)
abbrev cX0_leftOut : ByteArray := prog_1_method_48_code
def yX0_leftOut : MethodName := ⟨RX0, "leftOut", "(II)I"⟩
def dkwX0_leftOut_6 : List UInt8 := [29, 62, 132, 4, 1, 167, 255, 141, 28, 4, 160, 0, 7, 29, 167, 0, 7, 29, 184, 1, 74, 172]
abbrev dktX0_leftOut_6 : List UInt8 := dkwX0_leftOut_6 ++ []
def dkwX0_leftOut_5 : List UInt8 := [180, 0, 202, 21, 5, 42, 180, 0, 49, 180, 0, 83, 182, 1, 12, 27, 163, 0, 8, 21, 4, 167, 0, 4]
abbrev dktX0_leftOut_5 : List UInt8 := dkwX0_leftOut_5 ++ dktX0_leftOut_6
def dkwX0_leftOut_4 : List UInt8 := [167, 0, 48, 132, 5, 1, 167, 255, 220, 42, 21, 4, 182, 1, 79, 54, 5, 42, 178, 1, 55, 42]
abbrev dktX0_leftOut_4 : List UInt8 := dkwX0_leftOut_4 ++ dktX0_leftOut_5
def dkwX0_leftOut_3 : List UInt8 := [162, 0, 33, 21, 4, 21, 5, 184, 0, 132, 153, 0, 17, 42, 180, 0, 171, 21, 5, 46, 2, 160, 0, 6]
abbrev dktX0_leftOut_3 : List UInt8 := dkwX0_leftOut_3 ++ dktX0_leftOut_4
def dkwX0_leftOut_2 : List UInt8 := [184, 1, 74, 29, 184, 1, 74, 161, 0, 6, 167, 0, 84, 3, 54, 5, 21, 5, 42, 180, 0, 89]
abbrev dktX0_leftOut_2 : List UInt8 := dkwX0_leftOut_2 ++ dktX0_leftOut_3
def dkwX0_leftOut_1 : List UInt8 := [172, 2, 62, 3, 54, 4, 21, 4, 4, 42, 180, 0, 89, 120, 162, 0, 110, 29, 2, 159, 0, 18, 21, 4]
abbrev dktX0_leftOut_1 : List UInt8 := dkwX0_leftOut_1 ++ dktX0_leftOut_2
def dkwX0_leftOut_0 : List UInt8 := [27, 133, 9, 20, 1, 51, 184, 0, 211, 153, 0, 13, 28, 133, 9, 10, 184, 0, 211, 154, 0, 6, 16, 253]
abbrev dktX0_leftOut_0 : List UInt8 := dkwX0_leftOut_0 ++ dktX0_leftOut_1
theorem dksX0_leftOut_0 : cX0_leftOut.data.toList.drop 0 = dktX0_leftOut_0 := by decide +kernel
theorem dksX0_leftOut_1 : cX0_leftOut.data.toList.drop 24 = dktX0_leftOut_1 := dk_seg dksX0_leftOut_0 24 rfl rfl
theorem dksX0_leftOut_2 : cX0_leftOut.data.toList.drop 48 = dktX0_leftOut_2 := dk_seg dksX0_leftOut_1 24 rfl rfl
theorem dksX0_leftOut_3 : cX0_leftOut.data.toList.drop 70 = dktX0_leftOut_3 := dk_seg dksX0_leftOut_2 22 rfl rfl
theorem dksX0_leftOut_4 : cX0_leftOut.data.toList.drop 94 = dktX0_leftOut_4 := dk_seg dksX0_leftOut_3 24 rfl rfl
theorem dksX0_leftOut_5 : cX0_leftOut.data.toList.drop 116 = dktX0_leftOut_5 := dk_seg dksX0_leftOut_4 22 rfl rfl
theorem dksX0_leftOut_6 : cX0_leftOut.data.toList.drop 140 = dktX0_leftOut_6 := dk_seg dksX0_leftOut_5 24 rfl rfl
theorem dX0_leftOut_0 : decode cX0_leftOut 0 = .ok (.iload_n 1, 1) := dk_27 (dk_at dksX0_leftOut_0 0 rfl rfl)
theorem dX0_leftOut_1 : decode cX0_leftOut 1 = .ok (.i2l, 1) := dk_133 (dk_at dksX0_leftOut_0 1 rfl rfl)
theorem dX0_leftOut_2 : decode cX0_leftOut 2 = .ok (.lconst 0, 1) := dk_9 (dk_at dksX0_leftOut_0 2 rfl rfl)
theorem dX0_leftOut_3 : decode cX0_leftOut 3 = .ok (.ldc2_w 307, 3) := dk_20 1 51 (dk_at dksX0_leftOut_0 3 rfl rfl)
theorem dX0_leftOut_6 : decode cX0_leftOut 6 = .ok (.invokestatic 211, 3) := dk_184 0 211 (dk_at dksX0_leftOut_0 6 rfl rfl)
theorem dX0_leftOut_9 : decode cX0_leftOut 9 = .ok (.ifCond .eq 13, 3) := dk_153 0 13 (dk_at dksX0_leftOut_0 9 rfl rfl)
theorem dX0_leftOut_12 : decode cX0_leftOut 12 = .ok (.iload_n 2, 1) := dk_28 (dk_at dksX0_leftOut_0 12 rfl rfl)
theorem dX0_leftOut_13 : decode cX0_leftOut 13 = .ok (.i2l, 1) := dk_133 (dk_at dksX0_leftOut_0 13 rfl rfl)
theorem dX0_leftOut_14 : decode cX0_leftOut 14 = .ok (.lconst 0, 1) := dk_9 (dk_at dksX0_leftOut_0 14 rfl rfl)
theorem dX0_leftOut_15 : decode cX0_leftOut 15 = .ok (.lconst 1, 1) := dk_10 (dk_at dksX0_leftOut_0 15 rfl rfl)
theorem dX0_leftOut_16 : decode cX0_leftOut 16 = .ok (.invokestatic 211, 3) := dk_184 0 211 (dk_at dksX0_leftOut_0 16 rfl rfl)
theorem dX0_leftOut_19 : decode cX0_leftOut 19 = .ok (.ifCond .ne 6, 3) := dk_154 0 6 (dk_at dksX0_leftOut_0 19 rfl rfl)
theorem dX0_leftOut_22 : decode cX0_leftOut 22 = .ok (.bipush (-3), 2) := dk_16 253 (dk_at dksX0_leftOut_0 22 rfl rfl)
theorem dX0_leftOut_24 : decode cX0_leftOut 24 = .ok (.ireturn, 1) := dk_172 (dk_at dksX0_leftOut_1 0 rfl rfl)
theorem dX0_leftOut_25 : decode cX0_leftOut 25 = .ok (.iconst (-1), 1) := dk_2 (dk_at dksX0_leftOut_1 1 rfl rfl)
theorem dX0_leftOut_26 : decode cX0_leftOut 26 = .ok (.istore_n 3, 1) := dk_62 (dk_at dksX0_leftOut_1 2 rfl rfl)
theorem dX0_leftOut_27 : decode cX0_leftOut 27 = .ok (.iconst 0, 1) := dk_3 (dk_at dksX0_leftOut_1 3 rfl rfl)
theorem dX0_leftOut_28 : decode cX0_leftOut 28 = .ok (.istore 4, 2) := dk_54 4 (dk_at dksX0_leftOut_1 4 rfl rfl)
theorem dX0_leftOut_30 : decode cX0_leftOut 30 = .ok (.iload 4, 2) := dk_21 4 (dk_at dksX0_leftOut_1 6 rfl rfl)
theorem dX0_leftOut_32 : decode cX0_leftOut 32 = .ok (.iconst 1, 1) := dk_4 (dk_at dksX0_leftOut_1 8 rfl rfl)
theorem dX0_leftOut_33 : decode cX0_leftOut 33 = .ok (.aload_n 0, 1) := dk_42 (dk_at dksX0_leftOut_1 9 rfl rfl)
theorem dX0_leftOut_34 : decode cX0_leftOut 34 = .ok (.getfield 89, 3) := dk_180 0 89 (dk_at dksX0_leftOut_1 10 rfl rfl)
theorem dX0_leftOut_37 : decode cX0_leftOut 37 = .ok (.ishl, 1) := dk_120 (dk_at dksX0_leftOut_1 13 rfl rfl)
theorem dX0_leftOut_38 : decode cX0_leftOut 38 = .ok (.if_icmp .ge 110, 3) := dk_162 0 110 (dk_at dksX0_leftOut_1 14 rfl rfl)
theorem dX0_leftOut_41 : decode cX0_leftOut 41 = .ok (.iload_n 3, 1) := dk_29 (dk_at dksX0_leftOut_1 17 rfl rfl)
theorem dX0_leftOut_42 : decode cX0_leftOut 42 = .ok (.iconst (-1), 1) := dk_2 (dk_at dksX0_leftOut_1 18 rfl rfl)
theorem dX0_leftOut_43 : decode cX0_leftOut 43 = .ok (.if_icmp .eq 18, 3) := dk_159 0 18 (dk_at dksX0_leftOut_1 19 rfl rfl)
theorem dX0_leftOut_46 : decode cX0_leftOut 46 = .ok (.iload 4, 2) := dk_21 4 (dk_at dksX0_leftOut_1 22 rfl rfl)
theorem dX0_leftOut_48 : decode cX0_leftOut 48 = .ok (.invokestatic 330, 3) := dk_184 1 74 (dk_at dksX0_leftOut_2 0 rfl rfl)
theorem dX0_leftOut_51 : decode cX0_leftOut 51 = .ok (.iload_n 3, 1) := dk_29 (dk_at dksX0_leftOut_2 3 rfl rfl)
theorem dX0_leftOut_52 : decode cX0_leftOut 52 = .ok (.invokestatic 330, 3) := dk_184 1 74 (dk_at dksX0_leftOut_2 4 rfl rfl)
theorem dX0_leftOut_55 : decode cX0_leftOut 55 = .ok (.if_icmp .lt 6, 3) := dk_161 0 6 (dk_at dksX0_leftOut_2 7 rfl rfl)
theorem dX0_leftOut_58 : decode cX0_leftOut 58 = .ok (.goto 84, 3) := dk_167 0 84 (dk_at dksX0_leftOut_2 10 rfl rfl)
theorem dX0_leftOut_61 : decode cX0_leftOut 61 = .ok (.iconst 0, 1) := dk_3 (dk_at dksX0_leftOut_2 13 rfl rfl)
theorem dX0_leftOut_62 : decode cX0_leftOut 62 = .ok (.istore 5, 2) := dk_54 5 (dk_at dksX0_leftOut_2 14 rfl rfl)
theorem dX0_leftOut_64 : decode cX0_leftOut 64 = .ok (.iload 5, 2) := dk_21 5 (dk_at dksX0_leftOut_2 16 rfl rfl)
theorem dX0_leftOut_66 : decode cX0_leftOut 66 = .ok (.aload_n 0, 1) := dk_42 (dk_at dksX0_leftOut_2 18 rfl rfl)
theorem dX0_leftOut_67 : decode cX0_leftOut 67 = .ok (.getfield 89, 3) := dk_180 0 89 (dk_at dksX0_leftOut_2 19 rfl rfl)
theorem dX0_leftOut_70 : decode cX0_leftOut 70 = .ok (.if_icmp .ge 33, 3) := dk_162 0 33 (dk_at dksX0_leftOut_3 0 rfl rfl)
theorem dX0_leftOut_73 : decode cX0_leftOut 73 = .ok (.iload 4, 2) := dk_21 4 (dk_at dksX0_leftOut_3 3 rfl rfl)
theorem dX0_leftOut_75 : decode cX0_leftOut 75 = .ok (.iload 5, 2) := dk_21 5 (dk_at dksX0_leftOut_3 5 rfl rfl)
theorem dX0_leftOut_77 : decode cX0_leftOut 77 = .ok (.invokestatic 132, 3) := dk_184 0 132 (dk_at dksX0_leftOut_3 7 rfl rfl)
theorem dX0_leftOut_80 : decode cX0_leftOut 80 = .ok (.ifCond .eq 17, 3) := dk_153 0 17 (dk_at dksX0_leftOut_3 10 rfl rfl)
theorem dX0_leftOut_83 : decode cX0_leftOut 83 = .ok (.aload_n 0, 1) := dk_42 (dk_at dksX0_leftOut_3 13 rfl rfl)
theorem dX0_leftOut_84 : decode cX0_leftOut 84 = .ok (.getfield 171, 3) := dk_180 0 171 (dk_at dksX0_leftOut_3 14 rfl rfl)
theorem dX0_leftOut_87 : decode cX0_leftOut 87 = .ok (.iload 5, 2) := dk_21 5 (dk_at dksX0_leftOut_3 17 rfl rfl)
theorem dX0_leftOut_89 : decode cX0_leftOut 89 = .ok (.iaload, 1) := dk_46 (dk_at dksX0_leftOut_3 19 rfl rfl)
theorem dX0_leftOut_90 : decode cX0_leftOut 90 = .ok (.iconst (-1), 1) := dk_2 (dk_at dksX0_leftOut_3 20 rfl rfl)
theorem dX0_leftOut_91 : decode cX0_leftOut 91 = .ok (.if_icmp .ne 6, 3) := dk_160 0 6 (dk_at dksX0_leftOut_3 21 rfl rfl)
theorem dX0_leftOut_94 : decode cX0_leftOut 94 = .ok (.goto 48, 3) := dk_167 0 48 (dk_at dksX0_leftOut_4 0 rfl rfl)
theorem dX0_leftOut_97 : decode cX0_leftOut 97 = .ok (.iinc 5 1, 3) := dk_132 5 1 (dk_at dksX0_leftOut_4 3 rfl rfl)
theorem dX0_leftOut_100 : decode cX0_leftOut 100 = .ok (.goto (-36), 3) := dk_167 255 220 (dk_at dksX0_leftOut_4 6 rfl rfl)
theorem dX0_leftOut_103 : decode cX0_leftOut 103 = .ok (.aload_n 0, 1) := dk_42 (dk_at dksX0_leftOut_4 9 rfl rfl)
theorem dX0_leftOut_104 : decode cX0_leftOut 104 = .ok (.iload 4, 2) := dk_21 4 (dk_at dksX0_leftOut_4 10 rfl rfl)
theorem dX0_leftOut_106 : decode cX0_leftOut 106 = .ok (.invokevirtual 335, 3) := dk_182 1 79 (dk_at dksX0_leftOut_4 12 rfl rfl)
theorem dX0_leftOut_109 : decode cX0_leftOut 109 = .ok (.istore 5, 2) := dk_54 5 (dk_at dksX0_leftOut_4 15 rfl rfl)
theorem dX0_leftOut_111 : decode cX0_leftOut 111 = .ok (.aload_n 0, 1) := dk_42 (dk_at dksX0_leftOut_4 17 rfl rfl)
theorem dX0_leftOut_112 : decode cX0_leftOut 112 = .ok (.getstatic 311, 3) := dk_178 1 55 (dk_at dksX0_leftOut_4 18 rfl rfl)
theorem dX0_leftOut_115 : decode cX0_leftOut 115 = .ok (.aload_n 0, 1) := dk_42 (dk_at dksX0_leftOut_4 21 rfl rfl)
theorem dX0_leftOut_116 : decode cX0_leftOut 116 = .ok (.getfield 202, 3) := dk_180 0 202 (dk_at dksX0_leftOut_5 0 rfl rfl)
theorem dX0_leftOut_119 : decode cX0_leftOut 119 = .ok (.iload 5, 2) := dk_21 5 (dk_at dksX0_leftOut_5 3 rfl rfl)
theorem dX0_leftOut_121 : decode cX0_leftOut 121 = .ok (.aload_n 0, 1) := dk_42 (dk_at dksX0_leftOut_5 5 rfl rfl)
theorem dX0_leftOut_122 : decode cX0_leftOut 122 = .ok (.getfield 49, 3) := dk_180 0 49 (dk_at dksX0_leftOut_5 6 rfl rfl)
theorem dX0_leftOut_125 : decode cX0_leftOut 125 = .ok (.getfield 83, 3) := dk_180 0 83 (dk_at dksX0_leftOut_5 9 rfl rfl)
theorem dX0_leftOut_128 : decode cX0_leftOut 128 = .ok (.invokevirtual 268, 3) := dk_182 1 12 (dk_at dksX0_leftOut_5 12 rfl rfl)
theorem dX0_leftOut_131 : decode cX0_leftOut 131 = .ok (.iload_n 1, 1) := dk_27 (dk_at dksX0_leftOut_5 15 rfl rfl)
theorem dX0_leftOut_132 : decode cX0_leftOut 132 = .ok (.if_icmp .gt 8, 3) := dk_163 0 8 (dk_at dksX0_leftOut_5 16 rfl rfl)
theorem dX0_leftOut_135 : decode cX0_leftOut 135 = .ok (.iload 4, 2) := dk_21 4 (dk_at dksX0_leftOut_5 19 rfl rfl)
theorem dX0_leftOut_137 : decode cX0_leftOut 137 = .ok (.goto 4, 3) := dk_167 0 4 (dk_at dksX0_leftOut_5 21 rfl rfl)
theorem dX0_leftOut_140 : decode cX0_leftOut 140 = .ok (.iload_n 3, 1) := dk_29 (dk_at dksX0_leftOut_6 0 rfl rfl)
theorem dX0_leftOut_141 : decode cX0_leftOut 141 = .ok (.istore_n 3, 1) := dk_62 (dk_at dksX0_leftOut_6 1 rfl rfl)
theorem dX0_leftOut_142 : decode cX0_leftOut 142 = .ok (.iinc 4 1, 3) := dk_132 4 1 (dk_at dksX0_leftOut_6 2 rfl rfl)
theorem dX0_leftOut_145 : decode cX0_leftOut 145 = .ok (.goto (-115), 3) := dk_167 255 141 (dk_at dksX0_leftOut_6 5 rfl rfl)
theorem dX0_leftOut_148 : decode cX0_leftOut 148 = .ok (.iload_n 2, 1) := dk_28 (dk_at dksX0_leftOut_6 8 rfl rfl)
theorem dX0_leftOut_149 : decode cX0_leftOut 149 = .ok (.iconst 1, 1) := dk_4 (dk_at dksX0_leftOut_6 9 rfl rfl)
theorem dX0_leftOut_150 : decode cX0_leftOut 150 = .ok (.if_icmp .ne 7, 3) := dk_160 0 7 (dk_at dksX0_leftOut_6 10 rfl rfl)
theorem dX0_leftOut_153 : decode cX0_leftOut 153 = .ok (.iload_n 3, 1) := dk_29 (dk_at dksX0_leftOut_6 13 rfl rfl)
theorem dX0_leftOut_154 : decode cX0_leftOut 154 = .ok (.goto 7, 3) := dk_167 0 7 (dk_at dksX0_leftOut_6 14 rfl rfl)
theorem dX0_leftOut_157 : decode cX0_leftOut 157 = .ok (.iload_n 3, 1) := dk_29 (dk_at dksX0_leftOut_6 17 rfl rfl)
theorem dX0_leftOut_158 : decode cX0_leftOut 158 = .ok (.invokestatic 330, 3) := dk_184 1 74 (dk_at dksX0_leftOut_6 18 rfl rfl)
theorem dX0_leftOut_161 : decode cX0_leftOut 161 = .ok (.ireturn, 1) := dk_172 (dk_at dksX0_leftOut_6 21 rfl rfl)
abbrev cX0_without : ByteArray := prog_1_method_47_code
def yX0_without : MethodName := ⟨RX0, "without", "(I)I"⟩
def dkwX0_without_1 : List UInt8 := [28, 132, 2, 1, 42, 180, 0, 171, 29, 46, 79, 132, 3, 1, 167, 255, 222, 28, 172]
abbrev dktX0_without_1 : List UInt8 := dkwX0_without_1 ++ []
def dkwX0_without_0 : List UInt8 := [3, 61, 3, 62, 29, 42, 180, 0, 89, 162, 0, 32, 27, 29, 184, 0, 132, 154, 0, 18, 42, 180, 0, 202]
abbrev dktX0_without_0 : List UInt8 := dkwX0_without_0 ++ dktX0_without_1
theorem dksX0_without_0 : cX0_without.data.toList.drop 0 = dktX0_without_0 := by decide +kernel
theorem dksX0_without_1 : cX0_without.data.toList.drop 24 = dktX0_without_1 := dk_seg dksX0_without_0 24 rfl rfl
theorem dX0_without_0 : decode cX0_without 0 = .ok (.iconst 0, 1) := dk_3 (dk_at dksX0_without_0 0 rfl rfl)
theorem dX0_without_1 : decode cX0_without 1 = .ok (.istore_n 2, 1) := dk_61 (dk_at dksX0_without_0 1 rfl rfl)
theorem dX0_without_2 : decode cX0_without 2 = .ok (.iconst 0, 1) := dk_3 (dk_at dksX0_without_0 2 rfl rfl)
theorem dX0_without_3 : decode cX0_without 3 = .ok (.istore_n 3, 1) := dk_62 (dk_at dksX0_without_0 3 rfl rfl)
theorem dX0_without_4 : decode cX0_without 4 = .ok (.iload_n 3, 1) := dk_29 (dk_at dksX0_without_0 4 rfl rfl)
theorem dX0_without_5 : decode cX0_without 5 = .ok (.aload_n 0, 1) := dk_42 (dk_at dksX0_without_0 5 rfl rfl)
theorem dX0_without_6 : decode cX0_without 6 = .ok (.getfield 89, 3) := dk_180 0 89 (dk_at dksX0_without_0 6 rfl rfl)
theorem dX0_without_9 : decode cX0_without 9 = .ok (.if_icmp .ge 32, 3) := dk_162 0 32 (dk_at dksX0_without_0 9 rfl rfl)
theorem dX0_without_12 : decode cX0_without 12 = .ok (.iload_n 1, 1) := dk_27 (dk_at dksX0_without_0 12 rfl rfl)
theorem dX0_without_13 : decode cX0_without 13 = .ok (.iload_n 3, 1) := dk_29 (dk_at dksX0_without_0 13 rfl rfl)
theorem dX0_without_14 : decode cX0_without 14 = .ok (.invokestatic 132, 3) := dk_184 0 132 (dk_at dksX0_without_0 14 rfl rfl)
theorem dX0_without_17 : decode cX0_without 17 = .ok (.ifCond .ne 18, 3) := dk_154 0 18 (dk_at dksX0_without_0 17 rfl rfl)
theorem dX0_without_20 : decode cX0_without 20 = .ok (.aload_n 0, 1) := dk_42 (dk_at dksX0_without_0 20 rfl rfl)
theorem dX0_without_21 : decode cX0_without 21 = .ok (.getfield 202, 3) := dk_180 0 202 (dk_at dksX0_without_0 21 rfl rfl)
theorem dX0_without_24 : decode cX0_without 24 = .ok (.iload_n 2, 1) := dk_28 (dk_at dksX0_without_1 0 rfl rfl)
theorem dX0_without_25 : decode cX0_without 25 = .ok (.iinc 2 1, 3) := dk_132 2 1 (dk_at dksX0_without_1 1 rfl rfl)
theorem dX0_without_28 : decode cX0_without 28 = .ok (.aload_n 0, 1) := dk_42 (dk_at dksX0_without_1 4 rfl rfl)
theorem dX0_without_29 : decode cX0_without 29 = .ok (.getfield 171, 3) := dk_180 0 171 (dk_at dksX0_without_1 5 rfl rfl)
theorem dX0_without_32 : decode cX0_without 32 = .ok (.iload_n 3, 1) := dk_29 (dk_at dksX0_without_1 8 rfl rfl)
theorem dX0_without_33 : decode cX0_without 33 = .ok (.iaload, 1) := dk_46 (dk_at dksX0_without_1 9 rfl rfl)
theorem dX0_without_34 : decode cX0_without 34 = .ok (.iastore, 1) := dk_79 (dk_at dksX0_without_1 10 rfl rfl)
theorem dX0_without_35 : decode cX0_without 35 = .ok (.iinc 3 1, 3) := dk_132 3 1 (dk_at dksX0_without_1 11 rfl rfl)
theorem dX0_without_38 : decode cX0_without 38 = .ok (.goto (-34), 3) := dk_167 255 222 (dk_at dksX0_without_1 14 rfl rfl)
theorem dX0_without_41 : decode cX0_without 41 = .ok (.iload_n 2, 1) := dk_28 (dk_at dksX0_without_1 17 rfl rfl)
theorem dX0_without_42 : decode cX0_without 42 = .ok (.ireturn, 1) := dk_172 (dk_at dksX0_without_1 18 rfl rfl)
abbrev cX0_holes : ByteArray := prog_1_method_49_code
def yX0_holes : MethodName := ⟨RX0, "holes", "(II)I"⟩
def dkwX0_holes_8 : List UInt8 := [54, 7, 132, 8, 255, 167, 255, 238, 21, 7, 42, 180, 0, 174, 112, 172]
abbrev dktX0_holes_8 : List UInt8 := dkwX0_holes_8 ++ []
def dkwX0_holes_7 : List UInt8 := [2, 172, 21, 6, 54, 7, 29, 4, 100, 54, 8, 21, 8, 28, 164, 0, 18, 21, 7, 42, 180, 0, 174, 108]
abbrev dktX0_holes_7 : List UInt8 := dkwX0_holes_7 ++ dktX0_holes_8
def dkwX0_holes_6 : List UInt8 := [132, 7, 1, 167, 255, 182, 28, 2, 160, 0, 6, 21, 5, 172, 21, 5, 153, 0, 8, 28, 29, 161, 0, 5]
abbrev dktX0_holes_6 : List UInt8 := dkwX0_holes_6 ++ dktX0_holes_7
def dkwX0_holes_5 : List UInt8 := [182, 1, 12, 27, 160, 0, 20, 21, 5, 154, 0, 8, 21, 7, 167, 0, 5, 21, 6, 54, 6, 132, 5, 1]
abbrev dktX0_holes_5 : List UInt8 := dkwX0_holes_5 ++ dktX0_holes_6
def dkwX0_holes_4 : List UInt8 := [153, 0, 46, 42, 178, 1, 55, 42, 180, 0, 202, 42, 180, 0, 89, 42, 180, 0, 49, 180, 0, 83]
abbrev dktX0_holes_4 : List UInt8 := dkwX0_holes_4 ++ dktX0_holes_5
def dkwX0_holes_3 : List UInt8 := [21, 4, 162, 0, 73, 42, 21, 7, 182, 1, 82, 42, 42, 180, 0, 202, 42, 180, 0, 89, 182, 1, 20]
abbrev dktX0_holes_3 : List UInt8 := dkwX0_holes_3 ++ dktX0_holes_4
def dkwX0_holes_2 : List UInt8 := [180, 0, 174, 104, 54, 4, 132, 5, 1, 167, 255, 238, 3, 54, 5, 2, 54, 6, 3, 54, 7, 21, 7]
abbrev dktX0_holes_2 : List UInt8 := dkwX0_holes_2 ++ dktX0_holes_3
def dkwX0_holes_1 : List UInt8 := [62, 29, 6, 164, 0, 6, 16, 252, 172, 4, 54, 4, 3, 54, 5, 21, 5, 29, 162, 0, 18, 21, 4, 42]
abbrev dktX0_holes_1 : List UInt8 := dkwX0_holes_1 ++ dktX0_holes_2
def dkwX0_holes_0 : List UInt8 := [27, 133, 9, 20, 1, 51, 184, 0, 211, 153, 0, 8, 28, 2, 162, 0, 6, 16, 253, 172, 42, 182, 1, 24]
abbrev dktX0_holes_0 : List UInt8 := dkwX0_holes_0 ++ dktX0_holes_1
theorem dksX0_holes_0 : cX0_holes.data.toList.drop 0 = dktX0_holes_0 := by decide +kernel
theorem dksX0_holes_1 : cX0_holes.data.toList.drop 24 = dktX0_holes_1 := dk_seg dksX0_holes_0 24 rfl rfl
theorem dksX0_holes_2 : cX0_holes.data.toList.drop 48 = dktX0_holes_2 := dk_seg dksX0_holes_1 24 rfl rfl
theorem dksX0_holes_3 : cX0_holes.data.toList.drop 71 = dktX0_holes_3 := dk_seg dksX0_holes_2 23 rfl rfl
theorem dksX0_holes_4 : cX0_holes.data.toList.drop 94 = dktX0_holes_4 := dk_seg dksX0_holes_3 23 rfl rfl
theorem dksX0_holes_5 : cX0_holes.data.toList.drop 116 = dktX0_holes_5 := dk_seg dksX0_holes_4 22 rfl rfl
theorem dksX0_holes_6 : cX0_holes.data.toList.drop 140 = dktX0_holes_6 := dk_seg dksX0_holes_5 24 rfl rfl
theorem dksX0_holes_7 : cX0_holes.data.toList.drop 164 = dktX0_holes_7 := dk_seg dksX0_holes_6 24 rfl rfl
theorem dksX0_holes_8 : cX0_holes.data.toList.drop 188 = dktX0_holes_8 := dk_seg dksX0_holes_7 24 rfl rfl
theorem dX0_holes_0 : decode cX0_holes 0 = .ok (.iload_n 1, 1) := dk_27 (dk_at dksX0_holes_0 0 rfl rfl)
theorem dX0_holes_1 : decode cX0_holes 1 = .ok (.i2l, 1) := dk_133 (dk_at dksX0_holes_0 1 rfl rfl)
theorem dX0_holes_2 : decode cX0_holes 2 = .ok (.lconst 0, 1) := dk_9 (dk_at dksX0_holes_0 2 rfl rfl)
theorem dX0_holes_3 : decode cX0_holes 3 = .ok (.ldc2_w 307, 3) := dk_20 1 51 (dk_at dksX0_holes_0 3 rfl rfl)
theorem dX0_holes_6 : decode cX0_holes 6 = .ok (.invokestatic 211, 3) := dk_184 0 211 (dk_at dksX0_holes_0 6 rfl rfl)
theorem dX0_holes_9 : decode cX0_holes 9 = .ok (.ifCond .eq 8, 3) := dk_153 0 8 (dk_at dksX0_holes_0 9 rfl rfl)
theorem dX0_holes_12 : decode cX0_holes 12 = .ok (.iload_n 2, 1) := dk_28 (dk_at dksX0_holes_0 12 rfl rfl)
theorem dX0_holes_13 : decode cX0_holes 13 = .ok (.iconst (-1), 1) := dk_2 (dk_at dksX0_holes_0 13 rfl rfl)
theorem dX0_holes_14 : decode cX0_holes 14 = .ok (.if_icmp .ge 6, 3) := dk_162 0 6 (dk_at dksX0_holes_0 14 rfl rfl)
theorem dX0_holes_17 : decode cX0_holes 17 = .ok (.bipush (-3), 2) := dk_16 253 (dk_at dksX0_holes_0 17 rfl rfl)
theorem dX0_holes_19 : decode cX0_holes 19 = .ok (.ireturn, 1) := dk_172 (dk_at dksX0_holes_0 19 rfl rfl)
theorem dX0_holes_20 : decode cX0_holes 20 = .ok (.aload_n 0, 1) := dk_42 (dk_at dksX0_holes_0 20 rfl rfl)
theorem dX0_holes_21 : decode cX0_holes 21 = .ok (.invokevirtual 280, 3) := dk_182 1 24 (dk_at dksX0_holes_0 21 rfl rfl)
theorem dX0_holes_24 : decode cX0_holes 24 = .ok (.istore_n 3, 1) := dk_62 (dk_at dksX0_holes_1 0 rfl rfl)
theorem dX0_holes_25 : decode cX0_holes 25 = .ok (.iload_n 3, 1) := dk_29 (dk_at dksX0_holes_1 1 rfl rfl)
theorem dX0_holes_26 : decode cX0_holes 26 = .ok (.iconst 3, 1) := dk_6 (dk_at dksX0_holes_1 2 rfl rfl)
theorem dX0_holes_27 : decode cX0_holes 27 = .ok (.if_icmp .le 6, 3) := dk_164 0 6 (dk_at dksX0_holes_1 3 rfl rfl)
theorem dX0_holes_30 : decode cX0_holes 30 = .ok (.bipush (-4), 2) := dk_16 252 (dk_at dksX0_holes_1 6 rfl rfl)
theorem dX0_holes_32 : decode cX0_holes 32 = .ok (.ireturn, 1) := dk_172 (dk_at dksX0_holes_1 8 rfl rfl)
theorem dX0_holes_33 : decode cX0_holes 33 = .ok (.iconst 1, 1) := dk_4 (dk_at dksX0_holes_1 9 rfl rfl)
theorem dX0_holes_34 : decode cX0_holes 34 = .ok (.istore 4, 2) := dk_54 4 (dk_at dksX0_holes_1 10 rfl rfl)
theorem dX0_holes_36 : decode cX0_holes 36 = .ok (.iconst 0, 1) := dk_3 (dk_at dksX0_holes_1 12 rfl rfl)
theorem dX0_holes_37 : decode cX0_holes 37 = .ok (.istore 5, 2) := dk_54 5 (dk_at dksX0_holes_1 13 rfl rfl)
theorem dX0_holes_39 : decode cX0_holes 39 = .ok (.iload 5, 2) := dk_21 5 (dk_at dksX0_holes_1 15 rfl rfl)
theorem dX0_holes_41 : decode cX0_holes 41 = .ok (.iload_n 3, 1) := dk_29 (dk_at dksX0_holes_1 17 rfl rfl)
theorem dX0_holes_42 : decode cX0_holes 42 = .ok (.if_icmp .ge 18, 3) := dk_162 0 18 (dk_at dksX0_holes_1 18 rfl rfl)
theorem dX0_holes_45 : decode cX0_holes 45 = .ok (.iload 4, 2) := dk_21 4 (dk_at dksX0_holes_1 21 rfl rfl)
theorem dX0_holes_47 : decode cX0_holes 47 = .ok (.aload_n 0, 1) := dk_42 (dk_at dksX0_holes_1 23 rfl rfl)
theorem dX0_holes_48 : decode cX0_holes 48 = .ok (.getfield 174, 3) := dk_180 0 174 (dk_at dksX0_holes_2 0 rfl rfl)
theorem dX0_holes_51 : decode cX0_holes 51 = .ok (.imul, 1) := dk_104 (dk_at dksX0_holes_2 3 rfl rfl)
theorem dX0_holes_52 : decode cX0_holes 52 = .ok (.istore 4, 2) := dk_54 4 (dk_at dksX0_holes_2 4 rfl rfl)
theorem dX0_holes_54 : decode cX0_holes 54 = .ok (.iinc 5 1, 3) := dk_132 5 1 (dk_at dksX0_holes_2 6 rfl rfl)
theorem dX0_holes_57 : decode cX0_holes 57 = .ok (.goto (-18), 3) := dk_167 255 238 (dk_at dksX0_holes_2 9 rfl rfl)
theorem dX0_holes_60 : decode cX0_holes 60 = .ok (.iconst 0, 1) := dk_3 (dk_at dksX0_holes_2 12 rfl rfl)
theorem dX0_holes_61 : decode cX0_holes 61 = .ok (.istore 5, 2) := dk_54 5 (dk_at dksX0_holes_2 13 rfl rfl)
theorem dX0_holes_63 : decode cX0_holes 63 = .ok (.iconst (-1), 1) := dk_2 (dk_at dksX0_holes_2 15 rfl rfl)
theorem dX0_holes_64 : decode cX0_holes 64 = .ok (.istore 6, 2) := dk_54 6 (dk_at dksX0_holes_2 16 rfl rfl)
theorem dX0_holes_66 : decode cX0_holes 66 = .ok (.iconst 0, 1) := dk_3 (dk_at dksX0_holes_2 18 rfl rfl)
theorem dX0_holes_67 : decode cX0_holes 67 = .ok (.istore 7, 2) := dk_54 7 (dk_at dksX0_holes_2 19 rfl rfl)
theorem dX0_holes_69 : decode cX0_holes 69 = .ok (.iload 7, 2) := dk_21 7 (dk_at dksX0_holes_2 21 rfl rfl)
theorem dX0_holes_71 : decode cX0_holes 71 = .ok (.iload 4, 2) := dk_21 4 (dk_at dksX0_holes_3 0 rfl rfl)
theorem dX0_holes_73 : decode cX0_holes 73 = .ok (.if_icmp .ge 73, 3) := dk_162 0 73 (dk_at dksX0_holes_3 2 rfl rfl)
theorem dX0_holes_76 : decode cX0_holes 76 = .ok (.aload_n 0, 1) := dk_42 (dk_at dksX0_holes_3 5 rfl rfl)
theorem dX0_holes_77 : decode cX0_holes 77 = .ok (.iload 7, 2) := dk_21 7 (dk_at dksX0_holes_3 6 rfl rfl)
theorem dX0_holes_79 : decode cX0_holes 79 = .ok (.invokevirtual 338, 3) := dk_182 1 82 (dk_at dksX0_holes_3 8 rfl rfl)
theorem dX0_holes_82 : decode cX0_holes 82 = .ok (.aload_n 0, 1) := dk_42 (dk_at dksX0_holes_3 11 rfl rfl)
theorem dX0_holes_83 : decode cX0_holes 83 = .ok (.aload_n 0, 1) := dk_42 (dk_at dksX0_holes_3 12 rfl rfl)
theorem dX0_holes_84 : decode cX0_holes 84 = .ok (.getfield 202, 3) := dk_180 0 202 (dk_at dksX0_holes_3 13 rfl rfl)
theorem dX0_holes_87 : decode cX0_holes 87 = .ok (.aload_n 0, 1) := dk_42 (dk_at dksX0_holes_3 16 rfl rfl)
theorem dX0_holes_88 : decode cX0_holes 88 = .ok (.getfield 89, 3) := dk_180 0 89 (dk_at dksX0_holes_3 17 rfl rfl)
theorem dX0_holes_91 : decode cX0_holes 91 = .ok (.invokevirtual 276, 3) := dk_182 1 20 (dk_at dksX0_holes_3 20 rfl rfl)
theorem dX0_holes_94 : decode cX0_holes 94 = .ok (.ifCond .eq 46, 3) := dk_153 0 46 (dk_at dksX0_holes_4 0 rfl rfl)
theorem dX0_holes_97 : decode cX0_holes 97 = .ok (.aload_n 0, 1) := dk_42 (dk_at dksX0_holes_4 3 rfl rfl)
theorem dX0_holes_98 : decode cX0_holes 98 = .ok (.getstatic 311, 3) := dk_178 1 55 (dk_at dksX0_holes_4 4 rfl rfl)
theorem dX0_holes_101 : decode cX0_holes 101 = .ok (.aload_n 0, 1) := dk_42 (dk_at dksX0_holes_4 7 rfl rfl)
theorem dX0_holes_102 : decode cX0_holes 102 = .ok (.getfield 202, 3) := dk_180 0 202 (dk_at dksX0_holes_4 8 rfl rfl)
theorem dX0_holes_105 : decode cX0_holes 105 = .ok (.aload_n 0, 1) := dk_42 (dk_at dksX0_holes_4 11 rfl rfl)
theorem dX0_holes_106 : decode cX0_holes 106 = .ok (.getfield 89, 3) := dk_180 0 89 (dk_at dksX0_holes_4 12 rfl rfl)
theorem dX0_holes_109 : decode cX0_holes 109 = .ok (.aload_n 0, 1) := dk_42 (dk_at dksX0_holes_4 15 rfl rfl)
theorem dX0_holes_110 : decode cX0_holes 110 = .ok (.getfield 49, 3) := dk_180 0 49 (dk_at dksX0_holes_4 16 rfl rfl)
theorem dX0_holes_113 : decode cX0_holes 113 = .ok (.getfield 83, 3) := dk_180 0 83 (dk_at dksX0_holes_4 19 rfl rfl)
theorem dX0_holes_116 : decode cX0_holes 116 = .ok (.invokevirtual 268, 3) := dk_182 1 12 (dk_at dksX0_holes_5 0 rfl rfl)
theorem dX0_holes_119 : decode cX0_holes 119 = .ok (.iload_n 1, 1) := dk_27 (dk_at dksX0_holes_5 3 rfl rfl)
theorem dX0_holes_120 : decode cX0_holes 120 = .ok (.if_icmp .ne 20, 3) := dk_160 0 20 (dk_at dksX0_holes_5 4 rfl rfl)
theorem dX0_holes_123 : decode cX0_holes 123 = .ok (.iload 5, 2) := dk_21 5 (dk_at dksX0_holes_5 7 rfl rfl)
theorem dX0_holes_125 : decode cX0_holes 125 = .ok (.ifCond .ne 8, 3) := dk_154 0 8 (dk_at dksX0_holes_5 9 rfl rfl)
theorem dX0_holes_128 : decode cX0_holes 128 = .ok (.iload 7, 2) := dk_21 7 (dk_at dksX0_holes_5 12 rfl rfl)
theorem dX0_holes_130 : decode cX0_holes 130 = .ok (.goto 5, 3) := dk_167 0 5 (dk_at dksX0_holes_5 14 rfl rfl)
theorem dX0_holes_133 : decode cX0_holes 133 = .ok (.iload 6, 2) := dk_21 6 (dk_at dksX0_holes_5 17 rfl rfl)
theorem dX0_holes_135 : decode cX0_holes 135 = .ok (.istore 6, 2) := dk_54 6 (dk_at dksX0_holes_5 19 rfl rfl)
theorem dX0_holes_137 : decode cX0_holes 137 = .ok (.iinc 5 1, 3) := dk_132 5 1 (dk_at dksX0_holes_5 21 rfl rfl)
theorem dX0_holes_140 : decode cX0_holes 140 = .ok (.iinc 7 1, 3) := dk_132 7 1 (dk_at dksX0_holes_6 0 rfl rfl)
theorem dX0_holes_143 : decode cX0_holes 143 = .ok (.goto (-74), 3) := dk_167 255 182 (dk_at dksX0_holes_6 3 rfl rfl)
theorem dX0_holes_146 : decode cX0_holes 146 = .ok (.iload_n 2, 1) := dk_28 (dk_at dksX0_holes_6 6 rfl rfl)
theorem dX0_holes_147 : decode cX0_holes 147 = .ok (.iconst (-1), 1) := dk_2 (dk_at dksX0_holes_6 7 rfl rfl)
theorem dX0_holes_148 : decode cX0_holes 148 = .ok (.if_icmp .ne 6, 3) := dk_160 0 6 (dk_at dksX0_holes_6 8 rfl rfl)
theorem dX0_holes_151 : decode cX0_holes 151 = .ok (.iload 5, 2) := dk_21 5 (dk_at dksX0_holes_6 11 rfl rfl)
theorem dX0_holes_153 : decode cX0_holes 153 = .ok (.ireturn, 1) := dk_172 (dk_at dksX0_holes_6 13 rfl rfl)
theorem dX0_holes_154 : decode cX0_holes 154 = .ok (.iload 5, 2) := dk_21 5 (dk_at dksX0_holes_6 14 rfl rfl)
theorem dX0_holes_156 : decode cX0_holes 156 = .ok (.ifCond .eq 8, 3) := dk_153 0 8 (dk_at dksX0_holes_6 16 rfl rfl)
theorem dX0_holes_159 : decode cX0_holes 159 = .ok (.iload_n 2, 1) := dk_28 (dk_at dksX0_holes_6 19 rfl rfl)
theorem dX0_holes_160 : decode cX0_holes 160 = .ok (.iload_n 3, 1) := dk_29 (dk_at dksX0_holes_6 20 rfl rfl)
theorem dX0_holes_161 : decode cX0_holes 161 = .ok (.if_icmp .lt 5, 3) := dk_161 0 5 (dk_at dksX0_holes_6 21 rfl rfl)
theorem dX0_holes_164 : decode cX0_holes 164 = .ok (.iconst (-1), 1) := dk_2 (dk_at dksX0_holes_7 0 rfl rfl)
theorem dX0_holes_165 : decode cX0_holes 165 = .ok (.ireturn, 1) := dk_172 (dk_at dksX0_holes_7 1 rfl rfl)
theorem dX0_holes_166 : decode cX0_holes 166 = .ok (.iload 6, 2) := dk_21 6 (dk_at dksX0_holes_7 2 rfl rfl)
theorem dX0_holes_168 : decode cX0_holes 168 = .ok (.istore 7, 2) := dk_54 7 (dk_at dksX0_holes_7 4 rfl rfl)
theorem dX0_holes_170 : decode cX0_holes 170 = .ok (.iload_n 3, 1) := dk_29 (dk_at dksX0_holes_7 6 rfl rfl)
theorem dX0_holes_171 : decode cX0_holes 171 = .ok (.iconst 1, 1) := dk_4 (dk_at dksX0_holes_7 7 rfl rfl)
theorem dX0_holes_172 : decode cX0_holes 172 = .ok (.isub, 1) := dk_100 (dk_at dksX0_holes_7 8 rfl rfl)
theorem dX0_holes_173 : decode cX0_holes 173 = .ok (.istore 8, 2) := dk_54 8 (dk_at dksX0_holes_7 9 rfl rfl)
theorem dX0_holes_175 : decode cX0_holes 175 = .ok (.iload 8, 2) := dk_21 8 (dk_at dksX0_holes_7 11 rfl rfl)
theorem dX0_holes_177 : decode cX0_holes 177 = .ok (.iload_n 2, 1) := dk_28 (dk_at dksX0_holes_7 13 rfl rfl)
theorem dX0_holes_178 : decode cX0_holes 178 = .ok (.if_icmp .le 18, 3) := dk_164 0 18 (dk_at dksX0_holes_7 14 rfl rfl)
theorem dX0_holes_181 : decode cX0_holes 181 = .ok (.iload 7, 2) := dk_21 7 (dk_at dksX0_holes_7 17 rfl rfl)
theorem dX0_holes_183 : decode cX0_holes 183 = .ok (.aload_n 0, 1) := dk_42 (dk_at dksX0_holes_7 19 rfl rfl)
theorem dX0_holes_184 : decode cX0_holes 184 = .ok (.getfield 174, 3) := dk_180 0 174 (dk_at dksX0_holes_7 20 rfl rfl)
theorem dX0_holes_187 : decode cX0_holes 187 = .ok (.idiv, 1) := dk_108 (dk_at dksX0_holes_7 23 rfl rfl)
theorem dX0_holes_188 : decode cX0_holes 188 = .ok (.istore 7, 2) := dk_54 7 (dk_at dksX0_holes_8 0 rfl rfl)
theorem dX0_holes_190 : decode cX0_holes 190 = .ok (.iinc 8 (-1), 3) := dk_132 8 255 (dk_at dksX0_holes_8 2 rfl rfl)
theorem dX0_holes_193 : decode cX0_holes 193 = .ok (.goto (-18), 3) := dk_167 255 238 (dk_at dksX0_holes_8 5 rfl rfl)
theorem dX0_holes_196 : decode cX0_holes 196 = .ok (.iload 7, 2) := dk_21 7 (dk_at dksX0_holes_8 8 rfl rfl)
theorem dX0_holes_198 : decode cX0_holes 198 = .ok (.aload_n 0, 1) := dk_42 (dk_at dksX0_holes_8 10 rfl rfl)
theorem dX0_holes_199 : decode cX0_holes 199 = .ok (.getfield 174, 3) := dk_180 0 174 (dk_at dksX0_holes_8 11 rfl rfl)
theorem dX0_holes_202 : decode cX0_holes 202 = .ok (.irem, 1) := dk_112 (dk_at dksX0_holes_8 14 rfl rfl)
theorem dX0_holes_203 : decode cX0_holes 203 = .ok (.ireturn, 1) := dk_172 (dk_at dksX0_holes_8 15 rfl rfl)
abbrev cX0_fill : ByteArray := prog_1_method_50_code
def yX0_fill : MethodName := ⟨RX0, "fill", "(I)V"⟩
def dkwX0_fill_2 : List UInt8 := [42, 180, 0, 174, 108, 61, 132, 3, 255, 167, 255, 208, 177]
abbrev dktX0_fill_2 : List UInt8 := dkwX0_fill_2 ++ []
def dkwX0_fill_1 : List UInt8 := [79, 42, 180, 0, 171, 29, 46, 2, 160, 0, 22, 42, 180, 0, 202, 29, 28, 42, 180, 0, 174, 112, 79, 28]
abbrev dktX0_fill_1 : List UInt8 := dkwX0_fill_1 ++ dktX0_fill_2
def dkwX0_fill_0 : List UInt8 := [27, 61, 42, 180, 0, 89, 4, 100, 62, 29, 155, 0, 50, 42, 180, 0, 202, 29, 42, 180, 0, 171, 29, 46]
abbrev dktX0_fill_0 : List UInt8 := dkwX0_fill_0 ++ dktX0_fill_1
theorem dksX0_fill_0 : cX0_fill.data.toList.drop 0 = dktX0_fill_0 := by decide +kernel
theorem dksX0_fill_1 : cX0_fill.data.toList.drop 24 = dktX0_fill_1 := dk_seg dksX0_fill_0 24 rfl rfl
theorem dksX0_fill_2 : cX0_fill.data.toList.drop 48 = dktX0_fill_2 := dk_seg dksX0_fill_1 24 rfl rfl
theorem dX0_fill_0 : decode cX0_fill 0 = .ok (.iload_n 1, 1) := dk_27 (dk_at dksX0_fill_0 0 rfl rfl)
theorem dX0_fill_1 : decode cX0_fill 1 = .ok (.istore_n 2, 1) := dk_61 (dk_at dksX0_fill_0 1 rfl rfl)
theorem dX0_fill_2 : decode cX0_fill 2 = .ok (.aload_n 0, 1) := dk_42 (dk_at dksX0_fill_0 2 rfl rfl)
theorem dX0_fill_3 : decode cX0_fill 3 = .ok (.getfield 89, 3) := dk_180 0 89 (dk_at dksX0_fill_0 3 rfl rfl)
theorem dX0_fill_6 : decode cX0_fill 6 = .ok (.iconst 1, 1) := dk_4 (dk_at dksX0_fill_0 6 rfl rfl)
theorem dX0_fill_7 : decode cX0_fill 7 = .ok (.isub, 1) := dk_100 (dk_at dksX0_fill_0 7 rfl rfl)
theorem dX0_fill_8 : decode cX0_fill 8 = .ok (.istore_n 3, 1) := dk_62 (dk_at dksX0_fill_0 8 rfl rfl)
theorem dX0_fill_9 : decode cX0_fill 9 = .ok (.iload_n 3, 1) := dk_29 (dk_at dksX0_fill_0 9 rfl rfl)
theorem dX0_fill_10 : decode cX0_fill 10 = .ok (.ifCond .lt 50, 3) := dk_155 0 50 (dk_at dksX0_fill_0 10 rfl rfl)
theorem dX0_fill_13 : decode cX0_fill 13 = .ok (.aload_n 0, 1) := dk_42 (dk_at dksX0_fill_0 13 rfl rfl)
theorem dX0_fill_14 : decode cX0_fill 14 = .ok (.getfield 202, 3) := dk_180 0 202 (dk_at dksX0_fill_0 14 rfl rfl)
theorem dX0_fill_17 : decode cX0_fill 17 = .ok (.iload_n 3, 1) := dk_29 (dk_at dksX0_fill_0 17 rfl rfl)
theorem dX0_fill_18 : decode cX0_fill 18 = .ok (.aload_n 0, 1) := dk_42 (dk_at dksX0_fill_0 18 rfl rfl)
theorem dX0_fill_19 : decode cX0_fill 19 = .ok (.getfield 171, 3) := dk_180 0 171 (dk_at dksX0_fill_0 19 rfl rfl)
theorem dX0_fill_22 : decode cX0_fill 22 = .ok (.iload_n 3, 1) := dk_29 (dk_at dksX0_fill_0 22 rfl rfl)
theorem dX0_fill_23 : decode cX0_fill 23 = .ok (.iaload, 1) := dk_46 (dk_at dksX0_fill_0 23 rfl rfl)
theorem dX0_fill_24 : decode cX0_fill 24 = .ok (.iastore, 1) := dk_79 (dk_at dksX0_fill_1 0 rfl rfl)
theorem dX0_fill_25 : decode cX0_fill 25 = .ok (.aload_n 0, 1) := dk_42 (dk_at dksX0_fill_1 1 rfl rfl)
theorem dX0_fill_26 : decode cX0_fill 26 = .ok (.getfield 171, 3) := dk_180 0 171 (dk_at dksX0_fill_1 2 rfl rfl)
theorem dX0_fill_29 : decode cX0_fill 29 = .ok (.iload_n 3, 1) := dk_29 (dk_at dksX0_fill_1 5 rfl rfl)
theorem dX0_fill_30 : decode cX0_fill 30 = .ok (.iaload, 1) := dk_46 (dk_at dksX0_fill_1 6 rfl rfl)
theorem dX0_fill_31 : decode cX0_fill 31 = .ok (.iconst (-1), 1) := dk_2 (dk_at dksX0_fill_1 7 rfl rfl)
theorem dX0_fill_32 : decode cX0_fill 32 = .ok (.if_icmp .ne 22, 3) := dk_160 0 22 (dk_at dksX0_fill_1 8 rfl rfl)
theorem dX0_fill_35 : decode cX0_fill 35 = .ok (.aload_n 0, 1) := dk_42 (dk_at dksX0_fill_1 11 rfl rfl)
theorem dX0_fill_36 : decode cX0_fill 36 = .ok (.getfield 202, 3) := dk_180 0 202 (dk_at dksX0_fill_1 12 rfl rfl)
theorem dX0_fill_39 : decode cX0_fill 39 = .ok (.iload_n 3, 1) := dk_29 (dk_at dksX0_fill_1 15 rfl rfl)
theorem dX0_fill_40 : decode cX0_fill 40 = .ok (.iload_n 2, 1) := dk_28 (dk_at dksX0_fill_1 16 rfl rfl)
theorem dX0_fill_41 : decode cX0_fill 41 = .ok (.aload_n 0, 1) := dk_42 (dk_at dksX0_fill_1 17 rfl rfl)
theorem dX0_fill_42 : decode cX0_fill 42 = .ok (.getfield 174, 3) := dk_180 0 174 (dk_at dksX0_fill_1 18 rfl rfl)
theorem dX0_fill_45 : decode cX0_fill 45 = .ok (.irem, 1) := dk_112 (dk_at dksX0_fill_1 21 rfl rfl)
theorem dX0_fill_46 : decode cX0_fill 46 = .ok (.iastore, 1) := dk_79 (dk_at dksX0_fill_1 22 rfl rfl)
theorem dX0_fill_47 : decode cX0_fill 47 = .ok (.iload_n 2, 1) := dk_28 (dk_at dksX0_fill_1 23 rfl rfl)
theorem dX0_fill_48 : decode cX0_fill 48 = .ok (.aload_n 0, 1) := dk_42 (dk_at dksX0_fill_2 0 rfl rfl)
theorem dX0_fill_49 : decode cX0_fill 49 = .ok (.getfield 174, 3) := dk_180 0 174 (dk_at dksX0_fill_2 1 rfl rfl)
theorem dX0_fill_52 : decode cX0_fill 52 = .ok (.idiv, 1) := dk_108 (dk_at dksX0_fill_2 4 rfl rfl)
theorem dX0_fill_53 : decode cX0_fill 53 = .ok (.istore_n 2, 1) := dk_61 (dk_at dksX0_fill_2 5 rfl rfl)
theorem dX0_fill_54 : decode cX0_fill 54 = .ok (.iinc 3 (-1), 3) := dk_132 3 255 (dk_at dksX0_fill_2 6 rfl rfl)
theorem dX0_fill_57 : decode cX0_fill 57 = .ok (.goto (-48), 3) := dk_167 255 208 (dk_at dksX0_fill_2 9 rfl rfl)
theorem dX0_fill_60 : decode cX0_fill 60 = .ok (.return_, 1) := dk_177 (dk_at dksX0_fill_2 12 rfl rfl)
abbrev cX0_draft : ByteArray := prog_1_method_51_code
def yX0_draft : MethodName := ⟨RX0, "draft", "()I"⟩
def dkwX0_draft_2 : List UInt8 := [184, 1, 84, 83, 42, 89, 180, 0, 92, 4, 96, 90, 181, 0, 92, 172]
abbrev dktX0_draft_2 : List UInt8 := dkwX0_draft_2 ++ []
def dkwX0_draft_1 : List UInt8 := [160, 0, 6, 16, 251, 172, 42, 180, 0, 195, 42, 180, 0, 92, 42, 180, 0, 171, 42, 180, 0, 89]
abbrev dktX0_draft_1 : List UInt8 := dkwX0_draft_1 ++ dktX0_draft_2
def dkwX0_draft_0 : List UInt8 := [42, 180, 0, 89, 153, 0, 10, 42, 182, 1, 24, 158, 0, 6, 16, 252, 172, 42, 180, 0, 92, 16, 6]
abbrev dktX0_draft_0 : List UInt8 := dkwX0_draft_0 ++ dktX0_draft_1
theorem dksX0_draft_0 : cX0_draft.data.toList.drop 0 = dktX0_draft_0 := by decide +kernel
theorem dksX0_draft_1 : cX0_draft.data.toList.drop 23 = dktX0_draft_1 := dk_seg dksX0_draft_0 23 rfl rfl
theorem dksX0_draft_2 : cX0_draft.data.toList.drop 45 = dktX0_draft_2 := dk_seg dksX0_draft_1 22 rfl rfl
theorem dX0_draft_0 : decode cX0_draft 0 = .ok (.aload_n 0, 1) := dk_42 (dk_at dksX0_draft_0 0 rfl rfl)
theorem dX0_draft_1 : decode cX0_draft 1 = .ok (.getfield 89, 3) := dk_180 0 89 (dk_at dksX0_draft_0 1 rfl rfl)
theorem dX0_draft_4 : decode cX0_draft 4 = .ok (.ifCond .eq 10, 3) := dk_153 0 10 (dk_at dksX0_draft_0 4 rfl rfl)
theorem dX0_draft_7 : decode cX0_draft 7 = .ok (.aload_n 0, 1) := dk_42 (dk_at dksX0_draft_0 7 rfl rfl)
theorem dX0_draft_8 : decode cX0_draft 8 = .ok (.invokevirtual 280, 3) := dk_182 1 24 (dk_at dksX0_draft_0 8 rfl rfl)
theorem dX0_draft_11 : decode cX0_draft 11 = .ok (.ifCond .le 6, 3) := dk_158 0 6 (dk_at dksX0_draft_0 11 rfl rfl)
theorem dX0_draft_14 : decode cX0_draft 14 = .ok (.bipush (-4), 2) := dk_16 252 (dk_at dksX0_draft_0 14 rfl rfl)
theorem dX0_draft_16 : decode cX0_draft 16 = .ok (.ireturn, 1) := dk_172 (dk_at dksX0_draft_0 16 rfl rfl)
theorem dX0_draft_17 : decode cX0_draft 17 = .ok (.aload_n 0, 1) := dk_42 (dk_at dksX0_draft_0 17 rfl rfl)
theorem dX0_draft_18 : decode cX0_draft 18 = .ok (.getfield 92, 3) := dk_180 0 92 (dk_at dksX0_draft_0 18 rfl rfl)
theorem dX0_draft_21 : decode cX0_draft 21 = .ok (.bipush 6, 2) := dk_16 6 (dk_at dksX0_draft_0 21 rfl rfl)
theorem dX0_draft_23 : decode cX0_draft 23 = .ok (.if_icmp .ne 6, 3) := dk_160 0 6 (dk_at dksX0_draft_1 0 rfl rfl)
theorem dX0_draft_26 : decode cX0_draft 26 = .ok (.bipush (-5), 2) := dk_16 251 (dk_at dksX0_draft_1 3 rfl rfl)
theorem dX0_draft_28 : decode cX0_draft 28 = .ok (.ireturn, 1) := dk_172 (dk_at dksX0_draft_1 5 rfl rfl)
theorem dX0_draft_29 : decode cX0_draft 29 = .ok (.aload_n 0, 1) := dk_42 (dk_at dksX0_draft_1 6 rfl rfl)
theorem dX0_draft_30 : decode cX0_draft 30 = .ok (.getfield 195, 3) := dk_180 0 195 (dk_at dksX0_draft_1 7 rfl rfl)
theorem dX0_draft_33 : decode cX0_draft 33 = .ok (.aload_n 0, 1) := dk_42 (dk_at dksX0_draft_1 10 rfl rfl)
theorem dX0_draft_34 : decode cX0_draft 34 = .ok (.getfield 92, 3) := dk_180 0 92 (dk_at dksX0_draft_1 11 rfl rfl)
theorem dX0_draft_37 : decode cX0_draft 37 = .ok (.aload_n 0, 1) := dk_42 (dk_at dksX0_draft_1 14 rfl rfl)
theorem dX0_draft_38 : decode cX0_draft 38 = .ok (.getfield 171, 3) := dk_180 0 171 (dk_at dksX0_draft_1 15 rfl rfl)
theorem dX0_draft_41 : decode cX0_draft 41 = .ok (.aload_n 0, 1) := dk_42 (dk_at dksX0_draft_1 18 rfl rfl)
theorem dX0_draft_42 : decode cX0_draft 42 = .ok (.getfield 89, 3) := dk_180 0 89 (dk_at dksX0_draft_1 19 rfl rfl)
theorem dX0_draft_45 : decode cX0_draft 45 = .ok (.invokestatic 340, 3) := dk_184 1 84 (dk_at dksX0_draft_2 0 rfl rfl)
theorem dX0_draft_48 : decode cX0_draft 48 = .ok (.aastore, 1) := dk_83 (dk_at dksX0_draft_2 3 rfl rfl)
theorem dX0_draft_49 : decode cX0_draft 49 = .ok (.aload_n 0, 1) := dk_42 (dk_at dksX0_draft_2 4 rfl rfl)
theorem dX0_draft_50 : decode cX0_draft 50 = .ok (.dup, 1) := dk_89 (dk_at dksX0_draft_2 5 rfl rfl)
theorem dX0_draft_51 : decode cX0_draft 51 = .ok (.getfield 92, 3) := dk_180 0 92 (dk_at dksX0_draft_2 6 rfl rfl)
theorem dX0_draft_54 : decode cX0_draft 54 = .ok (.iconst 1, 1) := dk_4 (dk_at dksX0_draft_2 9 rfl rfl)
theorem dX0_draft_55 : decode cX0_draft 55 = .ok (.iadd, 1) := dk_96 (dk_at dksX0_draft_2 10 rfl rfl)
theorem dX0_draft_56 : decode cX0_draft 56 = .ok (.dup_x1, 1) := dk_90 (dk_at dksX0_draft_2 11 rfl rfl)
theorem dX0_draft_57 : decode cX0_draft 57 = .ok (.putfield 92, 3) := dk_181 0 92 (dk_at dksX0_draft_2 12 rfl rfl)
theorem dX0_draft_60 : decode cX0_draft 60 = .ok (.ireturn, 1) := dk_172 (dk_at dksX0_draft_2 15 rfl rfl)
abbrev cX0_burn : ByteArray := prog_1_method_52_code
def yX0_burn : MethodName := ⟨RX0, "burn", "()I"⟩
def dkwX0_burn_0 : List UInt8 := [42, 180, 0, 92, 60, 42, 3, 181, 0, 92, 27, 172]
abbrev dktX0_burn_0 : List UInt8 := dkwX0_burn_0 ++ []
theorem dksX0_burn_0 : cX0_burn.data.toList.drop 0 = dktX0_burn_0 := by decide +kernel
theorem dX0_burn_0 : decode cX0_burn 0 = .ok (.aload_n 0, 1) := dk_42 (dk_at dksX0_burn_0 0 rfl rfl)
theorem dX0_burn_1 : decode cX0_burn 1 = .ok (.getfield 92, 3) := dk_180 0 92 (dk_at dksX0_burn_0 1 rfl rfl)
theorem dX0_burn_4 : decode cX0_burn 4 = .ok (.istore_n 1, 1) := dk_60 (dk_at dksX0_burn_0 4 rfl rfl)
theorem dX0_burn_5 : decode cX0_burn 5 = .ok (.aload_n 0, 1) := dk_42 (dk_at dksX0_burn_0 5 rfl rfl)
theorem dX0_burn_6 : decode cX0_burn 6 = .ok (.iconst 0, 1) := dk_3 (dk_at dksX0_burn_0 6 rfl rfl)
theorem dX0_burn_7 : decode cX0_burn 7 = .ok (.putfield 92, 3) := dk_181 0 92 (dk_at dksX0_burn_0 7 rfl rfl)
theorem dX0_burn_10 : decode cX0_burn 10 = .ok (.iload_n 1, 1) := dk_27 (dk_at dksX0_burn_0 10 rfl rfl)
theorem dX0_burn_11 : decode cX0_burn 11 = .ok (.ireturn, 1) := dk_172 (dk_at dksX0_burn_0 11 rfl rfl)
abbrev cX0_drafted : ByteArray := prog_1_method_53_code
def yX0_drafted : MethodName := ⟨RX0, "drafted", "(III)I"⟩
def dkwX0_drafted_4 : List UInt8 := [182, 1, 12, 172, 42, 25, 4, 25, 4, 190, 182, 1, 30, 172, 16, 253, 172]
abbrev dktX0_drafted_4 : List UInt8 := dkwX0_drafted_4 ++ []
def dkwX0_drafted_3 : List UInt8 := [25, 4, 190, 172, 42, 42, 28, 182, 0, 249, 25, 4, 25, 4, 190, 42, 180, 0, 49, 180, 0, 83]
abbrev dktX0_drafted_3 : List UInt8 := dkwX0_drafted_3 ++ dktX0_drafted_4
def dkwX0_drafted_2 : List UInt8 := [170, 0, 0, 0, 0, 0, 0, 64, 0, 0, 0, 0, 0, 0, 0, 2, 0, 0, 0, 28, 0, 0, 0, 32, 0, 0, 0, 54]
abbrev dktX0_drafted_2 : List UInt8 := dkwX0_drafted_2 ++ dktX0_drafted_3
def dkwX0_drafted_1 : List UInt8 := [16, 254, 172, 42, 180, 0, 195, 27, 50, 58, 4, 29]
abbrev dktX0_drafted_1 : List UInt8 := dkwX0_drafted_1 ++ dktX0_drafted_2
def dkwX0_drafted_0 : List UInt8 := [27, 133, 9, 42, 180, 0, 92, 4, 100, 133, 184, 0, 211, 153, 0, 11, 42, 28, 182, 0, 215, 154, 0, 6]
abbrev dktX0_drafted_0 : List UInt8 := dkwX0_drafted_0 ++ dktX0_drafted_1
theorem dksX0_drafted_0 : cX0_drafted.data.toList.drop 0 = dktX0_drafted_0 := by decide +kernel
theorem dksX0_drafted_1 : cX0_drafted.data.toList.drop 24 = dktX0_drafted_1 := dk_seg dksX0_drafted_0 24 rfl rfl
theorem dksX0_drafted_2 : cX0_drafted.data.toList.drop 36 = dktX0_drafted_2 := dk_seg dksX0_drafted_1 12 rfl rfl
theorem dksX0_drafted_3 : cX0_drafted.data.toList.drop 64 = dktX0_drafted_3 := dk_seg dksX0_drafted_2 28 rfl rfl
theorem dksX0_drafted_4 : cX0_drafted.data.toList.drop 86 = dktX0_drafted_4 := dk_seg dksX0_drafted_3 22 rfl rfl
theorem dX0_drafted_0 : decode cX0_drafted 0 = .ok (.iload_n 1, 1) := dk_27 (dk_at dksX0_drafted_0 0 rfl rfl)
theorem dX0_drafted_1 : decode cX0_drafted 1 = .ok (.i2l, 1) := dk_133 (dk_at dksX0_drafted_0 1 rfl rfl)
theorem dX0_drafted_2 : decode cX0_drafted 2 = .ok (.lconst 0, 1) := dk_9 (dk_at dksX0_drafted_0 2 rfl rfl)
theorem dX0_drafted_3 : decode cX0_drafted 3 = .ok (.aload_n 0, 1) := dk_42 (dk_at dksX0_drafted_0 3 rfl rfl)
theorem dX0_drafted_4 : decode cX0_drafted 4 = .ok (.getfield 92, 3) := dk_180 0 92 (dk_at dksX0_drafted_0 4 rfl rfl)
theorem dX0_drafted_7 : decode cX0_drafted 7 = .ok (.iconst 1, 1) := dk_4 (dk_at dksX0_drafted_0 7 rfl rfl)
theorem dX0_drafted_8 : decode cX0_drafted 8 = .ok (.isub, 1) := dk_100 (dk_at dksX0_drafted_0 8 rfl rfl)
theorem dX0_drafted_9 : decode cX0_drafted 9 = .ok (.i2l, 1) := dk_133 (dk_at dksX0_drafted_0 9 rfl rfl)
theorem dX0_drafted_10 : decode cX0_drafted 10 = .ok (.invokestatic 211, 3) := dk_184 0 211 (dk_at dksX0_drafted_0 10 rfl rfl)
theorem dX0_drafted_13 : decode cX0_drafted 13 = .ok (.ifCond .eq 11, 3) := dk_153 0 11 (dk_at dksX0_drafted_0 13 rfl rfl)
theorem dX0_drafted_16 : decode cX0_drafted 16 = .ok (.aload_n 0, 1) := dk_42 (dk_at dksX0_drafted_0 16 rfl rfl)
theorem dX0_drafted_17 : decode cX0_drafted 17 = .ok (.iload_n 2, 1) := dk_28 (dk_at dksX0_drafted_0 17 rfl rfl)
theorem dX0_drafted_18 : decode cX0_drafted 18 = .ok (.invokevirtual 215, 3) := dk_182 0 215 (dk_at dksX0_drafted_0 18 rfl rfl)
theorem dX0_drafted_21 : decode cX0_drafted 21 = .ok (.ifCond .ne 6, 3) := dk_154 0 6 (dk_at dksX0_drafted_0 21 rfl rfl)
theorem dX0_drafted_24 : decode cX0_drafted 24 = .ok (.bipush (-2), 2) := dk_16 254 (dk_at dksX0_drafted_1 0 rfl rfl)
theorem dX0_drafted_26 : decode cX0_drafted 26 = .ok (.ireturn, 1) := dk_172 (dk_at dksX0_drafted_1 2 rfl rfl)
theorem dX0_drafted_27 : decode cX0_drafted 27 = .ok (.aload_n 0, 1) := dk_42 (dk_at dksX0_drafted_1 3 rfl rfl)
theorem dX0_drafted_28 : decode cX0_drafted 28 = .ok (.getfield 195, 3) := dk_180 0 195 (dk_at dksX0_drafted_1 4 rfl rfl)
theorem dX0_drafted_31 : decode cX0_drafted 31 = .ok (.iload_n 1, 1) := dk_27 (dk_at dksX0_drafted_1 7 rfl rfl)
theorem dX0_drafted_32 : decode cX0_drafted 32 = .ok (.aaload, 1) := dk_50 (dk_at dksX0_drafted_1 8 rfl rfl)
theorem dX0_drafted_33 : decode cX0_drafted 33 = .ok (.astore 4, 2) := dk_58 4 (dk_at dksX0_drafted_1 9 rfl rfl)
theorem dX0_drafted_35 : decode cX0_drafted 35 = .ok (.iload_n 3, 1) := dk_29 (dk_at dksX0_drafted_1 11 rfl rfl)
theorem dX0_drafted_36 : decode cX0_drafted 36 = .ok (.tableswitch 64 0 2 #[28, 32, 54], 28) := by decide +kernel
theorem dX0_drafted_64 : decode cX0_drafted 64 = .ok (.aload 4, 2) := dk_25 4 (dk_at dksX0_drafted_3 0 rfl rfl)
theorem dX0_drafted_66 : decode cX0_drafted 66 = .ok (.arraylength, 1) := dk_190 (dk_at dksX0_drafted_3 2 rfl rfl)
theorem dX0_drafted_67 : decode cX0_drafted 67 = .ok (.ireturn, 1) := dk_172 (dk_at dksX0_drafted_3 3 rfl rfl)
theorem dX0_drafted_68 : decode cX0_drafted 68 = .ok (.aload_n 0, 1) := dk_42 (dk_at dksX0_drafted_3 4 rfl rfl)
theorem dX0_drafted_69 : decode cX0_drafted 69 = .ok (.aload_n 0, 1) := dk_42 (dk_at dksX0_drafted_3 5 rfl rfl)
theorem dX0_drafted_70 : decode cX0_drafted 70 = .ok (.iload_n 2, 1) := dk_28 (dk_at dksX0_drafted_3 6 rfl rfl)
theorem dX0_drafted_71 : decode cX0_drafted 71 = .ok (.invokevirtual 249, 3) := dk_182 0 249 (dk_at dksX0_drafted_3 7 rfl rfl)
theorem dX0_drafted_74 : decode cX0_drafted 74 = .ok (.aload 4, 2) := dk_25 4 (dk_at dksX0_drafted_3 10 rfl rfl)
theorem dX0_drafted_76 : decode cX0_drafted 76 = .ok (.aload 4, 2) := dk_25 4 (dk_at dksX0_drafted_3 12 rfl rfl)
theorem dX0_drafted_78 : decode cX0_drafted 78 = .ok (.arraylength, 1) := dk_190 (dk_at dksX0_drafted_3 14 rfl rfl)
theorem dX0_drafted_79 : decode cX0_drafted 79 = .ok (.aload_n 0, 1) := dk_42 (dk_at dksX0_drafted_3 15 rfl rfl)
theorem dX0_drafted_80 : decode cX0_drafted 80 = .ok (.getfield 49, 3) := dk_180 0 49 (dk_at dksX0_drafted_3 16 rfl rfl)
theorem dX0_drafted_83 : decode cX0_drafted 83 = .ok (.getfield 83, 3) := dk_180 0 83 (dk_at dksX0_drafted_3 19 rfl rfl)
theorem dX0_drafted_86 : decode cX0_drafted 86 = .ok (.invokevirtual 268, 3) := dk_182 1 12 (dk_at dksX0_drafted_4 0 rfl rfl)
theorem dX0_drafted_89 : decode cX0_drafted 89 = .ok (.ireturn, 1) := dk_172 (dk_at dksX0_drafted_4 3 rfl rfl)
theorem dX0_drafted_90 : decode cX0_drafted 90 = .ok (.aload_n 0, 1) := dk_42 (dk_at dksX0_drafted_4 4 rfl rfl)
theorem dX0_drafted_91 : decode cX0_drafted 91 = .ok (.aload 4, 2) := dk_25 4 (dk_at dksX0_drafted_4 5 rfl rfl)
theorem dX0_drafted_93 : decode cX0_drafted 93 = .ok (.aload 4, 2) := dk_25 4 (dk_at dksX0_drafted_4 7 rfl rfl)
theorem dX0_drafted_95 : decode cX0_drafted 95 = .ok (.arraylength, 1) := dk_190 (dk_at dksX0_drafted_4 9 rfl rfl)
theorem dX0_drafted_96 : decode cX0_drafted 96 = .ok (.invokevirtual 286, 3) := dk_182 1 30 (dk_at dksX0_drafted_4 10 rfl rfl)
theorem dX0_drafted_99 : decode cX0_drafted 99 = .ok (.ireturn, 1) := dk_172 (dk_at dksX0_drafted_4 13 rfl rfl)
theorem dX0_drafted_100 : decode cX0_drafted 100 = .ok (.bipush (-3), 2) := dk_16 253 (dk_at dksX0_drafted_4 14 rfl rfl)
theorem dX0_drafted_102 : decode cX0_drafted 102 = .ok (.ireturn, 1) := dk_172 (dk_at dksX0_drafted_4 16 rfl rfl)
abbrev cX0_page : ByteArray := prog_1_method_55_code
def yX0_page : MethodName := ⟨RX0, "page", "(II)I"⟩
def dkwX0_page_6 : List UInt8 := [132, 4, 1, 167, 255, 146, 28, 4, 160, 0, 7, 29, 167, 0, 8, 42, 29, 182, 1, 88, 172]
abbrev dktX0_page_6 : List UInt8 := dkwX0_page_6 ++ []
def dkwX0_page_5 : List UInt8 := [163, 0, 22, 42, 21, 4, 182, 1, 88, 42, 29, 182, 1, 88, 164, 0, 8, 21, 4, 167, 0, 4, 29, 62]
abbrev dktX0_page_5 : List UInt8 := dkwX0_page_5 ++ dktX0_page_6
def dkwX0_page_4 : List UInt8 := [180, 0, 83, 182, 1, 12, 167, 0, 4, 3, 96, 54, 5, 132, 6, 1, 167, 255, 196, 21, 5, 27]
abbrev dktX0_page_4 : List UInt8 := dkwX0_page_4 ++ dktX0_page_5
def dkwX0_page_3 : List UInt8 := [178, 1, 55, 42, 180, 0, 195, 21, 6, 50, 42, 180, 0, 195, 21, 6, 50, 190, 42, 180, 0, 49]
abbrev dktX0_page_3 : List UInt8 := dkwX0_page_3 ++ dktX0_page_4
def dkwX0_page_2 : List UInt8 := [21, 6, 42, 180, 0, 92, 162, 0, 57, 21, 5, 21, 4, 21, 6, 184, 0, 132, 153, 0, 35, 42]
abbrev dktX0_page_2 : List UInt8 := dkwX0_page_2 ++ dktX0_page_3
def dkwX0_page_1 : List UInt8 := [172, 3, 62, 4, 54, 4, 21, 4, 4, 42, 180, 0, 92, 120, 162, 0, 105, 3, 54, 5, 3, 54, 6]
abbrev dktX0_page_1 : List UInt8 := dkwX0_page_1 ++ dktX0_page_2
def dkwX0_page_0 : List UInt8 := [27, 133, 9, 20, 1, 51, 184, 0, 211, 153, 0, 13, 28, 133, 9, 10, 184, 0, 211, 154, 0, 6, 16, 253]
abbrev dktX0_page_0 : List UInt8 := dkwX0_page_0 ++ dktX0_page_1
theorem dksX0_page_0 : cX0_page.data.toList.drop 0 = dktX0_page_0 := by decide +kernel
theorem dksX0_page_1 : cX0_page.data.toList.drop 24 = dktX0_page_1 := dk_seg dksX0_page_0 24 rfl rfl
theorem dksX0_page_2 : cX0_page.data.toList.drop 47 = dktX0_page_2 := dk_seg dksX0_page_1 23 rfl rfl
theorem dksX0_page_3 : cX0_page.data.toList.drop 69 = dktX0_page_3 := dk_seg dksX0_page_2 22 rfl rfl
theorem dksX0_page_4 : cX0_page.data.toList.drop 91 = dktX0_page_4 := dk_seg dksX0_page_3 22 rfl rfl
theorem dksX0_page_5 : cX0_page.data.toList.drop 113 = dktX0_page_5 := dk_seg dksX0_page_4 22 rfl rfl
theorem dksX0_page_6 : cX0_page.data.toList.drop 137 = dktX0_page_6 := dk_seg dksX0_page_5 24 rfl rfl
theorem dX0_page_0 : decode cX0_page 0 = .ok (.iload_n 1, 1) := dk_27 (dk_at dksX0_page_0 0 rfl rfl)
theorem dX0_page_1 : decode cX0_page 1 = .ok (.i2l, 1) := dk_133 (dk_at dksX0_page_0 1 rfl rfl)
theorem dX0_page_2 : decode cX0_page 2 = .ok (.lconst 0, 1) := dk_9 (dk_at dksX0_page_0 2 rfl rfl)
theorem dX0_page_3 : decode cX0_page 3 = .ok (.ldc2_w 307, 3) := dk_20 1 51 (dk_at dksX0_page_0 3 rfl rfl)
theorem dX0_page_6 : decode cX0_page 6 = .ok (.invokestatic 211, 3) := dk_184 0 211 (dk_at dksX0_page_0 6 rfl rfl)
theorem dX0_page_9 : decode cX0_page 9 = .ok (.ifCond .eq 13, 3) := dk_153 0 13 (dk_at dksX0_page_0 9 rfl rfl)
theorem dX0_page_12 : decode cX0_page 12 = .ok (.iload_n 2, 1) := dk_28 (dk_at dksX0_page_0 12 rfl rfl)
theorem dX0_page_13 : decode cX0_page 13 = .ok (.i2l, 1) := dk_133 (dk_at dksX0_page_0 13 rfl rfl)
theorem dX0_page_14 : decode cX0_page 14 = .ok (.lconst 0, 1) := dk_9 (dk_at dksX0_page_0 14 rfl rfl)
theorem dX0_page_15 : decode cX0_page 15 = .ok (.lconst 1, 1) := dk_10 (dk_at dksX0_page_0 15 rfl rfl)
theorem dX0_page_16 : decode cX0_page 16 = .ok (.invokestatic 211, 3) := dk_184 0 211 (dk_at dksX0_page_0 16 rfl rfl)
theorem dX0_page_19 : decode cX0_page 19 = .ok (.ifCond .ne 6, 3) := dk_154 0 6 (dk_at dksX0_page_0 19 rfl rfl)
theorem dX0_page_22 : decode cX0_page 22 = .ok (.bipush (-3), 2) := dk_16 253 (dk_at dksX0_page_0 22 rfl rfl)
theorem dX0_page_24 : decode cX0_page 24 = .ok (.ireturn, 1) := dk_172 (dk_at dksX0_page_1 0 rfl rfl)
theorem dX0_page_25 : decode cX0_page 25 = .ok (.iconst 0, 1) := dk_3 (dk_at dksX0_page_1 1 rfl rfl)
theorem dX0_page_26 : decode cX0_page 26 = .ok (.istore_n 3, 1) := dk_62 (dk_at dksX0_page_1 2 rfl rfl)
theorem dX0_page_27 : decode cX0_page 27 = .ok (.iconst 1, 1) := dk_4 (dk_at dksX0_page_1 3 rfl rfl)
theorem dX0_page_28 : decode cX0_page 28 = .ok (.istore 4, 2) := dk_54 4 (dk_at dksX0_page_1 4 rfl rfl)
theorem dX0_page_30 : decode cX0_page 30 = .ok (.iload 4, 2) := dk_21 4 (dk_at dksX0_page_1 6 rfl rfl)
theorem dX0_page_32 : decode cX0_page 32 = .ok (.iconst 1, 1) := dk_4 (dk_at dksX0_page_1 8 rfl rfl)
theorem dX0_page_33 : decode cX0_page 33 = .ok (.aload_n 0, 1) := dk_42 (dk_at dksX0_page_1 9 rfl rfl)
theorem dX0_page_34 : decode cX0_page 34 = .ok (.getfield 92, 3) := dk_180 0 92 (dk_at dksX0_page_1 10 rfl rfl)
theorem dX0_page_37 : decode cX0_page 37 = .ok (.ishl, 1) := dk_120 (dk_at dksX0_page_1 13 rfl rfl)
theorem dX0_page_38 : decode cX0_page 38 = .ok (.if_icmp .ge 105, 3) := dk_162 0 105 (dk_at dksX0_page_1 14 rfl rfl)
theorem dX0_page_41 : decode cX0_page 41 = .ok (.iconst 0, 1) := dk_3 (dk_at dksX0_page_1 17 rfl rfl)
theorem dX0_page_42 : decode cX0_page 42 = .ok (.istore 5, 2) := dk_54 5 (dk_at dksX0_page_1 18 rfl rfl)
theorem dX0_page_44 : decode cX0_page 44 = .ok (.iconst 0, 1) := dk_3 (dk_at dksX0_page_1 20 rfl rfl)
theorem dX0_page_45 : decode cX0_page 45 = .ok (.istore 6, 2) := dk_54 6 (dk_at dksX0_page_1 21 rfl rfl)
theorem dX0_page_47 : decode cX0_page 47 = .ok (.iload 6, 2) := dk_21 6 (dk_at dksX0_page_2 0 rfl rfl)
theorem dX0_page_49 : decode cX0_page 49 = .ok (.aload_n 0, 1) := dk_42 (dk_at dksX0_page_2 2 rfl rfl)
theorem dX0_page_50 : decode cX0_page 50 = .ok (.getfield 92, 3) := dk_180 0 92 (dk_at dksX0_page_2 3 rfl rfl)
theorem dX0_page_53 : decode cX0_page 53 = .ok (.if_icmp .ge 57, 3) := dk_162 0 57 (dk_at dksX0_page_2 6 rfl rfl)
theorem dX0_page_56 : decode cX0_page 56 = .ok (.iload 5, 2) := dk_21 5 (dk_at dksX0_page_2 9 rfl rfl)
theorem dX0_page_58 : decode cX0_page 58 = .ok (.iload 4, 2) := dk_21 4 (dk_at dksX0_page_2 11 rfl rfl)
theorem dX0_page_60 : decode cX0_page 60 = .ok (.iload 6, 2) := dk_21 6 (dk_at dksX0_page_2 13 rfl rfl)
theorem dX0_page_62 : decode cX0_page 62 = .ok (.invokestatic 132, 3) := dk_184 0 132 (dk_at dksX0_page_2 15 rfl rfl)
theorem dX0_page_65 : decode cX0_page 65 = .ok (.ifCond .eq 35, 3) := dk_153 0 35 (dk_at dksX0_page_2 18 rfl rfl)
theorem dX0_page_68 : decode cX0_page 68 = .ok (.aload_n 0, 1) := dk_42 (dk_at dksX0_page_2 21 rfl rfl)
theorem dX0_page_69 : decode cX0_page 69 = .ok (.getstatic 311, 3) := dk_178 1 55 (dk_at dksX0_page_3 0 rfl rfl)
theorem dX0_page_72 : decode cX0_page 72 = .ok (.aload_n 0, 1) := dk_42 (dk_at dksX0_page_3 3 rfl rfl)
theorem dX0_page_73 : decode cX0_page 73 = .ok (.getfield 195, 3) := dk_180 0 195 (dk_at dksX0_page_3 4 rfl rfl)
theorem dX0_page_76 : decode cX0_page 76 = .ok (.iload 6, 2) := dk_21 6 (dk_at dksX0_page_3 7 rfl rfl)
theorem dX0_page_78 : decode cX0_page 78 = .ok (.aaload, 1) := dk_50 (dk_at dksX0_page_3 9 rfl rfl)
theorem dX0_page_79 : decode cX0_page 79 = .ok (.aload_n 0, 1) := dk_42 (dk_at dksX0_page_3 10 rfl rfl)
theorem dX0_page_80 : decode cX0_page 80 = .ok (.getfield 195, 3) := dk_180 0 195 (dk_at dksX0_page_3 11 rfl rfl)
theorem dX0_page_83 : decode cX0_page 83 = .ok (.iload 6, 2) := dk_21 6 (dk_at dksX0_page_3 14 rfl rfl)
theorem dX0_page_85 : decode cX0_page 85 = .ok (.aaload, 1) := dk_50 (dk_at dksX0_page_3 16 rfl rfl)
theorem dX0_page_86 : decode cX0_page 86 = .ok (.arraylength, 1) := dk_190 (dk_at dksX0_page_3 17 rfl rfl)
theorem dX0_page_87 : decode cX0_page 87 = .ok (.aload_n 0, 1) := dk_42 (dk_at dksX0_page_3 18 rfl rfl)
theorem dX0_page_88 : decode cX0_page 88 = .ok (.getfield 49, 3) := dk_180 0 49 (dk_at dksX0_page_3 19 rfl rfl)
theorem dX0_page_91 : decode cX0_page 91 = .ok (.getfield 83, 3) := dk_180 0 83 (dk_at dksX0_page_4 0 rfl rfl)
theorem dX0_page_94 : decode cX0_page 94 = .ok (.invokevirtual 268, 3) := dk_182 1 12 (dk_at dksX0_page_4 3 rfl rfl)
theorem dX0_page_97 : decode cX0_page 97 = .ok (.goto 4, 3) := dk_167 0 4 (dk_at dksX0_page_4 6 rfl rfl)
theorem dX0_page_100 : decode cX0_page 100 = .ok (.iconst 0, 1) := dk_3 (dk_at dksX0_page_4 9 rfl rfl)
theorem dX0_page_101 : decode cX0_page 101 = .ok (.iadd, 1) := dk_96 (dk_at dksX0_page_4 10 rfl rfl)
theorem dX0_page_102 : decode cX0_page 102 = .ok (.istore 5, 2) := dk_54 5 (dk_at dksX0_page_4 11 rfl rfl)
theorem dX0_page_104 : decode cX0_page 104 = .ok (.iinc 6 1, 3) := dk_132 6 1 (dk_at dksX0_page_4 13 rfl rfl)
theorem dX0_page_107 : decode cX0_page 107 = .ok (.goto (-60), 3) := dk_167 255 196 (dk_at dksX0_page_4 16 rfl rfl)
theorem dX0_page_110 : decode cX0_page 110 = .ok (.iload 5, 2) := dk_21 5 (dk_at dksX0_page_4 19 rfl rfl)
theorem dX0_page_112 : decode cX0_page 112 = .ok (.iload_n 1, 1) := dk_27 (dk_at dksX0_page_4 21 rfl rfl)
theorem dX0_page_113 : decode cX0_page 113 = .ok (.if_icmp .gt 22, 3) := dk_163 0 22 (dk_at dksX0_page_5 0 rfl rfl)
theorem dX0_page_116 : decode cX0_page 116 = .ok (.aload_n 0, 1) := dk_42 (dk_at dksX0_page_5 3 rfl rfl)
theorem dX0_page_117 : decode cX0_page 117 = .ok (.iload 4, 2) := dk_21 4 (dk_at dksX0_page_5 4 rfl rfl)
theorem dX0_page_119 : decode cX0_page 119 = .ok (.invokevirtual 344, 3) := dk_182 1 88 (dk_at dksX0_page_5 6 rfl rfl)
theorem dX0_page_122 : decode cX0_page 122 = .ok (.aload_n 0, 1) := dk_42 (dk_at dksX0_page_5 9 rfl rfl)
theorem dX0_page_123 : decode cX0_page 123 = .ok (.iload_n 3, 1) := dk_29 (dk_at dksX0_page_5 10 rfl rfl)
theorem dX0_page_124 : decode cX0_page 124 = .ok (.invokevirtual 344, 3) := dk_182 1 88 (dk_at dksX0_page_5 11 rfl rfl)
theorem dX0_page_127 : decode cX0_page 127 = .ok (.if_icmp .le 8, 3) := dk_164 0 8 (dk_at dksX0_page_5 14 rfl rfl)
theorem dX0_page_130 : decode cX0_page 130 = .ok (.iload 4, 2) := dk_21 4 (dk_at dksX0_page_5 17 rfl rfl)
theorem dX0_page_132 : decode cX0_page 132 = .ok (.goto 4, 3) := dk_167 0 4 (dk_at dksX0_page_5 19 rfl rfl)
theorem dX0_page_135 : decode cX0_page 135 = .ok (.iload_n 3, 1) := dk_29 (dk_at dksX0_page_5 22 rfl rfl)
theorem dX0_page_136 : decode cX0_page 136 = .ok (.istore_n 3, 1) := dk_62 (dk_at dksX0_page_5 23 rfl rfl)
theorem dX0_page_137 : decode cX0_page 137 = .ok (.iinc 4 1, 3) := dk_132 4 1 (dk_at dksX0_page_6 0 rfl rfl)
theorem dX0_page_140 : decode cX0_page 140 = .ok (.goto (-110), 3) := dk_167 255 146 (dk_at dksX0_page_6 3 rfl rfl)
theorem dX0_page_143 : decode cX0_page 143 = .ok (.iload_n 2, 1) := dk_28 (dk_at dksX0_page_6 6 rfl rfl)
theorem dX0_page_144 : decode cX0_page 144 = .ok (.iconst 1, 1) := dk_4 (dk_at dksX0_page_6 7 rfl rfl)
theorem dX0_page_145 : decode cX0_page 145 = .ok (.if_icmp .ne 7, 3) := dk_160 0 7 (dk_at dksX0_page_6 8 rfl rfl)
theorem dX0_page_148 : decode cX0_page 148 = .ok (.iload_n 3, 1) := dk_29 (dk_at dksX0_page_6 11 rfl rfl)
theorem dX0_page_149 : decode cX0_page 149 = .ok (.goto 8, 3) := dk_167 0 8 (dk_at dksX0_page_6 12 rfl rfl)
theorem dX0_page_152 : decode cX0_page 152 = .ok (.aload_n 0, 1) := dk_42 (dk_at dksX0_page_6 15 rfl rfl)
theorem dX0_page_153 : decode cX0_page 153 = .ok (.iload_n 3, 1) := dk_29 (dk_at dksX0_page_6 16 rfl rfl)
theorem dX0_page_154 : decode cX0_page 154 = .ok (.invokevirtual 344, 3) := dk_182 1 88 (dk_at dksX0_page_6 17 rfl rfl)
theorem dX0_page_157 : decode cX0_page 157 = .ok (.ireturn, 1) := dk_172 (dk_at dksX0_page_6 20 rfl rfl)
abbrev cX0_worthOfAll : ByteArray := prog_1_method_54_code
def yX0_worthOfAll : MethodName := ⟨RX0, "worthOfAll", "(I)I"⟩
def dkwX0_worthOfAll_2 : List UInt8 := [167, 255, 213, 28, 172]
abbrev dktX0_worthOfAll_2 : List UInt8 := dkwX0_worthOfAll_2 ++ []
def dkwX0_worthOfAll_1 : List UInt8 := [180, 0, 195, 29, 50, 42, 180, 0, 195, 29, 50, 190, 182, 1, 30, 167, 0, 4, 3, 96, 61, 132, 3, 1]
abbrev dktX0_worthOfAll_1 : List UInt8 := dkwX0_worthOfAll_1 ++ dktX0_worthOfAll_2
def dkwX0_worthOfAll_0 : List UInt8 := [3, 61, 3, 62, 29, 42, 180, 0, 92, 162, 0, 41, 28, 27, 29, 184, 0, 132, 153, 0, 23, 42, 42]
abbrev dktX0_worthOfAll_0 : List UInt8 := dkwX0_worthOfAll_0 ++ dktX0_worthOfAll_1
theorem dksX0_worthOfAll_0 : cX0_worthOfAll.data.toList.drop 0 = dktX0_worthOfAll_0 := by decide +kernel
theorem dksX0_worthOfAll_1 : cX0_worthOfAll.data.toList.drop 23 = dktX0_worthOfAll_1 := dk_seg dksX0_worthOfAll_0 23 rfl rfl
theorem dksX0_worthOfAll_2 : cX0_worthOfAll.data.toList.drop 47 = dktX0_worthOfAll_2 := dk_seg dksX0_worthOfAll_1 24 rfl rfl
theorem dX0_worthOfAll_0 : decode cX0_worthOfAll 0 = .ok (.iconst 0, 1) := dk_3 (dk_at dksX0_worthOfAll_0 0 rfl rfl)
theorem dX0_worthOfAll_1 : decode cX0_worthOfAll 1 = .ok (.istore_n 2, 1) := dk_61 (dk_at dksX0_worthOfAll_0 1 rfl rfl)
theorem dX0_worthOfAll_2 : decode cX0_worthOfAll 2 = .ok (.iconst 0, 1) := dk_3 (dk_at dksX0_worthOfAll_0 2 rfl rfl)
theorem dX0_worthOfAll_3 : decode cX0_worthOfAll 3 = .ok (.istore_n 3, 1) := dk_62 (dk_at dksX0_worthOfAll_0 3 rfl rfl)
theorem dX0_worthOfAll_4 : decode cX0_worthOfAll 4 = .ok (.iload_n 3, 1) := dk_29 (dk_at dksX0_worthOfAll_0 4 rfl rfl)
theorem dX0_worthOfAll_5 : decode cX0_worthOfAll 5 = .ok (.aload_n 0, 1) := dk_42 (dk_at dksX0_worthOfAll_0 5 rfl rfl)
theorem dX0_worthOfAll_6 : decode cX0_worthOfAll 6 = .ok (.getfield 92, 3) := dk_180 0 92 (dk_at dksX0_worthOfAll_0 6 rfl rfl)
theorem dX0_worthOfAll_9 : decode cX0_worthOfAll 9 = .ok (.if_icmp .ge 41, 3) := dk_162 0 41 (dk_at dksX0_worthOfAll_0 9 rfl rfl)
theorem dX0_worthOfAll_12 : decode cX0_worthOfAll 12 = .ok (.iload_n 2, 1) := dk_28 (dk_at dksX0_worthOfAll_0 12 rfl rfl)
theorem dX0_worthOfAll_13 : decode cX0_worthOfAll 13 = .ok (.iload_n 1, 1) := dk_27 (dk_at dksX0_worthOfAll_0 13 rfl rfl)
theorem dX0_worthOfAll_14 : decode cX0_worthOfAll 14 = .ok (.iload_n 3, 1) := dk_29 (dk_at dksX0_worthOfAll_0 14 rfl rfl)
theorem dX0_worthOfAll_15 : decode cX0_worthOfAll 15 = .ok (.invokestatic 132, 3) := dk_184 0 132 (dk_at dksX0_worthOfAll_0 15 rfl rfl)
theorem dX0_worthOfAll_18 : decode cX0_worthOfAll 18 = .ok (.ifCond .eq 23, 3) := dk_153 0 23 (dk_at dksX0_worthOfAll_0 18 rfl rfl)
theorem dX0_worthOfAll_21 : decode cX0_worthOfAll 21 = .ok (.aload_n 0, 1) := dk_42 (dk_at dksX0_worthOfAll_0 21 rfl rfl)
theorem dX0_worthOfAll_22 : decode cX0_worthOfAll 22 = .ok (.aload_n 0, 1) := dk_42 (dk_at dksX0_worthOfAll_0 22 rfl rfl)
theorem dX0_worthOfAll_23 : decode cX0_worthOfAll 23 = .ok (.getfield 195, 3) := dk_180 0 195 (dk_at dksX0_worthOfAll_1 0 rfl rfl)
theorem dX0_worthOfAll_26 : decode cX0_worthOfAll 26 = .ok (.iload_n 3, 1) := dk_29 (dk_at dksX0_worthOfAll_1 3 rfl rfl)
theorem dX0_worthOfAll_27 : decode cX0_worthOfAll 27 = .ok (.aaload, 1) := dk_50 (dk_at dksX0_worthOfAll_1 4 rfl rfl)
theorem dX0_worthOfAll_28 : decode cX0_worthOfAll 28 = .ok (.aload_n 0, 1) := dk_42 (dk_at dksX0_worthOfAll_1 5 rfl rfl)
theorem dX0_worthOfAll_29 : decode cX0_worthOfAll 29 = .ok (.getfield 195, 3) := dk_180 0 195 (dk_at dksX0_worthOfAll_1 6 rfl rfl)
theorem dX0_worthOfAll_32 : decode cX0_worthOfAll 32 = .ok (.iload_n 3, 1) := dk_29 (dk_at dksX0_worthOfAll_1 9 rfl rfl)
theorem dX0_worthOfAll_33 : decode cX0_worthOfAll 33 = .ok (.aaload, 1) := dk_50 (dk_at dksX0_worthOfAll_1 10 rfl rfl)
theorem dX0_worthOfAll_34 : decode cX0_worthOfAll 34 = .ok (.arraylength, 1) := dk_190 (dk_at dksX0_worthOfAll_1 11 rfl rfl)
theorem dX0_worthOfAll_35 : decode cX0_worthOfAll 35 = .ok (.invokevirtual 286, 3) := dk_182 1 30 (dk_at dksX0_worthOfAll_1 12 rfl rfl)
theorem dX0_worthOfAll_38 : decode cX0_worthOfAll 38 = .ok (.goto 4, 3) := dk_167 0 4 (dk_at dksX0_worthOfAll_1 15 rfl rfl)
theorem dX0_worthOfAll_41 : decode cX0_worthOfAll 41 = .ok (.iconst 0, 1) := dk_3 (dk_at dksX0_worthOfAll_1 18 rfl rfl)
theorem dX0_worthOfAll_42 : decode cX0_worthOfAll 42 = .ok (.iadd, 1) := dk_96 (dk_at dksX0_worthOfAll_1 19 rfl rfl)
theorem dX0_worthOfAll_43 : decode cX0_worthOfAll 43 = .ok (.istore_n 2, 1) := dk_61 (dk_at dksX0_worthOfAll_1 20 rfl rfl)
theorem dX0_worthOfAll_44 : decode cX0_worthOfAll 44 = .ok (.iinc 3 1, 3) := dk_132 3 1 (dk_at dksX0_worthOfAll_1 21 rfl rfl)
theorem dX0_worthOfAll_47 : decode cX0_worthOfAll 47 = .ok (.goto (-43), 3) := dk_167 255 213 (dk_at dksX0_worthOfAll_2 0 rfl rfl)
theorem dX0_worthOfAll_50 : decode cX0_worthOfAll 50 = .ok (.iload_n 2, 1) := dk_28 (dk_at dksX0_worthOfAll_2 3 rfl rfl)
theorem dX0_worthOfAll_51 : decode cX0_worthOfAll 51 = .ok (.ireturn, 1) := dk_172 (dk_at dksX0_worthOfAll_2 4 rfl rfl)
abbrev cX0_plan : ByteArray := prog_1_method_57_code
def yX0_plan : MethodName := ⟨RX0, "plan", "(II)I"⟩
def dkwX0_plan_3 : List UInt8 := [132, 4, 1, 167, 255, 211, 28, 4, 160, 0, 7, 29, 167, 0, 8, 42, 29, 182, 1, 88, 172]
abbrev dktX0_plan_3 : List UInt8 := dkwX0_plan_3 ++ []
def dkwX0_plan_2 : List UInt8 := [182, 1, 88, 164, 0, 18, 42, 27, 21, 4, 182, 1, 91, 153, 0, 8, 21, 4, 167, 0, 4, 29, 62]
abbrev dktX0_plan_2 : List UInt8 := dkwX0_plan_2 ++ dktX0_plan_3
def dkwX0_plan_1 : List UInt8 := [3, 62, 4, 54, 4, 21, 4, 4, 42, 180, 0, 92, 120, 162, 0, 40, 42, 21, 4, 182, 1, 88, 42, 29]
abbrev dktX0_plan_1 : List UInt8 := dkwX0_plan_1 ++ dktX0_plan_2
def dkwX0_plan_0 : List UInt8 := [42, 27, 182, 0, 215, 154, 0, 6, 16, 254, 172, 28, 133, 9, 10, 184, 0, 211, 154, 0, 6, 16, 253, 172]
abbrev dktX0_plan_0 : List UInt8 := dkwX0_plan_0 ++ dktX0_plan_1
theorem dksX0_plan_0 : cX0_plan.data.toList.drop 0 = dktX0_plan_0 := by decide +kernel
theorem dksX0_plan_1 : cX0_plan.data.toList.drop 24 = dktX0_plan_1 := dk_seg dksX0_plan_0 24 rfl rfl
theorem dksX0_plan_2 : cX0_plan.data.toList.drop 48 = dktX0_plan_2 := dk_seg dksX0_plan_1 24 rfl rfl
theorem dksX0_plan_3 : cX0_plan.data.toList.drop 71 = dktX0_plan_3 := dk_seg dksX0_plan_2 23 rfl rfl
theorem dX0_plan_0 : decode cX0_plan 0 = .ok (.aload_n 0, 1) := dk_42 (dk_at dksX0_plan_0 0 rfl rfl)
theorem dX0_plan_1 : decode cX0_plan 1 = .ok (.iload_n 1, 1) := dk_27 (dk_at dksX0_plan_0 1 rfl rfl)
theorem dX0_plan_2 : decode cX0_plan 2 = .ok (.invokevirtual 215, 3) := dk_182 0 215 (dk_at dksX0_plan_0 2 rfl rfl)
theorem dX0_plan_5 : decode cX0_plan 5 = .ok (.ifCond .ne 6, 3) := dk_154 0 6 (dk_at dksX0_plan_0 5 rfl rfl)
theorem dX0_plan_8 : decode cX0_plan 8 = .ok (.bipush (-2), 2) := dk_16 254 (dk_at dksX0_plan_0 8 rfl rfl)
theorem dX0_plan_10 : decode cX0_plan 10 = .ok (.ireturn, 1) := dk_172 (dk_at dksX0_plan_0 10 rfl rfl)
theorem dX0_plan_11 : decode cX0_plan 11 = .ok (.iload_n 2, 1) := dk_28 (dk_at dksX0_plan_0 11 rfl rfl)
theorem dX0_plan_12 : decode cX0_plan 12 = .ok (.i2l, 1) := dk_133 (dk_at dksX0_plan_0 12 rfl rfl)
theorem dX0_plan_13 : decode cX0_plan 13 = .ok (.lconst 0, 1) := dk_9 (dk_at dksX0_plan_0 13 rfl rfl)
theorem dX0_plan_14 : decode cX0_plan 14 = .ok (.lconst 1, 1) := dk_10 (dk_at dksX0_plan_0 14 rfl rfl)
theorem dX0_plan_15 : decode cX0_plan 15 = .ok (.invokestatic 211, 3) := dk_184 0 211 (dk_at dksX0_plan_0 15 rfl rfl)
theorem dX0_plan_18 : decode cX0_plan 18 = .ok (.ifCond .ne 6, 3) := dk_154 0 6 (dk_at dksX0_plan_0 18 rfl rfl)
theorem dX0_plan_21 : decode cX0_plan 21 = .ok (.bipush (-3), 2) := dk_16 253 (dk_at dksX0_plan_0 21 rfl rfl)
theorem dX0_plan_23 : decode cX0_plan 23 = .ok (.ireturn, 1) := dk_172 (dk_at dksX0_plan_0 23 rfl rfl)
theorem dX0_plan_24 : decode cX0_plan 24 = .ok (.iconst 0, 1) := dk_3 (dk_at dksX0_plan_1 0 rfl rfl)
theorem dX0_plan_25 : decode cX0_plan 25 = .ok (.istore_n 3, 1) := dk_62 (dk_at dksX0_plan_1 1 rfl rfl)
theorem dX0_plan_26 : decode cX0_plan 26 = .ok (.iconst 1, 1) := dk_4 (dk_at dksX0_plan_1 2 rfl rfl)
theorem dX0_plan_27 : decode cX0_plan 27 = .ok (.istore 4, 2) := dk_54 4 (dk_at dksX0_plan_1 3 rfl rfl)
theorem dX0_plan_29 : decode cX0_plan 29 = .ok (.iload 4, 2) := dk_21 4 (dk_at dksX0_plan_1 5 rfl rfl)
theorem dX0_plan_31 : decode cX0_plan 31 = .ok (.iconst 1, 1) := dk_4 (dk_at dksX0_plan_1 7 rfl rfl)
theorem dX0_plan_32 : decode cX0_plan 32 = .ok (.aload_n 0, 1) := dk_42 (dk_at dksX0_plan_1 8 rfl rfl)
theorem dX0_plan_33 : decode cX0_plan 33 = .ok (.getfield 92, 3) := dk_180 0 92 (dk_at dksX0_plan_1 9 rfl rfl)
theorem dX0_plan_36 : decode cX0_plan 36 = .ok (.ishl, 1) := dk_120 (dk_at dksX0_plan_1 12 rfl rfl)
theorem dX0_plan_37 : decode cX0_plan 37 = .ok (.if_icmp .ge 40, 3) := dk_162 0 40 (dk_at dksX0_plan_1 13 rfl rfl)
theorem dX0_plan_40 : decode cX0_plan 40 = .ok (.aload_n 0, 1) := dk_42 (dk_at dksX0_plan_1 16 rfl rfl)
theorem dX0_plan_41 : decode cX0_plan 41 = .ok (.iload 4, 2) := dk_21 4 (dk_at dksX0_plan_1 17 rfl rfl)
theorem dX0_plan_43 : decode cX0_plan 43 = .ok (.invokevirtual 344, 3) := dk_182 1 88 (dk_at dksX0_plan_1 19 rfl rfl)
theorem dX0_plan_46 : decode cX0_plan 46 = .ok (.aload_n 0, 1) := dk_42 (dk_at dksX0_plan_1 22 rfl rfl)
theorem dX0_plan_47 : decode cX0_plan 47 = .ok (.iload_n 3, 1) := dk_29 (dk_at dksX0_plan_1 23 rfl rfl)
theorem dX0_plan_48 : decode cX0_plan 48 = .ok (.invokevirtual 344, 3) := dk_182 1 88 (dk_at dksX0_plan_2 0 rfl rfl)
theorem dX0_plan_51 : decode cX0_plan 51 = .ok (.if_icmp .le 18, 3) := dk_164 0 18 (dk_at dksX0_plan_2 3 rfl rfl)
theorem dX0_plan_54 : decode cX0_plan 54 = .ok (.aload_n 0, 1) := dk_42 (dk_at dksX0_plan_2 6 rfl rfl)
theorem dX0_plan_55 : decode cX0_plan 55 = .ok (.iload_n 1, 1) := dk_27 (dk_at dksX0_plan_2 7 rfl rfl)
theorem dX0_plan_56 : decode cX0_plan 56 = .ok (.iload 4, 2) := dk_21 4 (dk_at dksX0_plan_2 8 rfl rfl)
theorem dX0_plan_58 : decode cX0_plan 58 = .ok (.invokevirtual 347, 3) := dk_182 1 91 (dk_at dksX0_plan_2 10 rfl rfl)
theorem dX0_plan_61 : decode cX0_plan 61 = .ok (.ifCond .eq 8, 3) := dk_153 0 8 (dk_at dksX0_plan_2 13 rfl rfl)
theorem dX0_plan_64 : decode cX0_plan 64 = .ok (.iload 4, 2) := dk_21 4 (dk_at dksX0_plan_2 16 rfl rfl)
theorem dX0_plan_66 : decode cX0_plan 66 = .ok (.goto 4, 3) := dk_167 0 4 (dk_at dksX0_plan_2 18 rfl rfl)
theorem dX0_plan_69 : decode cX0_plan 69 = .ok (.iload_n 3, 1) := dk_29 (dk_at dksX0_plan_2 21 rfl rfl)
theorem dX0_plan_70 : decode cX0_plan 70 = .ok (.istore_n 3, 1) := dk_62 (dk_at dksX0_plan_2 22 rfl rfl)
theorem dX0_plan_71 : decode cX0_plan 71 = .ok (.iinc 4 1, 3) := dk_132 4 1 (dk_at dksX0_plan_3 0 rfl rfl)
theorem dX0_plan_74 : decode cX0_plan 74 = .ok (.goto (-45), 3) := dk_167 255 211 (dk_at dksX0_plan_3 3 rfl rfl)
theorem dX0_plan_77 : decode cX0_plan 77 = .ok (.iload_n 2, 1) := dk_28 (dk_at dksX0_plan_3 6 rfl rfl)
theorem dX0_plan_78 : decode cX0_plan 78 = .ok (.iconst 1, 1) := dk_4 (dk_at dksX0_plan_3 7 rfl rfl)
theorem dX0_plan_79 : decode cX0_plan 79 = .ok (.if_icmp .ne 7, 3) := dk_160 0 7 (dk_at dksX0_plan_3 8 rfl rfl)
theorem dX0_plan_82 : decode cX0_plan 82 = .ok (.iload_n 3, 1) := dk_29 (dk_at dksX0_plan_3 11 rfl rfl)
theorem dX0_plan_83 : decode cX0_plan 83 = .ok (.goto 8, 3) := dk_167 0 8 (dk_at dksX0_plan_3 12 rfl rfl)
theorem dX0_plan_86 : decode cX0_plan 86 = .ok (.aload_n 0, 1) := dk_42 (dk_at dksX0_plan_3 15 rfl rfl)
theorem dX0_plan_87 : decode cX0_plan 87 = .ok (.iload_n 3, 1) := dk_29 (dk_at dksX0_plan_3 16 rfl rfl)
theorem dX0_plan_88 : decode cX0_plan 88 = .ok (.invokevirtual 344, 3) := dk_182 1 88 (dk_at dksX0_plan_3 17 rfl rfl)
theorem dX0_plan_91 : decode cX0_plan 91 = .ok (.ireturn, 1) := dk_172 (dk_at dksX0_plan_3 20 rfl rfl)
abbrev cX0_canPay : ByteArray := prog_1_method_56_code
def yX0_canPay : MethodName := ⟨RX0, "canPay", "(II)Z"⟩
def dkwX0_canPay_3 : List UInt8 := [100, 62, 29, 156, 0, 5, 3, 172, 42, 27, 29, 182, 1, 43, 62, 132, 4, 1, 167, 255, 181, 4, 172]
abbrev dktX0_canPay_3 : List UInt8 := dkwX0_canPay_3 ++ []
def dkwX0_canPay_2 : List UInt8 := [180, 0, 195, 21, 4, 50, 190, 42, 180, 0, 49, 180, 0, 83, 21, 4, 96, 182, 1, 12, 167, 0, 4, 3]
abbrev dktX0_canPay_2 : List UInt8 := dkwX0_canPay_2 ++ dktX0_canPay_3
def dkwX0_canPay_1 : List UInt8 := [21, 4, 184, 0, 132, 153, 0, 40, 42, 42, 27, 182, 0, 249, 42, 180, 0, 195, 21, 4, 50, 42]
abbrev dktX0_canPay_1 : List UInt8 := dkwX0_canPay_1 ++ dktX0_canPay_2
def dkwX0_canPay_0 : List UInt8 := [42, 180, 0, 49, 180, 0, 53, 27, 46, 62, 3, 54, 4, 21, 4, 42, 180, 0, 92, 162, 0, 72, 29, 28]
abbrev dktX0_canPay_0 : List UInt8 := dkwX0_canPay_0 ++ dktX0_canPay_1
theorem dksX0_canPay_0 : cX0_canPay.data.toList.drop 0 = dktX0_canPay_0 := by decide +kernel
theorem dksX0_canPay_1 : cX0_canPay.data.toList.drop 24 = dktX0_canPay_1 := dk_seg dksX0_canPay_0 24 rfl rfl
theorem dksX0_canPay_2 : cX0_canPay.data.toList.drop 46 = dktX0_canPay_2 := dk_seg dksX0_canPay_1 22 rfl rfl
theorem dksX0_canPay_3 : cX0_canPay.data.toList.drop 70 = dktX0_canPay_3 := dk_seg dksX0_canPay_2 24 rfl rfl
theorem dX0_canPay_0 : decode cX0_canPay 0 = .ok (.aload_n 0, 1) := dk_42 (dk_at dksX0_canPay_0 0 rfl rfl)
theorem dX0_canPay_1 : decode cX0_canPay 1 = .ok (.getfield 49, 3) := dk_180 0 49 (dk_at dksX0_canPay_0 1 rfl rfl)
theorem dX0_canPay_4 : decode cX0_canPay 4 = .ok (.getfield 53, 3) := dk_180 0 53 (dk_at dksX0_canPay_0 4 rfl rfl)
theorem dX0_canPay_7 : decode cX0_canPay 7 = .ok (.iload_n 1, 1) := dk_27 (dk_at dksX0_canPay_0 7 rfl rfl)
theorem dX0_canPay_8 : decode cX0_canPay 8 = .ok (.iaload, 1) := dk_46 (dk_at dksX0_canPay_0 8 rfl rfl)
theorem dX0_canPay_9 : decode cX0_canPay 9 = .ok (.istore_n 3, 1) := dk_62 (dk_at dksX0_canPay_0 9 rfl rfl)
theorem dX0_canPay_10 : decode cX0_canPay 10 = .ok (.iconst 0, 1) := dk_3 (dk_at dksX0_canPay_0 10 rfl rfl)
theorem dX0_canPay_11 : decode cX0_canPay 11 = .ok (.istore 4, 2) := dk_54 4 (dk_at dksX0_canPay_0 11 rfl rfl)
theorem dX0_canPay_13 : decode cX0_canPay 13 = .ok (.iload 4, 2) := dk_21 4 (dk_at dksX0_canPay_0 13 rfl rfl)
theorem dX0_canPay_15 : decode cX0_canPay 15 = .ok (.aload_n 0, 1) := dk_42 (dk_at dksX0_canPay_0 15 rfl rfl)
theorem dX0_canPay_16 : decode cX0_canPay 16 = .ok (.getfield 92, 3) := dk_180 0 92 (dk_at dksX0_canPay_0 16 rfl rfl)
theorem dX0_canPay_19 : decode cX0_canPay 19 = .ok (.if_icmp .ge 72, 3) := dk_162 0 72 (dk_at dksX0_canPay_0 19 rfl rfl)
theorem dX0_canPay_22 : decode cX0_canPay 22 = .ok (.iload_n 3, 1) := dk_29 (dk_at dksX0_canPay_0 22 rfl rfl)
theorem dX0_canPay_23 : decode cX0_canPay 23 = .ok (.iload_n 2, 1) := dk_28 (dk_at dksX0_canPay_0 23 rfl rfl)
theorem dX0_canPay_24 : decode cX0_canPay 24 = .ok (.iload 4, 2) := dk_21 4 (dk_at dksX0_canPay_1 0 rfl rfl)
theorem dX0_canPay_26 : decode cX0_canPay 26 = .ok (.invokestatic 132, 3) := dk_184 0 132 (dk_at dksX0_canPay_1 2 rfl rfl)
theorem dX0_canPay_29 : decode cX0_canPay 29 = .ok (.ifCond .eq 40, 3) := dk_153 0 40 (dk_at dksX0_canPay_1 5 rfl rfl)
theorem dX0_canPay_32 : decode cX0_canPay 32 = .ok (.aload_n 0, 1) := dk_42 (dk_at dksX0_canPay_1 8 rfl rfl)
theorem dX0_canPay_33 : decode cX0_canPay 33 = .ok (.aload_n 0, 1) := dk_42 (dk_at dksX0_canPay_1 9 rfl rfl)
theorem dX0_canPay_34 : decode cX0_canPay 34 = .ok (.iload_n 1, 1) := dk_27 (dk_at dksX0_canPay_1 10 rfl rfl)
theorem dX0_canPay_35 : decode cX0_canPay 35 = .ok (.invokevirtual 249, 3) := dk_182 0 249 (dk_at dksX0_canPay_1 11 rfl rfl)
theorem dX0_canPay_38 : decode cX0_canPay 38 = .ok (.aload_n 0, 1) := dk_42 (dk_at dksX0_canPay_1 14 rfl rfl)
theorem dX0_canPay_39 : decode cX0_canPay 39 = .ok (.getfield 195, 3) := dk_180 0 195 (dk_at dksX0_canPay_1 15 rfl rfl)
theorem dX0_canPay_42 : decode cX0_canPay 42 = .ok (.iload 4, 2) := dk_21 4 (dk_at dksX0_canPay_1 18 rfl rfl)
theorem dX0_canPay_44 : decode cX0_canPay 44 = .ok (.aaload, 1) := dk_50 (dk_at dksX0_canPay_1 20 rfl rfl)
theorem dX0_canPay_45 : decode cX0_canPay 45 = .ok (.aload_n 0, 1) := dk_42 (dk_at dksX0_canPay_1 21 rfl rfl)
theorem dX0_canPay_46 : decode cX0_canPay 46 = .ok (.getfield 195, 3) := dk_180 0 195 (dk_at dksX0_canPay_2 0 rfl rfl)
theorem dX0_canPay_49 : decode cX0_canPay 49 = .ok (.iload 4, 2) := dk_21 4 (dk_at dksX0_canPay_2 3 rfl rfl)
theorem dX0_canPay_51 : decode cX0_canPay 51 = .ok (.aaload, 1) := dk_50 (dk_at dksX0_canPay_2 5 rfl rfl)
theorem dX0_canPay_52 : decode cX0_canPay 52 = .ok (.arraylength, 1) := dk_190 (dk_at dksX0_canPay_2 6 rfl rfl)
theorem dX0_canPay_53 : decode cX0_canPay 53 = .ok (.aload_n 0, 1) := dk_42 (dk_at dksX0_canPay_2 7 rfl rfl)
theorem dX0_canPay_54 : decode cX0_canPay 54 = .ok (.getfield 49, 3) := dk_180 0 49 (dk_at dksX0_canPay_2 8 rfl rfl)
theorem dX0_canPay_57 : decode cX0_canPay 57 = .ok (.getfield 83, 3) := dk_180 0 83 (dk_at dksX0_canPay_2 11 rfl rfl)
theorem dX0_canPay_60 : decode cX0_canPay 60 = .ok (.iload 4, 2) := dk_21 4 (dk_at dksX0_canPay_2 14 rfl rfl)
theorem dX0_canPay_62 : decode cX0_canPay 62 = .ok (.iadd, 1) := dk_96 (dk_at dksX0_canPay_2 16 rfl rfl)
theorem dX0_canPay_63 : decode cX0_canPay 63 = .ok (.invokevirtual 268, 3) := dk_182 1 12 (dk_at dksX0_canPay_2 17 rfl rfl)
theorem dX0_canPay_66 : decode cX0_canPay 66 = .ok (.goto 4, 3) := dk_167 0 4 (dk_at dksX0_canPay_2 20 rfl rfl)
theorem dX0_canPay_69 : decode cX0_canPay 69 = .ok (.iconst 0, 1) := dk_3 (dk_at dksX0_canPay_2 23 rfl rfl)
theorem dX0_canPay_70 : decode cX0_canPay 70 = .ok (.isub, 1) := dk_100 (dk_at dksX0_canPay_3 0 rfl rfl)
theorem dX0_canPay_71 : decode cX0_canPay 71 = .ok (.istore_n 3, 1) := dk_62 (dk_at dksX0_canPay_3 1 rfl rfl)
theorem dX0_canPay_72 : decode cX0_canPay 72 = .ok (.iload_n 3, 1) := dk_29 (dk_at dksX0_canPay_3 2 rfl rfl)
theorem dX0_canPay_73 : decode cX0_canPay 73 = .ok (.ifCond .ge 5, 3) := dk_156 0 5 (dk_at dksX0_canPay_3 3 rfl rfl)
theorem dX0_canPay_76 : decode cX0_canPay 76 = .ok (.iconst 0, 1) := dk_3 (dk_at dksX0_canPay_3 6 rfl rfl)
theorem dX0_canPay_77 : decode cX0_canPay 77 = .ok (.ireturn, 1) := dk_172 (dk_at dksX0_canPay_3 7 rfl rfl)
theorem dX0_canPay_78 : decode cX0_canPay 78 = .ok (.aload_n 0, 1) := dk_42 (dk_at dksX0_canPay_3 8 rfl rfl)
theorem dX0_canPay_79 : decode cX0_canPay 79 = .ok (.iload_n 1, 1) := dk_27 (dk_at dksX0_canPay_3 9 rfl rfl)
theorem dX0_canPay_80 : decode cX0_canPay 80 = .ok (.iload_n 3, 1) := dk_29 (dk_at dksX0_canPay_3 10 rfl rfl)
theorem dX0_canPay_81 : decode cX0_canPay 81 = .ok (.invokevirtual 299, 3) := dk_182 1 43 (dk_at dksX0_canPay_3 11 rfl rfl)
theorem dX0_canPay_84 : decode cX0_canPay 84 = .ok (.istore_n 3, 1) := dk_62 (dk_at dksX0_canPay_3 14 rfl rfl)
theorem dX0_canPay_85 : decode cX0_canPay 85 = .ok (.iinc 4 1, 3) := dk_132 4 1 (dk_at dksX0_canPay_3 15 rfl rfl)
theorem dX0_canPay_88 : decode cX0_canPay 88 = .ok (.goto (-75), 3) := dk_167 255 181 (dk_at dksX0_canPay_3 18 rfl rfl)
theorem dX0_canPay_91 : decode cX0_canPay 91 = .ok (.iconst 1, 1) := dk_4 (dk_at dksX0_canPay_3 21 rfl rfl)
theorem dX0_canPay_92 : decode cX0_canPay 92 = .ok (.ireturn, 1) := dk_172 (dk_at dksX0_canPay_3 22 rfl rfl)
abbrev cX0_likeness : ByteArray := prog_1_method_59_code
def yX0_likeness : MethodName := ⟨RX0, "likeness", "(I)I"⟩
def dkwX0_likeness_0 : List UInt8 := [42, 27, 182, 0, 215, 153, 0, 11, 42, 27, 182, 1, 94, 167, 0, 5, 16, 254, 172]
abbrev dktX0_likeness_0 : List UInt8 := dkwX0_likeness_0 ++ []
theorem dksX0_likeness_0 : cX0_likeness.data.toList.drop 0 = dktX0_likeness_0 := by decide +kernel
theorem dX0_likeness_0 : decode cX0_likeness 0 = .ok (.aload_n 0, 1) := dk_42 (dk_at dksX0_likeness_0 0 rfl rfl)
theorem dX0_likeness_1 : decode cX0_likeness 1 = .ok (.iload_n 1, 1) := dk_27 (dk_at dksX0_likeness_0 1 rfl rfl)
theorem dX0_likeness_2 : decode cX0_likeness 2 = .ok (.invokevirtual 215, 3) := dk_182 0 215 (dk_at dksX0_likeness_0 2 rfl rfl)
theorem dX0_likeness_5 : decode cX0_likeness 5 = .ok (.ifCond .eq 11, 3) := dk_153 0 11 (dk_at dksX0_likeness_0 5 rfl rfl)
theorem dX0_likeness_8 : decode cX0_likeness 8 = .ok (.aload_n 0, 1) := dk_42 (dk_at dksX0_likeness_0 8 rfl rfl)
theorem dX0_likeness_9 : decode cX0_likeness 9 = .ok (.iload_n 1, 1) := dk_27 (dk_at dksX0_likeness_0 9 rfl rfl)
theorem dX0_likeness_10 : decode cX0_likeness 10 = .ok (.invokevirtual 350, 3) := dk_182 1 94 (dk_at dksX0_likeness_0 10 rfl rfl)
theorem dX0_likeness_13 : decode cX0_likeness 13 = .ok (.goto 5, 3) := dk_167 0 5 (dk_at dksX0_likeness_0 13 rfl rfl)
theorem dX0_likeness_16 : decode cX0_likeness 16 = .ok (.bipush (-2), 2) := dk_16 254 (dk_at dksX0_likeness_0 16 rfl rfl)
theorem dX0_likeness_18 : decode cX0_likeness 18 = .ok (.ireturn, 1) := dk_172 (dk_at dksX0_likeness_0 18 rfl rfl)
abbrev cX0_likenessOf : ByteArray := prog_1_method_58_code
def yX0_likenessOf : MethodName := ⟨RX0, "likenessOf", "(I)I"⟩
def dkwX0_likenessOf_3 : List UInt8 := [108, 96, 61, 132, 4, 1, 167, 255, 201, 28, 172]
abbrev dktX0_likenessOf_3 : List UInt8 := dkwX0_likenessOf_3 ++ []
def dkwX0_likenessOf_2 : List UInt8 := [17, 3, 232, 42, 180, 0, 49, 180, 0, 77, 27, 50, 42, 180, 0, 171, 21, 4, 46, 46, 4, 96, 104, 29]
abbrev dktX0_likenessOf_2 : List UInt8 := dkwX0_likenessOf_2 ++ dktX0_likenessOf_3
def dkwX0_likenessOf_1 : List UInt8 := [180, 0, 89, 162, 0, 52, 28, 42, 180, 0, 171, 21, 4, 46, 2, 160, 0, 7, 3, 167, 0, 28]
abbrev dktX0_likenessOf_1 : List UInt8 := dkwX0_likenessOf_1 ++ dktX0_likenessOf_2
def dkwX0_likenessOf_0 : List UInt8 := [3, 61, 42, 180, 0, 49, 27, 182, 0, 255, 42, 180, 0, 174, 96, 62, 3, 54, 4, 21, 4, 42]
abbrev dktX0_likenessOf_0 : List UInt8 := dkwX0_likenessOf_0 ++ dktX0_likenessOf_1
theorem dksX0_likenessOf_0 : cX0_likenessOf.data.toList.drop 0 = dktX0_likenessOf_0 := by decide +kernel
theorem dksX0_likenessOf_1 : cX0_likenessOf.data.toList.drop 22 = dktX0_likenessOf_1 := dk_seg dksX0_likenessOf_0 22 rfl rfl
theorem dksX0_likenessOf_2 : cX0_likenessOf.data.toList.drop 44 = dktX0_likenessOf_2 := dk_seg dksX0_likenessOf_1 22 rfl rfl
theorem dksX0_likenessOf_3 : cX0_likenessOf.data.toList.drop 68 = dktX0_likenessOf_3 := dk_seg dksX0_likenessOf_2 24 rfl rfl
theorem dX0_likenessOf_0 : decode cX0_likenessOf 0 = .ok (.iconst 0, 1) := dk_3 (dk_at dksX0_likenessOf_0 0 rfl rfl)
theorem dX0_likenessOf_1 : decode cX0_likenessOf 1 = .ok (.istore_n 2, 1) := dk_61 (dk_at dksX0_likenessOf_0 1 rfl rfl)
theorem dX0_likenessOf_2 : decode cX0_likenessOf 2 = .ok (.aload_n 0, 1) := dk_42 (dk_at dksX0_likenessOf_0 2 rfl rfl)
theorem dX0_likenessOf_3 : decode cX0_likenessOf 3 = .ok (.getfield 49, 3) := dk_180 0 49 (dk_at dksX0_likenessOf_0 3 rfl rfl)
theorem dX0_likenessOf_6 : decode cX0_likenessOf 6 = .ok (.iload_n 1, 1) := dk_27 (dk_at dksX0_likenessOf_0 6 rfl rfl)
theorem dX0_likenessOf_7 : decode cX0_likenessOf 7 = .ok (.invokevirtual 255, 3) := dk_182 0 255 (dk_at dksX0_likenessOf_0 7 rfl rfl)
theorem dX0_likenessOf_10 : decode cX0_likenessOf 10 = .ok (.aload_n 0, 1) := dk_42 (dk_at dksX0_likenessOf_0 10 rfl rfl)
theorem dX0_likenessOf_11 : decode cX0_likenessOf 11 = .ok (.getfield 174, 3) := dk_180 0 174 (dk_at dksX0_likenessOf_0 11 rfl rfl)
theorem dX0_likenessOf_14 : decode cX0_likenessOf 14 = .ok (.iadd, 1) := dk_96 (dk_at dksX0_likenessOf_0 14 rfl rfl)
theorem dX0_likenessOf_15 : decode cX0_likenessOf 15 = .ok (.istore_n 3, 1) := dk_62 (dk_at dksX0_likenessOf_0 15 rfl rfl)
theorem dX0_likenessOf_16 : decode cX0_likenessOf 16 = .ok (.iconst 0, 1) := dk_3 (dk_at dksX0_likenessOf_0 16 rfl rfl)
theorem dX0_likenessOf_17 : decode cX0_likenessOf 17 = .ok (.istore 4, 2) := dk_54 4 (dk_at dksX0_likenessOf_0 17 rfl rfl)
theorem dX0_likenessOf_19 : decode cX0_likenessOf 19 = .ok (.iload 4, 2) := dk_21 4 (dk_at dksX0_likenessOf_0 19 rfl rfl)
theorem dX0_likenessOf_21 : decode cX0_likenessOf 21 = .ok (.aload_n 0, 1) := dk_42 (dk_at dksX0_likenessOf_0 21 rfl rfl)
theorem dX0_likenessOf_22 : decode cX0_likenessOf 22 = .ok (.getfield 89, 3) := dk_180 0 89 (dk_at dksX0_likenessOf_1 0 rfl rfl)
theorem dX0_likenessOf_25 : decode cX0_likenessOf 25 = .ok (.if_icmp .ge 52, 3) := dk_162 0 52 (dk_at dksX0_likenessOf_1 3 rfl rfl)
theorem dX0_likenessOf_28 : decode cX0_likenessOf 28 = .ok (.iload_n 2, 1) := dk_28 (dk_at dksX0_likenessOf_1 6 rfl rfl)
theorem dX0_likenessOf_29 : decode cX0_likenessOf 29 = .ok (.aload_n 0, 1) := dk_42 (dk_at dksX0_likenessOf_1 7 rfl rfl)
theorem dX0_likenessOf_30 : decode cX0_likenessOf 30 = .ok (.getfield 171, 3) := dk_180 0 171 (dk_at dksX0_likenessOf_1 8 rfl rfl)
theorem dX0_likenessOf_33 : decode cX0_likenessOf 33 = .ok (.iload 4, 2) := dk_21 4 (dk_at dksX0_likenessOf_1 11 rfl rfl)
theorem dX0_likenessOf_35 : decode cX0_likenessOf 35 = .ok (.iaload, 1) := dk_46 (dk_at dksX0_likenessOf_1 13 rfl rfl)
theorem dX0_likenessOf_36 : decode cX0_likenessOf 36 = .ok (.iconst (-1), 1) := dk_2 (dk_at dksX0_likenessOf_1 14 rfl rfl)
theorem dX0_likenessOf_37 : decode cX0_likenessOf 37 = .ok (.if_icmp .ne 7, 3) := dk_160 0 7 (dk_at dksX0_likenessOf_1 15 rfl rfl)
theorem dX0_likenessOf_40 : decode cX0_likenessOf 40 = .ok (.iconst 0, 1) := dk_3 (dk_at dksX0_likenessOf_1 18 rfl rfl)
theorem dX0_likenessOf_41 : decode cX0_likenessOf 41 = .ok (.goto 28, 3) := dk_167 0 28 (dk_at dksX0_likenessOf_1 19 rfl rfl)
theorem dX0_likenessOf_44 : decode cX0_likenessOf 44 = .ok (.sipush 1000, 3) := dk_17 3 232 (dk_at dksX0_likenessOf_2 0 rfl rfl)
theorem dX0_likenessOf_47 : decode cX0_likenessOf 47 = .ok (.aload_n 0, 1) := dk_42 (dk_at dksX0_likenessOf_2 3 rfl rfl)
theorem dX0_likenessOf_48 : decode cX0_likenessOf 48 = .ok (.getfield 49, 3) := dk_180 0 49 (dk_at dksX0_likenessOf_2 4 rfl rfl)
theorem dX0_likenessOf_51 : decode cX0_likenessOf 51 = .ok (.getfield 77, 3) := dk_180 0 77 (dk_at dksX0_likenessOf_2 7 rfl rfl)
theorem dX0_likenessOf_54 : decode cX0_likenessOf 54 = .ok (.iload_n 1, 1) := dk_27 (dk_at dksX0_likenessOf_2 10 rfl rfl)
theorem dX0_likenessOf_55 : decode cX0_likenessOf 55 = .ok (.aaload, 1) := dk_50 (dk_at dksX0_likenessOf_2 11 rfl rfl)
theorem dX0_likenessOf_56 : decode cX0_likenessOf 56 = .ok (.aload_n 0, 1) := dk_42 (dk_at dksX0_likenessOf_2 12 rfl rfl)
theorem dX0_likenessOf_57 : decode cX0_likenessOf 57 = .ok (.getfield 171, 3) := dk_180 0 171 (dk_at dksX0_likenessOf_2 13 rfl rfl)
theorem dX0_likenessOf_60 : decode cX0_likenessOf 60 = .ok (.iload 4, 2) := dk_21 4 (dk_at dksX0_likenessOf_2 16 rfl rfl)
theorem dX0_likenessOf_62 : decode cX0_likenessOf 62 = .ok (.iaload, 1) := dk_46 (dk_at dksX0_likenessOf_2 18 rfl rfl)
theorem dX0_likenessOf_63 : decode cX0_likenessOf 63 = .ok (.iaload, 1) := dk_46 (dk_at dksX0_likenessOf_2 19 rfl rfl)
theorem dX0_likenessOf_64 : decode cX0_likenessOf 64 = .ok (.iconst 1, 1) := dk_4 (dk_at dksX0_likenessOf_2 20 rfl rfl)
theorem dX0_likenessOf_65 : decode cX0_likenessOf 65 = .ok (.iadd, 1) := dk_96 (dk_at dksX0_likenessOf_2 21 rfl rfl)
theorem dX0_likenessOf_66 : decode cX0_likenessOf 66 = .ok (.imul, 1) := dk_104 (dk_at dksX0_likenessOf_2 22 rfl rfl)
theorem dX0_likenessOf_67 : decode cX0_likenessOf 67 = .ok (.iload_n 3, 1) := dk_29 (dk_at dksX0_likenessOf_2 23 rfl rfl)
theorem dX0_likenessOf_68 : decode cX0_likenessOf 68 = .ok (.idiv, 1) := dk_108 (dk_at dksX0_likenessOf_3 0 rfl rfl)
theorem dX0_likenessOf_69 : decode cX0_likenessOf 69 = .ok (.iadd, 1) := dk_96 (dk_at dksX0_likenessOf_3 1 rfl rfl)
theorem dX0_likenessOf_70 : decode cX0_likenessOf 70 = .ok (.istore_n 2, 1) := dk_61 (dk_at dksX0_likenessOf_3 2 rfl rfl)
theorem dX0_likenessOf_71 : decode cX0_likenessOf 71 = .ok (.iinc 4 1, 3) := dk_132 4 1 (dk_at dksX0_likenessOf_3 3 rfl rfl)
theorem dX0_likenessOf_74 : decode cX0_likenessOf 74 = .ok (.goto (-55), 3) := dk_167 255 201 (dk_at dksX0_likenessOf_3 6 rfl rfl)
theorem dX0_likenessOf_77 : decode cX0_likenessOf 77 = .ok (.iload_n 2, 1) := dk_28 (dk_at dksX0_likenessOf_3 9 rfl rfl)
theorem dX0_likenessOf_78 : decode cX0_likenessOf 78 = .ok (.ireturn, 1) := dk_172 (dk_at dksX0_likenessOf_3 10 rfl rfl)
abbrev cX0_author : ByteArray := prog_1_method_60_code
def yX0_author : MethodName := ⟨RX0, "author", "()I"⟩
def dkwX0_author_2 : List UInt8 := [167, 0, 4, 27, 60, 132, 2, 1, 167, 255, 221, 27, 172]
abbrev dktX0_author_2 : List UInt8 := dkwX0_author_2 ++ []
def dkwX0_author_1 : List UInt8 := [162, 0, 33, 27, 2, 159, 0, 16, 42, 28, 182, 1, 94, 42, 27, 182, 1, 94, 164, 0, 7, 28]
abbrev dktX0_author_1 : List UInt8 := dkwX0_author_1 ++ dktX0_author_2
def dkwX0_author_0 : List UInt8 := [42, 180, 0, 89, 42, 182, 1, 24, 160, 0, 5, 2, 172, 2, 60, 3, 61, 28, 42, 180, 0, 180]
abbrev dktX0_author_0 : List UInt8 := dkwX0_author_0 ++ dktX0_author_1
theorem dksX0_author_0 : cX0_author.data.toList.drop 0 = dktX0_author_0 := by decide +kernel
theorem dksX0_author_1 : cX0_author.data.toList.drop 22 = dktX0_author_1 := dk_seg dksX0_author_0 22 rfl rfl
theorem dksX0_author_2 : cX0_author.data.toList.drop 44 = dktX0_author_2 := dk_seg dksX0_author_1 22 rfl rfl
theorem dX0_author_0 : decode cX0_author 0 = .ok (.aload_n 0, 1) := dk_42 (dk_at dksX0_author_0 0 rfl rfl)
theorem dX0_author_1 : decode cX0_author 1 = .ok (.getfield 89, 3) := dk_180 0 89 (dk_at dksX0_author_0 1 rfl rfl)
theorem dX0_author_4 : decode cX0_author 4 = .ok (.aload_n 0, 1) := dk_42 (dk_at dksX0_author_0 4 rfl rfl)
theorem dX0_author_5 : decode cX0_author 5 = .ok (.invokevirtual 280, 3) := dk_182 1 24 (dk_at dksX0_author_0 5 rfl rfl)
theorem dX0_author_8 : decode cX0_author 8 = .ok (.if_icmp .ne 5, 3) := dk_160 0 5 (dk_at dksX0_author_0 8 rfl rfl)
theorem dX0_author_11 : decode cX0_author 11 = .ok (.iconst (-1), 1) := dk_2 (dk_at dksX0_author_0 11 rfl rfl)
theorem dX0_author_12 : decode cX0_author 12 = .ok (.ireturn, 1) := dk_172 (dk_at dksX0_author_0 12 rfl rfl)
theorem dX0_author_13 : decode cX0_author 13 = .ok (.iconst (-1), 1) := dk_2 (dk_at dksX0_author_0 13 rfl rfl)
theorem dX0_author_14 : decode cX0_author 14 = .ok (.istore_n 1, 1) := dk_60 (dk_at dksX0_author_0 14 rfl rfl)
theorem dX0_author_15 : decode cX0_author 15 = .ok (.iconst 0, 1) := dk_3 (dk_at dksX0_author_0 15 rfl rfl)
theorem dX0_author_16 : decode cX0_author 16 = .ok (.istore_n 2, 1) := dk_61 (dk_at dksX0_author_0 16 rfl rfl)
theorem dX0_author_17 : decode cX0_author 17 = .ok (.iload_n 2, 1) := dk_28 (dk_at dksX0_author_0 17 rfl rfl)
theorem dX0_author_18 : decode cX0_author 18 = .ok (.aload_n 0, 1) := dk_42 (dk_at dksX0_author_0 18 rfl rfl)
theorem dX0_author_19 : decode cX0_author 19 = .ok (.getfield 180, 3) := dk_180 0 180 (dk_at dksX0_author_0 19 rfl rfl)
theorem dX0_author_22 : decode cX0_author 22 = .ok (.if_icmp .ge 33, 3) := dk_162 0 33 (dk_at dksX0_author_1 0 rfl rfl)
theorem dX0_author_25 : decode cX0_author 25 = .ok (.iload_n 1, 1) := dk_27 (dk_at dksX0_author_1 3 rfl rfl)
theorem dX0_author_26 : decode cX0_author 26 = .ok (.iconst (-1), 1) := dk_2 (dk_at dksX0_author_1 4 rfl rfl)
theorem dX0_author_27 : decode cX0_author 27 = .ok (.if_icmp .eq 16, 3) := dk_159 0 16 (dk_at dksX0_author_1 5 rfl rfl)
theorem dX0_author_30 : decode cX0_author 30 = .ok (.aload_n 0, 1) := dk_42 (dk_at dksX0_author_1 8 rfl rfl)
theorem dX0_author_31 : decode cX0_author 31 = .ok (.iload_n 2, 1) := dk_28 (dk_at dksX0_author_1 9 rfl rfl)
theorem dX0_author_32 : decode cX0_author 32 = .ok (.invokevirtual 350, 3) := dk_182 1 94 (dk_at dksX0_author_1 10 rfl rfl)
theorem dX0_author_35 : decode cX0_author 35 = .ok (.aload_n 0, 1) := dk_42 (dk_at dksX0_author_1 13 rfl rfl)
theorem dX0_author_36 : decode cX0_author 36 = .ok (.iload_n 1, 1) := dk_27 (dk_at dksX0_author_1 14 rfl rfl)
theorem dX0_author_37 : decode cX0_author 37 = .ok (.invokevirtual 350, 3) := dk_182 1 94 (dk_at dksX0_author_1 15 rfl rfl)
theorem dX0_author_40 : decode cX0_author 40 = .ok (.if_icmp .le 7, 3) := dk_164 0 7 (dk_at dksX0_author_1 18 rfl rfl)
theorem dX0_author_43 : decode cX0_author 43 = .ok (.iload_n 2, 1) := dk_28 (dk_at dksX0_author_1 21 rfl rfl)
theorem dX0_author_44 : decode cX0_author 44 = .ok (.goto 4, 3) := dk_167 0 4 (dk_at dksX0_author_2 0 rfl rfl)
theorem dX0_author_47 : decode cX0_author 47 = .ok (.iload_n 1, 1) := dk_27 (dk_at dksX0_author_2 3 rfl rfl)
theorem dX0_author_48 : decode cX0_author 48 = .ok (.istore_n 1, 1) := dk_60 (dk_at dksX0_author_2 4 rfl rfl)
theorem dX0_author_49 : decode cX0_author 49 = .ok (.iinc 2 1, 3) := dk_132 2 1 (dk_at dksX0_author_2 5 rfl rfl)
theorem dX0_author_52 : decode cX0_author 52 = .ok (.goto (-35), 3) := dk_167 255 221 (dk_at dksX0_author_2 8 rfl rfl)
theorem dX0_author_55 : decode cX0_author 55 = .ok (.iload_n 1, 1) := dk_27 (dk_at dksX0_author_2 11 rfl rfl)
theorem dX0_author_56 : decode cX0_author 56 = .ok (.ireturn, 1) := dk_172 (dk_at dksX0_author_2 12 rfl rfl)
abbrev cX0_left : ByteArray := prog_1_method_62_code
def yX0_left : MethodName := ⟨RX0, "left", "(I)I"⟩
def dkwX0_left_4 : List UInt8 := [167, 255, 188, 27, 154, 0, 7, 28, 167, 0, 14, 27, 4, 160, 0, 7, 29, 167, 0, 5, 21, 4, 172]
abbrev dktX0_left_4 : List UInt8 := dkwX0_left_4 ++ []
def dkwX0_left_3 : List UInt8 := [154, 0, 8, 21, 6, 167, 0, 5, 21, 4, 54, 4, 132, 2, 1, 132, 6, 1, 167, 255, 206, 132, 5, 1]
abbrev dktX0_left_3 : List UInt8 := dkwX0_left_3 ++ dktX0_left_4
def dkwX0_left_2 : List UInt8 := [21, 5, 21, 6, 182, 1, 99, 153, 0, 30, 28, 154, 0, 8, 21, 5, 167, 0, 4, 29, 62, 28]
abbrev dktX0_left_2 : List UInt8 := dkwX0_left_2 ++ dktX0_left_3
def dkwX0_left_1 : List UInt8 := [54, 5, 21, 5, 42, 180, 0, 180, 162, 0, 65, 3, 54, 6, 21, 6, 42, 180, 0, 180, 162, 0, 47, 42]
abbrev dktX0_left_1 : List UInt8 := dkwX0_left_1 ++ dktX0_left_2
def dkwX0_left_0 : List UInt8 := [27, 133, 9, 20, 1, 97, 184, 0, 211, 154, 0, 6, 16, 253, 172, 3, 61, 2, 62, 2, 54, 4, 3]
abbrev dktX0_left_0 : List UInt8 := dkwX0_left_0 ++ dktX0_left_1
theorem dksX0_left_0 : cX0_left.data.toList.drop 0 = dktX0_left_0 := by decide +kernel
theorem dksX0_left_1 : cX0_left.data.toList.drop 23 = dktX0_left_1 := dk_seg dksX0_left_0 23 rfl rfl
theorem dksX0_left_2 : cX0_left.data.toList.drop 47 = dktX0_left_2 := dk_seg dksX0_left_1 24 rfl rfl
theorem dksX0_left_3 : cX0_left.data.toList.drop 69 = dktX0_left_3 := dk_seg dksX0_left_2 22 rfl rfl
theorem dksX0_left_4 : cX0_left.data.toList.drop 93 = dktX0_left_4 := dk_seg dksX0_left_3 24 rfl rfl
theorem dX0_left_0 : decode cX0_left 0 = .ok (.iload_n 1, 1) := dk_27 (dk_at dksX0_left_0 0 rfl rfl)
theorem dX0_left_1 : decode cX0_left 1 = .ok (.i2l, 1) := dk_133 (dk_at dksX0_left_0 1 rfl rfl)
theorem dX0_left_2 : decode cX0_left 2 = .ok (.lconst 0, 1) := dk_9 (dk_at dksX0_left_0 2 rfl rfl)
theorem dX0_left_3 : decode cX0_left 3 = .ok (.ldc2_w 353, 3) := dk_20 1 97 (dk_at dksX0_left_0 3 rfl rfl)
theorem dX0_left_6 : decode cX0_left 6 = .ok (.invokestatic 211, 3) := dk_184 0 211 (dk_at dksX0_left_0 6 rfl rfl)
theorem dX0_left_9 : decode cX0_left 9 = .ok (.ifCond .ne 6, 3) := dk_154 0 6 (dk_at dksX0_left_0 9 rfl rfl)
theorem dX0_left_12 : decode cX0_left 12 = .ok (.bipush (-3), 2) := dk_16 253 (dk_at dksX0_left_0 12 rfl rfl)
theorem dX0_left_14 : decode cX0_left 14 = .ok (.ireturn, 1) := dk_172 (dk_at dksX0_left_0 14 rfl rfl)
theorem dX0_left_15 : decode cX0_left 15 = .ok (.iconst 0, 1) := dk_3 (dk_at dksX0_left_0 15 rfl rfl)
theorem dX0_left_16 : decode cX0_left 16 = .ok (.istore_n 2, 1) := dk_61 (dk_at dksX0_left_0 16 rfl rfl)
theorem dX0_left_17 : decode cX0_left 17 = .ok (.iconst (-1), 1) := dk_2 (dk_at dksX0_left_0 17 rfl rfl)
theorem dX0_left_18 : decode cX0_left 18 = .ok (.istore_n 3, 1) := dk_62 (dk_at dksX0_left_0 18 rfl rfl)
theorem dX0_left_19 : decode cX0_left 19 = .ok (.iconst (-1), 1) := dk_2 (dk_at dksX0_left_0 19 rfl rfl)
theorem dX0_left_20 : decode cX0_left 20 = .ok (.istore 4, 2) := dk_54 4 (dk_at dksX0_left_0 20 rfl rfl)
theorem dX0_left_22 : decode cX0_left 22 = .ok (.iconst 0, 1) := dk_3 (dk_at dksX0_left_0 22 rfl rfl)
theorem dX0_left_23 : decode cX0_left 23 = .ok (.istore 5, 2) := dk_54 5 (dk_at dksX0_left_1 0 rfl rfl)
theorem dX0_left_25 : decode cX0_left 25 = .ok (.iload 5, 2) := dk_21 5 (dk_at dksX0_left_1 2 rfl rfl)
theorem dX0_left_27 : decode cX0_left 27 = .ok (.aload_n 0, 1) := dk_42 (dk_at dksX0_left_1 4 rfl rfl)
theorem dX0_left_28 : decode cX0_left 28 = .ok (.getfield 180, 3) := dk_180 0 180 (dk_at dksX0_left_1 5 rfl rfl)
theorem dX0_left_31 : decode cX0_left 31 = .ok (.if_icmp .ge 65, 3) := dk_162 0 65 (dk_at dksX0_left_1 8 rfl rfl)
theorem dX0_left_34 : decode cX0_left 34 = .ok (.iconst 0, 1) := dk_3 (dk_at dksX0_left_1 11 rfl rfl)
theorem dX0_left_35 : decode cX0_left 35 = .ok (.istore 6, 2) := dk_54 6 (dk_at dksX0_left_1 12 rfl rfl)
theorem dX0_left_37 : decode cX0_left 37 = .ok (.iload 6, 2) := dk_21 6 (dk_at dksX0_left_1 14 rfl rfl)
theorem dX0_left_39 : decode cX0_left 39 = .ok (.aload_n 0, 1) := dk_42 (dk_at dksX0_left_1 16 rfl rfl)
theorem dX0_left_40 : decode cX0_left 40 = .ok (.getfield 180, 3) := dk_180 0 180 (dk_at dksX0_left_1 17 rfl rfl)
theorem dX0_left_43 : decode cX0_left 43 = .ok (.if_icmp .ge 47, 3) := dk_162 0 47 (dk_at dksX0_left_1 20 rfl rfl)
theorem dX0_left_46 : decode cX0_left 46 = .ok (.aload_n 0, 1) := dk_42 (dk_at dksX0_left_1 23 rfl rfl)
theorem dX0_left_47 : decode cX0_left 47 = .ok (.iload 5, 2) := dk_21 5 (dk_at dksX0_left_2 0 rfl rfl)
theorem dX0_left_49 : decode cX0_left 49 = .ok (.iload 6, 2) := dk_21 6 (dk_at dksX0_left_2 2 rfl rfl)
theorem dX0_left_51 : decode cX0_left 51 = .ok (.invokevirtual 355, 3) := dk_182 1 99 (dk_at dksX0_left_2 4 rfl rfl)
theorem dX0_left_54 : decode cX0_left 54 = .ok (.ifCond .eq 30, 3) := dk_153 0 30 (dk_at dksX0_left_2 7 rfl rfl)
theorem dX0_left_57 : decode cX0_left 57 = .ok (.iload_n 2, 1) := dk_28 (dk_at dksX0_left_2 10 rfl rfl)
theorem dX0_left_58 : decode cX0_left 58 = .ok (.ifCond .ne 8, 3) := dk_154 0 8 (dk_at dksX0_left_2 11 rfl rfl)
theorem dX0_left_61 : decode cX0_left 61 = .ok (.iload 5, 2) := dk_21 5 (dk_at dksX0_left_2 14 rfl rfl)
theorem dX0_left_63 : decode cX0_left 63 = .ok (.goto 4, 3) := dk_167 0 4 (dk_at dksX0_left_2 16 rfl rfl)
theorem dX0_left_66 : decode cX0_left 66 = .ok (.iload_n 3, 1) := dk_29 (dk_at dksX0_left_2 19 rfl rfl)
theorem dX0_left_67 : decode cX0_left 67 = .ok (.istore_n 3, 1) := dk_62 (dk_at dksX0_left_2 20 rfl rfl)
theorem dX0_left_68 : decode cX0_left 68 = .ok (.iload_n 2, 1) := dk_28 (dk_at dksX0_left_2 21 rfl rfl)
theorem dX0_left_69 : decode cX0_left 69 = .ok (.ifCond .ne 8, 3) := dk_154 0 8 (dk_at dksX0_left_3 0 rfl rfl)
theorem dX0_left_72 : decode cX0_left 72 = .ok (.iload 6, 2) := dk_21 6 (dk_at dksX0_left_3 3 rfl rfl)
theorem dX0_left_74 : decode cX0_left 74 = .ok (.goto 5, 3) := dk_167 0 5 (dk_at dksX0_left_3 5 rfl rfl)
theorem dX0_left_77 : decode cX0_left 77 = .ok (.iload 4, 2) := dk_21 4 (dk_at dksX0_left_3 8 rfl rfl)
theorem dX0_left_79 : decode cX0_left 79 = .ok (.istore 4, 2) := dk_54 4 (dk_at dksX0_left_3 10 rfl rfl)
theorem dX0_left_81 : decode cX0_left 81 = .ok (.iinc 2 1, 3) := dk_132 2 1 (dk_at dksX0_left_3 12 rfl rfl)
theorem dX0_left_84 : decode cX0_left 84 = .ok (.iinc 6 1, 3) := dk_132 6 1 (dk_at dksX0_left_3 15 rfl rfl)
theorem dX0_left_87 : decode cX0_left 87 = .ok (.goto (-50), 3) := dk_167 255 206 (dk_at dksX0_left_3 18 rfl rfl)
theorem dX0_left_90 : decode cX0_left 90 = .ok (.iinc 5 1, 3) := dk_132 5 1 (dk_at dksX0_left_3 21 rfl rfl)
theorem dX0_left_93 : decode cX0_left 93 = .ok (.goto (-68), 3) := dk_167 255 188 (dk_at dksX0_left_4 0 rfl rfl)
theorem dX0_left_96 : decode cX0_left 96 = .ok (.iload_n 1, 1) := dk_27 (dk_at dksX0_left_4 3 rfl rfl)
theorem dX0_left_97 : decode cX0_left 97 = .ok (.ifCond .ne 7, 3) := dk_154 0 7 (dk_at dksX0_left_4 4 rfl rfl)
theorem dX0_left_100 : decode cX0_left 100 = .ok (.iload_n 2, 1) := dk_28 (dk_at dksX0_left_4 7 rfl rfl)
theorem dX0_left_101 : decode cX0_left 101 = .ok (.goto 14, 3) := dk_167 0 14 (dk_at dksX0_left_4 8 rfl rfl)
theorem dX0_left_104 : decode cX0_left 104 = .ok (.iload_n 1, 1) := dk_27 (dk_at dksX0_left_4 11 rfl rfl)
theorem dX0_left_105 : decode cX0_left 105 = .ok (.iconst 1, 1) := dk_4 (dk_at dksX0_left_4 12 rfl rfl)
theorem dX0_left_106 : decode cX0_left 106 = .ok (.if_icmp .ne 7, 3) := dk_160 0 7 (dk_at dksX0_left_4 13 rfl rfl)
theorem dX0_left_109 : decode cX0_left 109 = .ok (.iload_n 3, 1) := dk_29 (dk_at dksX0_left_4 16 rfl rfl)
theorem dX0_left_110 : decode cX0_left 110 = .ok (.goto 5, 3) := dk_167 0 5 (dk_at dksX0_left_4 17 rfl rfl)
theorem dX0_left_113 : decode cX0_left 113 = .ok (.iload 4, 2) := dk_21 4 (dk_at dksX0_left_4 20 rfl rfl)
theorem dX0_left_115 : decode cX0_left 115 = .ok (.ireturn, 1) := dk_172 (dk_at dksX0_left_4 22 rfl rfl)
abbrev cX0_isLeft : ByteArray := prog_1_method_61_code
def yX0_isLeft : MethodName := ⟨RX0, "isLeft", "(II)Z"⟩
def dkwX0_isLeft_3 : List UInt8 := [167, 0, 4, 3, 172]
abbrev dktX0_isLeft_3 : List UInt8 := dkwX0_isLeft_3 ++ []
def dkwX0_isLeft_2 : List UInt8 := [180, 0, 68, 28, 46, 29, 161, 0, 19, 42, 28, 182, 0, 249, 180, 1, 3, 29, 164, 0, 7, 4]
abbrev dktX0_isLeft_2 : List UInt8 := dkwX0_isLeft_2 ++ dktX0_isLeft_3
def dkwX0_isLeft_1 : List UInt8 := [46, 158, 0, 46, 42, 180, 0, 49, 180, 0, 53, 28, 46, 16, 60, 162, 0, 32, 42, 180, 0, 49]
abbrev dktX0_isLeft_1 : List UInt8 := dkwX0_isLeft_1 ++ dktX0_isLeft_2
def dkwX0_isLeft_0 : List UInt8 := [42, 27, 182, 0, 249, 180, 1, 3, 4, 96, 62, 27, 28, 159, 0, 58, 42, 180, 0, 49, 180, 0, 53, 27]
abbrev dktX0_isLeft_0 : List UInt8 := dkwX0_isLeft_0 ++ dktX0_isLeft_1
theorem dksX0_isLeft_0 : cX0_isLeft.data.toList.drop 0 = dktX0_isLeft_0 := by decide +kernel
theorem dksX0_isLeft_1 : cX0_isLeft.data.toList.drop 24 = dktX0_isLeft_1 := dk_seg dksX0_isLeft_0 24 rfl rfl
theorem dksX0_isLeft_2 : cX0_isLeft.data.toList.drop 46 = dktX0_isLeft_2 := dk_seg dksX0_isLeft_1 22 rfl rfl
theorem dksX0_isLeft_3 : cX0_isLeft.data.toList.drop 68 = dktX0_isLeft_3 := dk_seg dksX0_isLeft_2 22 rfl rfl
theorem dX0_isLeft_0 : decode cX0_isLeft 0 = .ok (.aload_n 0, 1) := dk_42 (dk_at dksX0_isLeft_0 0 rfl rfl)
theorem dX0_isLeft_1 : decode cX0_isLeft 1 = .ok (.iload_n 1, 1) := dk_27 (dk_at dksX0_isLeft_0 1 rfl rfl)
theorem dX0_isLeft_2 : decode cX0_isLeft 2 = .ok (.invokevirtual 249, 3) := dk_182 0 249 (dk_at dksX0_isLeft_0 2 rfl rfl)
theorem dX0_isLeft_5 : decode cX0_isLeft 5 = .ok (.getfield 259, 3) := dk_180 1 3 (dk_at dksX0_isLeft_0 5 rfl rfl)
theorem dX0_isLeft_8 : decode cX0_isLeft 8 = .ok (.iconst 1, 1) := dk_4 (dk_at dksX0_isLeft_0 8 rfl rfl)
theorem dX0_isLeft_9 : decode cX0_isLeft 9 = .ok (.iadd, 1) := dk_96 (dk_at dksX0_isLeft_0 9 rfl rfl)
theorem dX0_isLeft_10 : decode cX0_isLeft 10 = .ok (.istore_n 3, 1) := dk_62 (dk_at dksX0_isLeft_0 10 rfl rfl)
theorem dX0_isLeft_11 : decode cX0_isLeft 11 = .ok (.iload_n 1, 1) := dk_27 (dk_at dksX0_isLeft_0 11 rfl rfl)
theorem dX0_isLeft_12 : decode cX0_isLeft 12 = .ok (.iload_n 2, 1) := dk_28 (dk_at dksX0_isLeft_0 12 rfl rfl)
theorem dX0_isLeft_13 : decode cX0_isLeft 13 = .ok (.if_icmp .eq 58, 3) := dk_159 0 58 (dk_at dksX0_isLeft_0 13 rfl rfl)
theorem dX0_isLeft_16 : decode cX0_isLeft 16 = .ok (.aload_n 0, 1) := dk_42 (dk_at dksX0_isLeft_0 16 rfl rfl)
theorem dX0_isLeft_17 : decode cX0_isLeft 17 = .ok (.getfield 49, 3) := dk_180 0 49 (dk_at dksX0_isLeft_0 17 rfl rfl)
theorem dX0_isLeft_20 : decode cX0_isLeft 20 = .ok (.getfield 53, 3) := dk_180 0 53 (dk_at dksX0_isLeft_0 20 rfl rfl)
theorem dX0_isLeft_23 : decode cX0_isLeft 23 = .ok (.iload_n 1, 1) := dk_27 (dk_at dksX0_isLeft_0 23 rfl rfl)
theorem dX0_isLeft_24 : decode cX0_isLeft 24 = .ok (.iaload, 1) := dk_46 (dk_at dksX0_isLeft_1 0 rfl rfl)
theorem dX0_isLeft_25 : decode cX0_isLeft 25 = .ok (.ifCond .le 46, 3) := dk_158 0 46 (dk_at dksX0_isLeft_1 1 rfl rfl)
theorem dX0_isLeft_28 : decode cX0_isLeft 28 = .ok (.aload_n 0, 1) := dk_42 (dk_at dksX0_isLeft_1 4 rfl rfl)
theorem dX0_isLeft_29 : decode cX0_isLeft 29 = .ok (.getfield 49, 3) := dk_180 0 49 (dk_at dksX0_isLeft_1 5 rfl rfl)
theorem dX0_isLeft_32 : decode cX0_isLeft 32 = .ok (.getfield 53, 3) := dk_180 0 53 (dk_at dksX0_isLeft_1 8 rfl rfl)
theorem dX0_isLeft_35 : decode cX0_isLeft 35 = .ok (.iload_n 2, 1) := dk_28 (dk_at dksX0_isLeft_1 11 rfl rfl)
theorem dX0_isLeft_36 : decode cX0_isLeft 36 = .ok (.iaload, 1) := dk_46 (dk_at dksX0_isLeft_1 12 rfl rfl)
theorem dX0_isLeft_37 : decode cX0_isLeft 37 = .ok (.bipush 60, 2) := dk_16 60 (dk_at dksX0_isLeft_1 13 rfl rfl)
theorem dX0_isLeft_39 : decode cX0_isLeft 39 = .ok (.if_icmp .ge 32, 3) := dk_162 0 32 (dk_at dksX0_isLeft_1 15 rfl rfl)
theorem dX0_isLeft_42 : decode cX0_isLeft 42 = .ok (.aload_n 0, 1) := dk_42 (dk_at dksX0_isLeft_1 18 rfl rfl)
theorem dX0_isLeft_43 : decode cX0_isLeft 43 = .ok (.getfield 49, 3) := dk_180 0 49 (dk_at dksX0_isLeft_1 19 rfl rfl)
theorem dX0_isLeft_46 : decode cX0_isLeft 46 = .ok (.getfield 68, 3) := dk_180 0 68 (dk_at dksX0_isLeft_2 0 rfl rfl)
theorem dX0_isLeft_49 : decode cX0_isLeft 49 = .ok (.iload_n 2, 1) := dk_28 (dk_at dksX0_isLeft_2 3 rfl rfl)
theorem dX0_isLeft_50 : decode cX0_isLeft 50 = .ok (.iaload, 1) := dk_46 (dk_at dksX0_isLeft_2 4 rfl rfl)
theorem dX0_isLeft_51 : decode cX0_isLeft 51 = .ok (.iload_n 3, 1) := dk_29 (dk_at dksX0_isLeft_2 5 rfl rfl)
theorem dX0_isLeft_52 : decode cX0_isLeft 52 = .ok (.if_icmp .lt 19, 3) := dk_161 0 19 (dk_at dksX0_isLeft_2 6 rfl rfl)
theorem dX0_isLeft_55 : decode cX0_isLeft 55 = .ok (.aload_n 0, 1) := dk_42 (dk_at dksX0_isLeft_2 9 rfl rfl)
theorem dX0_isLeft_56 : decode cX0_isLeft 56 = .ok (.iload_n 2, 1) := dk_28 (dk_at dksX0_isLeft_2 10 rfl rfl)
theorem dX0_isLeft_57 : decode cX0_isLeft 57 = .ok (.invokevirtual 249, 3) := dk_182 0 249 (dk_at dksX0_isLeft_2 11 rfl rfl)
theorem dX0_isLeft_60 : decode cX0_isLeft 60 = .ok (.getfield 259, 3) := dk_180 1 3 (dk_at dksX0_isLeft_2 14 rfl rfl)
theorem dX0_isLeft_63 : decode cX0_isLeft 63 = .ok (.iload_n 3, 1) := dk_29 (dk_at dksX0_isLeft_2 17 rfl rfl)
theorem dX0_isLeft_64 : decode cX0_isLeft 64 = .ok (.if_icmp .le 7, 3) := dk_164 0 7 (dk_at dksX0_isLeft_2 18 rfl rfl)
theorem dX0_isLeft_67 : decode cX0_isLeft 67 = .ok (.iconst 1, 1) := dk_4 (dk_at dksX0_isLeft_2 21 rfl rfl)
theorem dX0_isLeft_68 : decode cX0_isLeft 68 = .ok (.goto 4, 3) := dk_167 0 4 (dk_at dksX0_isLeft_3 0 rfl rfl)
theorem dX0_isLeft_71 : decode cX0_isLeft 71 = .ok (.iconst 0, 1) := dk_3 (dk_at dksX0_isLeft_3 3 rfl rfl)
theorem dX0_isLeft_72 : decode cX0_isLeft 72 = .ok (.ireturn, 1) := dk_172 (dk_at dksX0_isLeft_3 4 rfl rfl)
abbrev cX0_net : ByteArray := prog_1_method_63_code
def yX0_net : MethodName := ⟨RX0, "net", "(I)I"⟩
def dkwX0_net_1 : List UInt8 := [16, 254, 172]
abbrev dktX0_net_1 : List UInt8 := dkwX0_net_1 ++ []
def dkwX0_net_0 : List UInt8 := [42, 27, 182, 0, 215, 153, 0, 18, 42, 180, 0, 49, 27, 182, 1, 102, 17, 39, 15, 96, 167, 0, 5]
abbrev dktX0_net_0 : List UInt8 := dkwX0_net_0 ++ dktX0_net_1
theorem dksX0_net_0 : cX0_net.data.toList.drop 0 = dktX0_net_0 := by decide +kernel
theorem dksX0_net_1 : cX0_net.data.toList.drop 23 = dktX0_net_1 := dk_seg dksX0_net_0 23 rfl rfl
theorem dX0_net_0 : decode cX0_net 0 = .ok (.aload_n 0, 1) := dk_42 (dk_at dksX0_net_0 0 rfl rfl)
theorem dX0_net_1 : decode cX0_net 1 = .ok (.iload_n 1, 1) := dk_27 (dk_at dksX0_net_0 1 rfl rfl)
theorem dX0_net_2 : decode cX0_net 2 = .ok (.invokevirtual 215, 3) := dk_182 0 215 (dk_at dksX0_net_0 2 rfl rfl)
theorem dX0_net_5 : decode cX0_net 5 = .ok (.ifCond .eq 18, 3) := dk_153 0 18 (dk_at dksX0_net_0 5 rfl rfl)
theorem dX0_net_8 : decode cX0_net 8 = .ok (.aload_n 0, 1) := dk_42 (dk_at dksX0_net_0 8 rfl rfl)
theorem dX0_net_9 : decode cX0_net 9 = .ok (.getfield 49, 3) := dk_180 0 49 (dk_at dksX0_net_0 9 rfl rfl)
theorem dX0_net_12 : decode cX0_net 12 = .ok (.iload_n 1, 1) := dk_27 (dk_at dksX0_net_0 12 rfl rfl)
theorem dX0_net_13 : decode cX0_net 13 = .ok (.invokevirtual 358, 3) := dk_182 1 102 (dk_at dksX0_net_0 13 rfl rfl)
theorem dX0_net_16 : decode cX0_net 16 = .ok (.sipush 9999, 3) := dk_17 39 15 (dk_at dksX0_net_0 16 rfl rfl)
theorem dX0_net_19 : decode cX0_net 19 = .ok (.iadd, 1) := dk_96 (dk_at dksX0_net_0 19 rfl rfl)
theorem dX0_net_20 : decode cX0_net 20 = .ok (.goto 5, 3) := dk_167 0 5 (dk_at dksX0_net_0 20 rfl rfl)
theorem dX0_net_23 : decode cX0_net 23 = .ok (.bipush (-2), 2) := dk_16 254 (dk_at dksX0_net_1 0 rfl rfl)
theorem dX0_net_25 : decode cX0_net 25 = .ok (.ireturn, 1) := dk_172 (dk_at dksX0_net_1 2 rfl rfl)
abbrev cX0_payments : ByteArray := prog_1_method_65_code
def yX0_payments : MethodName := ⟨RX0, "payments", "()I"⟩
def dkwX0_payments_2 : List UInt8 := [100, 172]
abbrev dktX0_payments_2 : List UInt8 := dkwX0_payments_2 ++ []
def dkwX0_payments_1 : List UInt8 := [3, 167, 0, 6, 4, 28, 120, 128, 60, 132, 2, 1, 167, 255, 224, 27, 184, 1, 74, 42, 27, 182, 1, 105]
abbrev dktX0_payments_1 : List UInt8 := dkwX0_payments_1 ++ dktX0_payments_2
def dkwX0_payments_0 : List UInt8 := [3, 60, 3, 61, 28, 42, 180, 0, 180, 162, 0, 30, 27, 42, 180, 0, 49, 28, 182, 1, 102, 154, 0, 7]
abbrev dktX0_payments_0 : List UInt8 := dkwX0_payments_0 ++ dktX0_payments_1
theorem dksX0_payments_0 : cX0_payments.data.toList.drop 0 = dktX0_payments_0 := by decide +kernel
theorem dksX0_payments_1 : cX0_payments.data.toList.drop 24 = dktX0_payments_1 := dk_seg dksX0_payments_0 24 rfl rfl
theorem dksX0_payments_2 : cX0_payments.data.toList.drop 48 = dktX0_payments_2 := dk_seg dksX0_payments_1 24 rfl rfl
theorem dX0_payments_0 : decode cX0_payments 0 = .ok (.iconst 0, 1) := dk_3 (dk_at dksX0_payments_0 0 rfl rfl)
theorem dX0_payments_1 : decode cX0_payments 1 = .ok (.istore_n 1, 1) := dk_60 (dk_at dksX0_payments_0 1 rfl rfl)
theorem dX0_payments_2 : decode cX0_payments 2 = .ok (.iconst 0, 1) := dk_3 (dk_at dksX0_payments_0 2 rfl rfl)
theorem dX0_payments_3 : decode cX0_payments 3 = .ok (.istore_n 2, 1) := dk_61 (dk_at dksX0_payments_0 3 rfl rfl)
theorem dX0_payments_4 : decode cX0_payments 4 = .ok (.iload_n 2, 1) := dk_28 (dk_at dksX0_payments_0 4 rfl rfl)
theorem dX0_payments_5 : decode cX0_payments 5 = .ok (.aload_n 0, 1) := dk_42 (dk_at dksX0_payments_0 5 rfl rfl)
theorem dX0_payments_6 : decode cX0_payments 6 = .ok (.getfield 180, 3) := dk_180 0 180 (dk_at dksX0_payments_0 6 rfl rfl)
theorem dX0_payments_9 : decode cX0_payments 9 = .ok (.if_icmp .ge 30, 3) := dk_162 0 30 (dk_at dksX0_payments_0 9 rfl rfl)
theorem dX0_payments_12 : decode cX0_payments 12 = .ok (.iload_n 1, 1) := dk_27 (dk_at dksX0_payments_0 12 rfl rfl)
theorem dX0_payments_13 : decode cX0_payments 13 = .ok (.aload_n 0, 1) := dk_42 (dk_at dksX0_payments_0 13 rfl rfl)
theorem dX0_payments_14 : decode cX0_payments 14 = .ok (.getfield 49, 3) := dk_180 0 49 (dk_at dksX0_payments_0 14 rfl rfl)
theorem dX0_payments_17 : decode cX0_payments 17 = .ok (.iload_n 2, 1) := dk_28 (dk_at dksX0_payments_0 17 rfl rfl)
theorem dX0_payments_18 : decode cX0_payments 18 = .ok (.invokevirtual 358, 3) := dk_182 1 102 (dk_at dksX0_payments_0 18 rfl rfl)
theorem dX0_payments_21 : decode cX0_payments 21 = .ok (.ifCond .ne 7, 3) := dk_154 0 7 (dk_at dksX0_payments_0 21 rfl rfl)
theorem dX0_payments_24 : decode cX0_payments 24 = .ok (.iconst 0, 1) := dk_3 (dk_at dksX0_payments_1 0 rfl rfl)
theorem dX0_payments_25 : decode cX0_payments 25 = .ok (.goto 6, 3) := dk_167 0 6 (dk_at dksX0_payments_1 1 rfl rfl)
theorem dX0_payments_28 : decode cX0_payments 28 = .ok (.iconst 1, 1) := dk_4 (dk_at dksX0_payments_1 4 rfl rfl)
theorem dX0_payments_29 : decode cX0_payments 29 = .ok (.iload_n 2, 1) := dk_28 (dk_at dksX0_payments_1 5 rfl rfl)
theorem dX0_payments_30 : decode cX0_payments 30 = .ok (.ishl, 1) := dk_120 (dk_at dksX0_payments_1 6 rfl rfl)
theorem dX0_payments_31 : decode cX0_payments 31 = .ok (.ior, 1) := dk_128 (dk_at dksX0_payments_1 7 rfl rfl)
theorem dX0_payments_32 : decode cX0_payments 32 = .ok (.istore_n 1, 1) := dk_60 (dk_at dksX0_payments_1 8 rfl rfl)
theorem dX0_payments_33 : decode cX0_payments 33 = .ok (.iinc 2 1, 3) := dk_132 2 1 (dk_at dksX0_payments_1 9 rfl rfl)
theorem dX0_payments_36 : decode cX0_payments 36 = .ok (.goto (-32), 3) := dk_167 255 224 (dk_at dksX0_payments_1 12 rfl rfl)
theorem dX0_payments_39 : decode cX0_payments 39 = .ok (.iload_n 1, 1) := dk_27 (dk_at dksX0_payments_1 15 rfl rfl)
theorem dX0_payments_40 : decode cX0_payments 40 = .ok (.invokestatic 330, 3) := dk_184 1 74 (dk_at dksX0_payments_1 16 rfl rfl)
theorem dX0_payments_43 : decode cX0_payments 43 = .ok (.aload_n 0, 1) := dk_42 (dk_at dksX0_payments_1 19 rfl rfl)
theorem dX0_payments_44 : decode cX0_payments 44 = .ok (.iload_n 1, 1) := dk_27 (dk_at dksX0_payments_1 20 rfl rfl)
theorem dX0_payments_45 : decode cX0_payments 45 = .ok (.invokevirtual 361, 3) := dk_182 1 105 (dk_at dksX0_payments_1 21 rfl rfl)
theorem dX0_payments_48 : decode cX0_payments 48 = .ok (.isub, 1) := dk_100 (dk_at dksX0_payments_2 0 rfl rfl)
theorem dX0_payments_49 : decode cX0_payments 49 = .ok (.ireturn, 1) := dk_172 (dk_at dksX0_payments_2 1 rfl rfl)
abbrev cX0_partsOf : ByteArray := prog_1_method_64_code
def yX0_partsOf : MethodName := ⟨RX0, "partsOf", "(I)I"⟩
def dkwX0_partsOf_6 : List UInt8 := [54, 5, 167, 255, 189, 29, 172]
abbrev dktX0_partsOf_6 : List UInt8 := dkwX0_partsOf_6 ++ []
def dkwX0_partsOf_5 : List UInt8 := [160, 0, 7, 29, 167, 0, 12, 29, 21, 6, 21, 7, 96, 184, 1, 65, 62, 21, 5, 4, 100, 27, 126]
abbrev dktX0_partsOf_5 : List UInt8 := dkwX0_partsOf_5 ++ dktX0_partsOf_6
def dkwX0_partsOf_4 : List UInt8 := [54, 6, 42, 27, 21, 5, 2, 130, 126, 182, 1, 105, 54, 7, 21, 6, 2, 159, 0, 9, 21, 7, 2]
abbrev dktX0_partsOf_4 : List UInt8 := dkwX0_partsOf_4 ++ dktX0_partsOf_5
def dkwX0_partsOf_3 : List UInt8 := [27, 126, 54, 5, 21, 5, 158, 0, 68, 21, 5, 21, 4, 126, 153, 0, 49, 42, 21, 5, 182, 1, 105]
abbrev dktX0_partsOf_3 : List UInt8 := dkwX0_partsOf_3 ++ dktX0_partsOf_4
def dkwX0_partsOf_2 : List UInt8 := [153, 0, 13, 27, 154, 0, 7, 3, 167, 0, 4, 2, 172, 4, 62, 27, 27, 116, 126, 54, 4, 27, 4, 100]
abbrev dktX0_partsOf_2 : List UInt8 := dkwX0_partsOf_2 ++ dktX0_partsOf_3
def dkwX0_partsOf_1 : List UInt8 := [180, 0, 49, 29, 182, 1, 102, 167, 0, 4, 3, 96, 61, 132, 3, 1, 167, 255, 222, 27, 153, 0, 7, 28]
abbrev dktX0_partsOf_1 : List UInt8 := dkwX0_partsOf_1 ++ dktX0_partsOf_2
def dkwX0_partsOf_0 : List UInt8 := [3, 61, 3, 62, 29, 42, 180, 0, 180, 162, 0, 32, 28, 27, 29, 184, 0, 132, 153, 0, 14, 42]
abbrev dktX0_partsOf_0 : List UInt8 := dkwX0_partsOf_0 ++ dktX0_partsOf_1
theorem dksX0_partsOf_0 : cX0_partsOf.data.toList.drop 0 = dktX0_partsOf_0 := by decide +kernel
theorem dksX0_partsOf_1 : cX0_partsOf.data.toList.drop 22 = dktX0_partsOf_1 := dk_seg dksX0_partsOf_0 22 rfl rfl
theorem dksX0_partsOf_2 : cX0_partsOf.data.toList.drop 46 = dktX0_partsOf_2 := dk_seg dksX0_partsOf_1 24 rfl rfl
theorem dksX0_partsOf_3 : cX0_partsOf.data.toList.drop 70 = dktX0_partsOf_3 := dk_seg dksX0_partsOf_2 24 rfl rfl
theorem dksX0_partsOf_4 : cX0_partsOf.data.toList.drop 93 = dktX0_partsOf_4 := dk_seg dksX0_partsOf_3 23 rfl rfl
theorem dksX0_partsOf_5 : cX0_partsOf.data.toList.drop 116 = dktX0_partsOf_5 := dk_seg dksX0_partsOf_4 23 rfl rfl
theorem dksX0_partsOf_6 : cX0_partsOf.data.toList.drop 139 = dktX0_partsOf_6 := dk_seg dksX0_partsOf_5 23 rfl rfl
theorem dX0_partsOf_0 : decode cX0_partsOf 0 = .ok (.iconst 0, 1) := dk_3 (dk_at dksX0_partsOf_0 0 rfl rfl)
theorem dX0_partsOf_1 : decode cX0_partsOf 1 = .ok (.istore_n 2, 1) := dk_61 (dk_at dksX0_partsOf_0 1 rfl rfl)
theorem dX0_partsOf_2 : decode cX0_partsOf 2 = .ok (.iconst 0, 1) := dk_3 (dk_at dksX0_partsOf_0 2 rfl rfl)
theorem dX0_partsOf_3 : decode cX0_partsOf 3 = .ok (.istore_n 3, 1) := dk_62 (dk_at dksX0_partsOf_0 3 rfl rfl)
theorem dX0_partsOf_4 : decode cX0_partsOf 4 = .ok (.iload_n 3, 1) := dk_29 (dk_at dksX0_partsOf_0 4 rfl rfl)
theorem dX0_partsOf_5 : decode cX0_partsOf 5 = .ok (.aload_n 0, 1) := dk_42 (dk_at dksX0_partsOf_0 5 rfl rfl)
theorem dX0_partsOf_6 : decode cX0_partsOf 6 = .ok (.getfield 180, 3) := dk_180 0 180 (dk_at dksX0_partsOf_0 6 rfl rfl)
theorem dX0_partsOf_9 : decode cX0_partsOf 9 = .ok (.if_icmp .ge 32, 3) := dk_162 0 32 (dk_at dksX0_partsOf_0 9 rfl rfl)
theorem dX0_partsOf_12 : decode cX0_partsOf 12 = .ok (.iload_n 2, 1) := dk_28 (dk_at dksX0_partsOf_0 12 rfl rfl)
theorem dX0_partsOf_13 : decode cX0_partsOf 13 = .ok (.iload_n 1, 1) := dk_27 (dk_at dksX0_partsOf_0 13 rfl rfl)
theorem dX0_partsOf_14 : decode cX0_partsOf 14 = .ok (.iload_n 3, 1) := dk_29 (dk_at dksX0_partsOf_0 14 rfl rfl)
theorem dX0_partsOf_15 : decode cX0_partsOf 15 = .ok (.invokestatic 132, 3) := dk_184 0 132 (dk_at dksX0_partsOf_0 15 rfl rfl)
theorem dX0_partsOf_18 : decode cX0_partsOf 18 = .ok (.ifCond .eq 14, 3) := dk_153 0 14 (dk_at dksX0_partsOf_0 18 rfl rfl)
theorem dX0_partsOf_21 : decode cX0_partsOf 21 = .ok (.aload_n 0, 1) := dk_42 (dk_at dksX0_partsOf_0 21 rfl rfl)
theorem dX0_partsOf_22 : decode cX0_partsOf 22 = .ok (.getfield 49, 3) := dk_180 0 49 (dk_at dksX0_partsOf_1 0 rfl rfl)
theorem dX0_partsOf_25 : decode cX0_partsOf 25 = .ok (.iload_n 3, 1) := dk_29 (dk_at dksX0_partsOf_1 3 rfl rfl)
theorem dX0_partsOf_26 : decode cX0_partsOf 26 = .ok (.invokevirtual 358, 3) := dk_182 1 102 (dk_at dksX0_partsOf_1 4 rfl rfl)
theorem dX0_partsOf_29 : decode cX0_partsOf 29 = .ok (.goto 4, 3) := dk_167 0 4 (dk_at dksX0_partsOf_1 7 rfl rfl)
theorem dX0_partsOf_32 : decode cX0_partsOf 32 = .ok (.iconst 0, 1) := dk_3 (dk_at dksX0_partsOf_1 10 rfl rfl)
theorem dX0_partsOf_33 : decode cX0_partsOf 33 = .ok (.iadd, 1) := dk_96 (dk_at dksX0_partsOf_1 11 rfl rfl)
theorem dX0_partsOf_34 : decode cX0_partsOf 34 = .ok (.istore_n 2, 1) := dk_61 (dk_at dksX0_partsOf_1 12 rfl rfl)
theorem dX0_partsOf_35 : decode cX0_partsOf 35 = .ok (.iinc 3 1, 3) := dk_132 3 1 (dk_at dksX0_partsOf_1 13 rfl rfl)
theorem dX0_partsOf_38 : decode cX0_partsOf 38 = .ok (.goto (-34), 3) := dk_167 255 222 (dk_at dksX0_partsOf_1 16 rfl rfl)
theorem dX0_partsOf_41 : decode cX0_partsOf 41 = .ok (.iload_n 1, 1) := dk_27 (dk_at dksX0_partsOf_1 19 rfl rfl)
theorem dX0_partsOf_42 : decode cX0_partsOf 42 = .ok (.ifCond .eq 7, 3) := dk_153 0 7 (dk_at dksX0_partsOf_1 20 rfl rfl)
theorem dX0_partsOf_45 : decode cX0_partsOf 45 = .ok (.iload_n 2, 1) := dk_28 (dk_at dksX0_partsOf_1 23 rfl rfl)
theorem dX0_partsOf_46 : decode cX0_partsOf 46 = .ok (.ifCond .eq 13, 3) := dk_153 0 13 (dk_at dksX0_partsOf_2 0 rfl rfl)
theorem dX0_partsOf_49 : decode cX0_partsOf 49 = .ok (.iload_n 1, 1) := dk_27 (dk_at dksX0_partsOf_2 3 rfl rfl)
theorem dX0_partsOf_50 : decode cX0_partsOf 50 = .ok (.ifCond .ne 7, 3) := dk_154 0 7 (dk_at dksX0_partsOf_2 4 rfl rfl)
theorem dX0_partsOf_53 : decode cX0_partsOf 53 = .ok (.iconst 0, 1) := dk_3 (dk_at dksX0_partsOf_2 7 rfl rfl)
theorem dX0_partsOf_54 : decode cX0_partsOf 54 = .ok (.goto 4, 3) := dk_167 0 4 (dk_at dksX0_partsOf_2 8 rfl rfl)
theorem dX0_partsOf_57 : decode cX0_partsOf 57 = .ok (.iconst (-1), 1) := dk_2 (dk_at dksX0_partsOf_2 11 rfl rfl)
theorem dX0_partsOf_58 : decode cX0_partsOf 58 = .ok (.ireturn, 1) := dk_172 (dk_at dksX0_partsOf_2 12 rfl rfl)
theorem dX0_partsOf_59 : decode cX0_partsOf 59 = .ok (.iconst 1, 1) := dk_4 (dk_at dksX0_partsOf_2 13 rfl rfl)
theorem dX0_partsOf_60 : decode cX0_partsOf 60 = .ok (.istore_n 3, 1) := dk_62 (dk_at dksX0_partsOf_2 14 rfl rfl)
theorem dX0_partsOf_61 : decode cX0_partsOf 61 = .ok (.iload_n 1, 1) := dk_27 (dk_at dksX0_partsOf_2 15 rfl rfl)
theorem dX0_partsOf_62 : decode cX0_partsOf 62 = .ok (.iload_n 1, 1) := dk_27 (dk_at dksX0_partsOf_2 16 rfl rfl)
theorem dX0_partsOf_63 : decode cX0_partsOf 63 = .ok (.ineg, 1) := dk_116 (dk_at dksX0_partsOf_2 17 rfl rfl)
theorem dX0_partsOf_64 : decode cX0_partsOf 64 = .ok (.iand, 1) := dk_126 (dk_at dksX0_partsOf_2 18 rfl rfl)
theorem dX0_partsOf_65 : decode cX0_partsOf 65 = .ok (.istore 4, 2) := dk_54 4 (dk_at dksX0_partsOf_2 19 rfl rfl)
theorem dX0_partsOf_67 : decode cX0_partsOf 67 = .ok (.iload_n 1, 1) := dk_27 (dk_at dksX0_partsOf_2 21 rfl rfl)
theorem dX0_partsOf_68 : decode cX0_partsOf 68 = .ok (.iconst 1, 1) := dk_4 (dk_at dksX0_partsOf_2 22 rfl rfl)
theorem dX0_partsOf_69 : decode cX0_partsOf 69 = .ok (.isub, 1) := dk_100 (dk_at dksX0_partsOf_2 23 rfl rfl)
theorem dX0_partsOf_70 : decode cX0_partsOf 70 = .ok (.iload_n 1, 1) := dk_27 (dk_at dksX0_partsOf_3 0 rfl rfl)
theorem dX0_partsOf_71 : decode cX0_partsOf 71 = .ok (.iand, 1) := dk_126 (dk_at dksX0_partsOf_3 1 rfl rfl)
theorem dX0_partsOf_72 : decode cX0_partsOf 72 = .ok (.istore 5, 2) := dk_54 5 (dk_at dksX0_partsOf_3 2 rfl rfl)
theorem dX0_partsOf_74 : decode cX0_partsOf 74 = .ok (.iload 5, 2) := dk_21 5 (dk_at dksX0_partsOf_3 4 rfl rfl)
theorem dX0_partsOf_76 : decode cX0_partsOf 76 = .ok (.ifCond .le 68, 3) := dk_158 0 68 (dk_at dksX0_partsOf_3 6 rfl rfl)
theorem dX0_partsOf_79 : decode cX0_partsOf 79 = .ok (.iload 5, 2) := dk_21 5 (dk_at dksX0_partsOf_3 9 rfl rfl)
theorem dX0_partsOf_81 : decode cX0_partsOf 81 = .ok (.iload 4, 2) := dk_21 4 (dk_at dksX0_partsOf_3 11 rfl rfl)
theorem dX0_partsOf_83 : decode cX0_partsOf 83 = .ok (.iand, 1) := dk_126 (dk_at dksX0_partsOf_3 13 rfl rfl)
theorem dX0_partsOf_84 : decode cX0_partsOf 84 = .ok (.ifCond .eq 49, 3) := dk_153 0 49 (dk_at dksX0_partsOf_3 14 rfl rfl)
theorem dX0_partsOf_87 : decode cX0_partsOf 87 = .ok (.aload_n 0, 1) := dk_42 (dk_at dksX0_partsOf_3 17 rfl rfl)
theorem dX0_partsOf_88 : decode cX0_partsOf 88 = .ok (.iload 5, 2) := dk_21 5 (dk_at dksX0_partsOf_3 18 rfl rfl)
theorem dX0_partsOf_90 : decode cX0_partsOf 90 = .ok (.invokevirtual 361, 3) := dk_182 1 105 (dk_at dksX0_partsOf_3 20 rfl rfl)
theorem dX0_partsOf_93 : decode cX0_partsOf 93 = .ok (.istore 6, 2) := dk_54 6 (dk_at dksX0_partsOf_4 0 rfl rfl)
theorem dX0_partsOf_95 : decode cX0_partsOf 95 = .ok (.aload_n 0, 1) := dk_42 (dk_at dksX0_partsOf_4 2 rfl rfl)
theorem dX0_partsOf_96 : decode cX0_partsOf 96 = .ok (.iload_n 1, 1) := dk_27 (dk_at dksX0_partsOf_4 3 rfl rfl)
theorem dX0_partsOf_97 : decode cX0_partsOf 97 = .ok (.iload 5, 2) := dk_21 5 (dk_at dksX0_partsOf_4 4 rfl rfl)
theorem dX0_partsOf_99 : decode cX0_partsOf 99 = .ok (.iconst (-1), 1) := dk_2 (dk_at dksX0_partsOf_4 6 rfl rfl)
theorem dX0_partsOf_100 : decode cX0_partsOf 100 = .ok (.ixor, 1) := dk_130 (dk_at dksX0_partsOf_4 7 rfl rfl)
theorem dX0_partsOf_101 : decode cX0_partsOf 101 = .ok (.iand, 1) := dk_126 (dk_at dksX0_partsOf_4 8 rfl rfl)
theorem dX0_partsOf_102 : decode cX0_partsOf 102 = .ok (.invokevirtual 361, 3) := dk_182 1 105 (dk_at dksX0_partsOf_4 9 rfl rfl)
theorem dX0_partsOf_105 : decode cX0_partsOf 105 = .ok (.istore 7, 2) := dk_54 7 (dk_at dksX0_partsOf_4 12 rfl rfl)
theorem dX0_partsOf_107 : decode cX0_partsOf 107 = .ok (.iload 6, 2) := dk_21 6 (dk_at dksX0_partsOf_4 14 rfl rfl)
theorem dX0_partsOf_109 : decode cX0_partsOf 109 = .ok (.iconst (-1), 1) := dk_2 (dk_at dksX0_partsOf_4 16 rfl rfl)
theorem dX0_partsOf_110 : decode cX0_partsOf 110 = .ok (.if_icmp .eq 9, 3) := dk_159 0 9 (dk_at dksX0_partsOf_4 17 rfl rfl)
theorem dX0_partsOf_113 : decode cX0_partsOf 113 = .ok (.iload 7, 2) := dk_21 7 (dk_at dksX0_partsOf_4 20 rfl rfl)
theorem dX0_partsOf_115 : decode cX0_partsOf 115 = .ok (.iconst (-1), 1) := dk_2 (dk_at dksX0_partsOf_4 22 rfl rfl)
theorem dX0_partsOf_116 : decode cX0_partsOf 116 = .ok (.if_icmp .ne 7, 3) := dk_160 0 7 (dk_at dksX0_partsOf_5 0 rfl rfl)
theorem dX0_partsOf_119 : decode cX0_partsOf 119 = .ok (.iload_n 3, 1) := dk_29 (dk_at dksX0_partsOf_5 3 rfl rfl)
theorem dX0_partsOf_120 : decode cX0_partsOf 120 = .ok (.goto 12, 3) := dk_167 0 12 (dk_at dksX0_partsOf_5 4 rfl rfl)
theorem dX0_partsOf_123 : decode cX0_partsOf 123 = .ok (.iload_n 3, 1) := dk_29 (dk_at dksX0_partsOf_5 7 rfl rfl)
theorem dX0_partsOf_124 : decode cX0_partsOf 124 = .ok (.iload 6, 2) := dk_21 6 (dk_at dksX0_partsOf_5 8 rfl rfl)
theorem dX0_partsOf_126 : decode cX0_partsOf 126 = .ok (.iload 7, 2) := dk_21 7 (dk_at dksX0_partsOf_5 10 rfl rfl)
theorem dX0_partsOf_128 : decode cX0_partsOf 128 = .ok (.iadd, 1) := dk_96 (dk_at dksX0_partsOf_5 12 rfl rfl)
theorem dX0_partsOf_129 : decode cX0_partsOf 129 = .ok (.invokestatic 321, 3) := dk_184 1 65 (dk_at dksX0_partsOf_5 13 rfl rfl)
theorem dX0_partsOf_132 : decode cX0_partsOf 132 = .ok (.istore_n 3, 1) := dk_62 (dk_at dksX0_partsOf_5 16 rfl rfl)
theorem dX0_partsOf_133 : decode cX0_partsOf 133 = .ok (.iload 5, 2) := dk_21 5 (dk_at dksX0_partsOf_5 17 rfl rfl)
theorem dX0_partsOf_135 : decode cX0_partsOf 135 = .ok (.iconst 1, 1) := dk_4 (dk_at dksX0_partsOf_5 19 rfl rfl)
theorem dX0_partsOf_136 : decode cX0_partsOf 136 = .ok (.isub, 1) := dk_100 (dk_at dksX0_partsOf_5 20 rfl rfl)
theorem dX0_partsOf_137 : decode cX0_partsOf 137 = .ok (.iload_n 1, 1) := dk_27 (dk_at dksX0_partsOf_5 21 rfl rfl)
theorem dX0_partsOf_138 : decode cX0_partsOf 138 = .ok (.iand, 1) := dk_126 (dk_at dksX0_partsOf_5 22 rfl rfl)
theorem dX0_partsOf_139 : decode cX0_partsOf 139 = .ok (.istore 5, 2) := dk_54 5 (dk_at dksX0_partsOf_6 0 rfl rfl)
theorem dX0_partsOf_141 : decode cX0_partsOf 141 = .ok (.goto (-67), 3) := dk_167 255 189 (dk_at dksX0_partsOf_6 2 rfl rfl)
theorem dX0_partsOf_144 : decode cX0_partsOf 144 = .ok (.iload_n 3, 1) := dk_29 (dk_at dksX0_partsOf_6 5 rfl rfl)
theorem dX0_partsOf_145 : decode cX0_partsOf 145 = .ok (.ireturn, 1) := dk_172 (dk_at dksX0_partsOf_6 6 rfl rfl)
abbrev cX0_count : ByteArray := prog_1_method_66_code
def yX0_count : MethodName := ⟨RX0, "count", "(I)I"⟩
def dkwX0_count_6 : List UInt8 := [28, 172, 29, 172, 42, 180, 0, 220, 172, 16, 253, 172]
abbrev dktX0_count_6 : List UInt8 := dkwX0_count_6 ++ []
def dkwX0_count_5 : List UInt8 := [172, 42, 180, 0, 49, 180, 0, 83, 172, 42, 180, 0, 89, 172, 42, 180, 0, 92, 172, 42, 180, 0, 86, 172]
abbrev dktX0_count_5 : List UInt8 := dkwX0_count_5 ++ dktX0_count_6
def dkwX0_count_4 : List UInt8 := [42, 180, 0, 174, 172, 42, 180, 0, 180, 172, 42, 180, 0, 37, 172, 42, 180, 0, 59, 172, 42, 180, 0, 129]
abbrev dktX0_count_4 : List UInt8 := dkwX0_count_4 ++ dktX0_count_5
def dkwX0_count_3 : List UInt8 := [170, 0, 0, 0, 0, 0, 120, 0, 0, 0, 0, 0, 0, 0, 11, 0, 0, 0, 63, 0, 0, 0, 68, 0, 0, 0, 73, 0, 0, 0, 78, 0, 0, 0, 83, 0, 0, 0, 88, 0, 0, 0, 96, 0, 0, 0, 101, 0, 0, 0, 106, 0, 0, 0, 111, 0, 0, 0, 113, 0, 0, 0, 115]
abbrev dktX0_count_3 : List UInt8 := dkwX0_count_3 ++ dktX0_count_4
def dkwX0_count_2 : List UInt8 := [27]
abbrev dktX0_count_2 : List UInt8 := dkwX0_count_2 ++ dktX0_count_3
def dkwX0_count_1 : List UInt8 := [21, 4, 46, 96, 61, 29, 42, 180, 0, 49, 180, 0, 68, 21, 4, 46, 96, 62, 132, 4, 1, 167, 255, 218]
abbrev dktX0_count_1 : List UInt8 := dkwX0_count_1 ++ dktX0_count_2
def dkwX0_count_0 : List UInt8 := [3, 61, 3, 62, 3, 54, 4, 21, 4, 42, 180, 0, 180, 162, 0, 35, 28, 42, 180, 0, 49, 180, 0, 53]
abbrev dktX0_count_0 : List UInt8 := dkwX0_count_0 ++ dktX0_count_1
theorem dksX0_count_0 : cX0_count.data.toList.drop 0 = dktX0_count_0 := by decide +kernel
theorem dksX0_count_1 : cX0_count.data.toList.drop 24 = dktX0_count_1 := dk_seg dksX0_count_0 24 rfl rfl
theorem dksX0_count_2 : cX0_count.data.toList.drop 48 = dktX0_count_2 := dk_seg dksX0_count_1 24 rfl rfl
theorem dksX0_count_3 : cX0_count.data.toList.drop 49 = dktX0_count_3 := dk_seg dksX0_count_2 1 rfl rfl
theorem dksX0_count_4 : cX0_count.data.toList.drop 112 = dktX0_count_4 := dk_seg dksX0_count_3 63 rfl rfl
theorem dksX0_count_5 : cX0_count.data.toList.drop 136 = dktX0_count_5 := dk_seg dksX0_count_4 24 rfl rfl
theorem dksX0_count_6 : cX0_count.data.toList.drop 160 = dktX0_count_6 := dk_seg dksX0_count_5 24 rfl rfl
theorem dX0_count_0 : decode cX0_count 0 = .ok (.iconst 0, 1) := dk_3 (dk_at dksX0_count_0 0 rfl rfl)
theorem dX0_count_1 : decode cX0_count 1 = .ok (.istore_n 2, 1) := dk_61 (dk_at dksX0_count_0 1 rfl rfl)
theorem dX0_count_2 : decode cX0_count 2 = .ok (.iconst 0, 1) := dk_3 (dk_at dksX0_count_0 2 rfl rfl)
theorem dX0_count_3 : decode cX0_count 3 = .ok (.istore_n 3, 1) := dk_62 (dk_at dksX0_count_0 3 rfl rfl)
theorem dX0_count_4 : decode cX0_count 4 = .ok (.iconst 0, 1) := dk_3 (dk_at dksX0_count_0 4 rfl rfl)
theorem dX0_count_5 : decode cX0_count 5 = .ok (.istore 4, 2) := dk_54 4 (dk_at dksX0_count_0 5 rfl rfl)
theorem dX0_count_7 : decode cX0_count 7 = .ok (.iload 4, 2) := dk_21 4 (dk_at dksX0_count_0 7 rfl rfl)
theorem dX0_count_9 : decode cX0_count 9 = .ok (.aload_n 0, 1) := dk_42 (dk_at dksX0_count_0 9 rfl rfl)
theorem dX0_count_10 : decode cX0_count 10 = .ok (.getfield 180, 3) := dk_180 0 180 (dk_at dksX0_count_0 10 rfl rfl)
theorem dX0_count_13 : decode cX0_count 13 = .ok (.if_icmp .ge 35, 3) := dk_162 0 35 (dk_at dksX0_count_0 13 rfl rfl)
theorem dX0_count_16 : decode cX0_count 16 = .ok (.iload_n 2, 1) := dk_28 (dk_at dksX0_count_0 16 rfl rfl)
theorem dX0_count_17 : decode cX0_count 17 = .ok (.aload_n 0, 1) := dk_42 (dk_at dksX0_count_0 17 rfl rfl)
theorem dX0_count_18 : decode cX0_count 18 = .ok (.getfield 49, 3) := dk_180 0 49 (dk_at dksX0_count_0 18 rfl rfl)
theorem dX0_count_21 : decode cX0_count 21 = .ok (.getfield 53, 3) := dk_180 0 53 (dk_at dksX0_count_0 21 rfl rfl)
theorem dX0_count_24 : decode cX0_count 24 = .ok (.iload 4, 2) := dk_21 4 (dk_at dksX0_count_1 0 rfl rfl)
theorem dX0_count_26 : decode cX0_count 26 = .ok (.iaload, 1) := dk_46 (dk_at dksX0_count_1 2 rfl rfl)
theorem dX0_count_27 : decode cX0_count 27 = .ok (.iadd, 1) := dk_96 (dk_at dksX0_count_1 3 rfl rfl)
theorem dX0_count_28 : decode cX0_count 28 = .ok (.istore_n 2, 1) := dk_61 (dk_at dksX0_count_1 4 rfl rfl)
theorem dX0_count_29 : decode cX0_count 29 = .ok (.iload_n 3, 1) := dk_29 (dk_at dksX0_count_1 5 rfl rfl)
theorem dX0_count_30 : decode cX0_count 30 = .ok (.aload_n 0, 1) := dk_42 (dk_at dksX0_count_1 6 rfl rfl)
theorem dX0_count_31 : decode cX0_count 31 = .ok (.getfield 49, 3) := dk_180 0 49 (dk_at dksX0_count_1 7 rfl rfl)
theorem dX0_count_34 : decode cX0_count 34 = .ok (.getfield 68, 3) := dk_180 0 68 (dk_at dksX0_count_1 10 rfl rfl)
theorem dX0_count_37 : decode cX0_count 37 = .ok (.iload 4, 2) := dk_21 4 (dk_at dksX0_count_1 13 rfl rfl)
theorem dX0_count_39 : decode cX0_count 39 = .ok (.iaload, 1) := dk_46 (dk_at dksX0_count_1 15 rfl rfl)
theorem dX0_count_40 : decode cX0_count 40 = .ok (.iadd, 1) := dk_96 (dk_at dksX0_count_1 16 rfl rfl)
theorem dX0_count_41 : decode cX0_count 41 = .ok (.istore_n 3, 1) := dk_62 (dk_at dksX0_count_1 17 rfl rfl)
theorem dX0_count_42 : decode cX0_count 42 = .ok (.iinc 4 1, 3) := dk_132 4 1 (dk_at dksX0_count_1 18 rfl rfl)
theorem dX0_count_45 : decode cX0_count 45 = .ok (.goto (-38), 3) := dk_167 255 218 (dk_at dksX0_count_1 21 rfl rfl)
theorem dX0_count_48 : decode cX0_count 48 = .ok (.iload_n 1, 1) := dk_27 (dk_at dksX0_count_2 0 rfl rfl)
theorem dX0_count_49 : decode cX0_count 49 = .ok (.tableswitch 120 0 11 #[63, 68, 73, 78, 83, 88, 96, 101, 106, 111, 113, 115], 63) := by decide +kernel
theorem dX0_count_112 : decode cX0_count 112 = .ok (.aload_n 0, 1) := dk_42 (dk_at dksX0_count_4 0 rfl rfl)
theorem dX0_count_113 : decode cX0_count 113 = .ok (.getfield 174, 3) := dk_180 0 174 (dk_at dksX0_count_4 1 rfl rfl)
theorem dX0_count_116 : decode cX0_count 116 = .ok (.ireturn, 1) := dk_172 (dk_at dksX0_count_4 4 rfl rfl)
theorem dX0_count_117 : decode cX0_count 117 = .ok (.aload_n 0, 1) := dk_42 (dk_at dksX0_count_4 5 rfl rfl)
theorem dX0_count_118 : decode cX0_count 118 = .ok (.getfield 180, 3) := dk_180 0 180 (dk_at dksX0_count_4 6 rfl rfl)
theorem dX0_count_121 : decode cX0_count 121 = .ok (.ireturn, 1) := dk_172 (dk_at dksX0_count_4 9 rfl rfl)
theorem dX0_count_122 : decode cX0_count 122 = .ok (.aload_n 0, 1) := dk_42 (dk_at dksX0_count_4 10 rfl rfl)
theorem dX0_count_123 : decode cX0_count 123 = .ok (.getfield 37, 3) := dk_180 0 37 (dk_at dksX0_count_4 11 rfl rfl)
theorem dX0_count_126 : decode cX0_count 126 = .ok (.ireturn, 1) := dk_172 (dk_at dksX0_count_4 14 rfl rfl)
theorem dX0_count_127 : decode cX0_count 127 = .ok (.aload_n 0, 1) := dk_42 (dk_at dksX0_count_4 15 rfl rfl)
theorem dX0_count_128 : decode cX0_count 128 = .ok (.getfield 59, 3) := dk_180 0 59 (dk_at dksX0_count_4 16 rfl rfl)
theorem dX0_count_131 : decode cX0_count 131 = .ok (.ireturn, 1) := dk_172 (dk_at dksX0_count_4 19 rfl rfl)
theorem dX0_count_132 : decode cX0_count 132 = .ok (.aload_n 0, 1) := dk_42 (dk_at dksX0_count_4 20 rfl rfl)
theorem dX0_count_133 : decode cX0_count 133 = .ok (.getfield 129, 3) := dk_180 0 129 (dk_at dksX0_count_4 21 rfl rfl)
theorem dX0_count_136 : decode cX0_count 136 = .ok (.ireturn, 1) := dk_172 (dk_at dksX0_count_5 0 rfl rfl)
theorem dX0_count_137 : decode cX0_count 137 = .ok (.aload_n 0, 1) := dk_42 (dk_at dksX0_count_5 1 rfl rfl)
theorem dX0_count_138 : decode cX0_count 138 = .ok (.getfield 49, 3) := dk_180 0 49 (dk_at dksX0_count_5 2 rfl rfl)
theorem dX0_count_141 : decode cX0_count 141 = .ok (.getfield 83, 3) := dk_180 0 83 (dk_at dksX0_count_5 5 rfl rfl)
theorem dX0_count_144 : decode cX0_count 144 = .ok (.ireturn, 1) := dk_172 (dk_at dksX0_count_5 8 rfl rfl)
theorem dX0_count_145 : decode cX0_count 145 = .ok (.aload_n 0, 1) := dk_42 (dk_at dksX0_count_5 9 rfl rfl)
theorem dX0_count_146 : decode cX0_count 146 = .ok (.getfield 89, 3) := dk_180 0 89 (dk_at dksX0_count_5 10 rfl rfl)
theorem dX0_count_149 : decode cX0_count 149 = .ok (.ireturn, 1) := dk_172 (dk_at dksX0_count_5 13 rfl rfl)
theorem dX0_count_150 : decode cX0_count 150 = .ok (.aload_n 0, 1) := dk_42 (dk_at dksX0_count_5 14 rfl rfl)
theorem dX0_count_151 : decode cX0_count 151 = .ok (.getfield 92, 3) := dk_180 0 92 (dk_at dksX0_count_5 15 rfl rfl)
theorem dX0_count_154 : decode cX0_count 154 = .ok (.ireturn, 1) := dk_172 (dk_at dksX0_count_5 18 rfl rfl)
theorem dX0_count_155 : decode cX0_count 155 = .ok (.aload_n 0, 1) := dk_42 (dk_at dksX0_count_5 19 rfl rfl)
theorem dX0_count_156 : decode cX0_count 156 = .ok (.getfield 86, 3) := dk_180 0 86 (dk_at dksX0_count_5 20 rfl rfl)
theorem dX0_count_159 : decode cX0_count 159 = .ok (.ireturn, 1) := dk_172 (dk_at dksX0_count_5 23 rfl rfl)
theorem dX0_count_160 : decode cX0_count 160 = .ok (.iload_n 2, 1) := dk_28 (dk_at dksX0_count_6 0 rfl rfl)
theorem dX0_count_161 : decode cX0_count 161 = .ok (.ireturn, 1) := dk_172 (dk_at dksX0_count_6 1 rfl rfl)
theorem dX0_count_162 : decode cX0_count 162 = .ok (.iload_n 3, 1) := dk_29 (dk_at dksX0_count_6 2 rfl rfl)
theorem dX0_count_163 : decode cX0_count 163 = .ok (.ireturn, 1) := dk_172 (dk_at dksX0_count_6 3 rfl rfl)
theorem dX0_count_164 : decode cX0_count 164 = .ok (.aload_n 0, 1) := dk_42 (dk_at dksX0_count_6 4 rfl rfl)
theorem dX0_count_165 : decode cX0_count 165 = .ok (.getfield 220, 3) := dk_180 0 220 (dk_at dksX0_count_6 5 rfl rfl)
theorem dX0_count_168 : decode cX0_count 168 = .ok (.ireturn, 1) := dk_172 (dk_at dksX0_count_6 8 rfl rfl)
theorem dX0_count_169 : decode cX0_count 169 = .ok (.bipush (-3), 2) := dk_16 253 (dk_at dksX0_count_6 9 rfl rfl)
theorem dX0_count_171 : decode cX0_count 171 = .ok (.ireturn, 1) := dk_172 (dk_at dksX0_count_6 11 rfl rfl)
theorem q78 : (Jvm.Cond.initialized "AdjectiveCoupons") ∈ lw_all := lw_g (lw_at lw_m1 1 rfl) rfl
theorem q110 : (Jvm.Cond.instantiable "AdjectiveCoupons" (24 : Nat)) ∈ lw_all := lw_g (lw_at lw_m1 33 rfl) rfl
theorem q112 : (Jvm.Cond.instanceMethod ({ cls := "AdjectiveCoupons", name := "<init>", desc := "()V" } : Jvm.MethodName)) ∈ lw_all := lw_g (lw_at lw_m1 35 rfl) rfl
theorem q113 : (Jvm.Cond.code ({ cls := "AdjectiveCoupons", name := "<init>", desc := "()V" } : Jvm.MethodName) prog_1_method_18_code (1 : Nat) (Option.none : Option Jvm.ClassFile.FieldType)) ∈ lw_all := lw_g (lw_at lw_m1 36 rfl) rfl
theorem q114 : (Jvm.Cond.methodLink "AdjectiveCoupons" (191 : Nat) ({ cls := "java/lang/Object", name := "<init>", desc := "()V" } : Jvm.MethodName)) ∈ lw_all := lw_g (lw_at lw_m1 37 rfl) rfl
theorem q117 : (Jvm.Cond.classLink "AdjectiveCoupons" (192 : Nat) "java/lang/Object") ∈ lw_all := lw_g (lw_at lw_m1 40 rfl) rfl
theorem q119 : (Jvm.Cond.classLink "AdjectiveCoupons" (194 : Nat) "[I") ∈ lw_all := lw_g (lw_at lw_m1 42 rfl) rfl
theorem q121 : (Jvm.Cond.classLink "AdjectiveCoupons" (54 : Nat) "AdjectiveCoupons$State") ∈ lw_all := lw_g (lw_at lw_m1 44 rfl) rfl
theorem q123 : (Jvm.Cond.methodLinkNest "AdjectiveCoupons" (108 : Nat) ({ cls := "AdjectiveCoupons$State", name := "<init>", desc := "()V" } : Jvm.MethodName) "AdjectiveCoupons") ∈ lw_tbl := lw_at lw_m1 46 rfl
theorem q129 : (Jvm.Cond.fieldLink "AdjectiveCoupons" (53 : Nat) "AdjectiveCoupons$State" "halves" "[I") ∈ lw_all := lw_g (lw_at lw_m1 52 rfl) rfl
theorem q131 : (Jvm.Cond.fieldLink "AdjectiveCoupons" (68 : Nat) "AdjectiveCoupons$State" "loaves" "[I") ∈ lw_all := lw_g (lw_at lw_m1 54 rfl) rfl
theorem q133 : (Jvm.Cond.fieldLink "AdjectiveCoupons" (71 : Nat) "AdjectiveCoupons$State" "fined" "[I") ∈ lw_all := lw_g (lw_at lw_m1 56 rfl) rfl
theorem q135 : (Jvm.Cond.fieldLink "AdjectiveCoupons" (74 : Nat) "AdjectiveCoupons$State" "worth" "[I") ∈ lw_all := lw_g (lw_at lw_m1 58 rfl) rfl
theorem q137 : (Jvm.Cond.fieldLink "AdjectiveCoupons" (77 : Nat) "AdjectiveCoupons$State" "said" "[[I") ∈ lw_all := lw_g (lw_at lw_m1 60 rfl) rfl
theorem q139 : (Jvm.Cond.fieldLink "AdjectiveCoupons" (80 : Nat) "AdjectiveCoupons$State" "owes" "[[I") ∈ lw_all := lw_g (lw_at lw_m1 62 rfl) rfl
theorem q141 : (Jvm.Cond.fieldLink "AdjectiveCoupons" (83 : Nat) "AdjectiveCoupons$State" "week" "I") ∈ lw_all := lw_g (lw_at lw_m1 64 rfl) rfl
theorem q159 : (Jvm.Cond.methodLink "AdjectiveCoupons" (208 : Nat) ({ cls := "AdjectiveCoupons", name := "begin", desc := "()V" } : Jvm.MethodName)) ∈ lw_all := lw_g (lw_at lw_m1 82 rfl) rfl
theorem q160 : (Jvm.Cond.privateMethod ({ cls := "AdjectiveCoupons", name := "begin", desc := "()V" } : Jvm.MethodName)) ∈ lw_tbl := lw_at lw_m1 83 rfl
theorem q161 : (Jvm.Cond.instanceMethod ({ cls := "AdjectiveCoupons", name := "begin", desc := "()V" } : Jvm.MethodName)) ∈ lw_all := lw_g (lw_at lw_m1 84 rfl) rfl
theorem q162 : (Jvm.Cond.code ({ cls := "AdjectiveCoupons", name := "begin", desc := "()V" } : Jvm.MethodName) prog_1_method_8_code (2 : Nat) (Option.none : Option Jvm.ClassFile.FieldType)) ∈ lw_all := lw_g (lw_at lw_m1 85 rfl) rfl
theorem q163 : (Jvm.Cond.methodLink "AdjectiveCoupons" (62 : Nat) ({ cls := "java/util/Arrays", name := "fill", desc := "([II)V" } : Jvm.MethodName)) ∈ lw_all := lw_g (lw_at lw_m1 86 rfl) rfl
theorem q166 : (Jvm.Cond.fieldLink "AdjectiveCoupons" (18 : Nat) "AdjectiveCoupons" "words" "[Ljava/lang/Object;") ∈ lw_all := lw_g (lw_at lw_m1 89 rfl) rfl
theorem q168 : (Jvm.Cond.fieldLink "AdjectiveCoupons" (174 : Nat) "AdjectiveCoupons" "wordMany" "I") ∈ lw_all := lw_g (lw_at lw_m1 91 rfl) rfl
theorem q169 : (Jvm.Cond.fieldLink "AdjectiveCoupons" (41 : Nat) "AdjectiveCoupons" "changes" "[[I") ∈ lw_all := lw_g (lw_at lw_m1 92 rfl) rfl
theorem q171 : (Jvm.Cond.fieldLink "AdjectiveCoupons" (37 : Nat) "AdjectiveCoupons" "changeMany" "I") ∈ lw_all := lw_g (lw_at lw_m1 94 rfl) rfl
theorem q172 : (Jvm.Cond.fieldLink "AdjectiveCoupons" (26 : Nat) "AdjectiveCoupons" "people" "[Ljava/lang/Object;") ∈ lw_all := lw_g (lw_at lw_m1 95 rfl) rfl
theorem q174 : (Jvm.Cond.fieldLink "AdjectiveCoupons" (180 : Nat) "AdjectiveCoupons" "peopleMany" "I") ∈ lw_all := lw_g (lw_at lw_m1 97 rfl) rfl
theorem q175 : (Jvm.Cond.fieldLink "AdjectiveCoupons" (59 : Nat) "AdjectiveCoupons" "ration" "I") ∈ lw_all := lw_g (lw_at lw_m1 98 rfl) rfl
theorem q176 : (Jvm.Cond.fieldLink "AdjectiveCoupons" (129 : Nat) "AdjectiveCoupons" "rules" "I") ∈ lw_all := lw_g (lw_at lw_m1 99 rfl) rfl
theorem q177 : (Jvm.Cond.fieldLink "AdjectiveCoupons" (49 : Nat) "AdjectiveCoupons" "now" "LAdjectiveCoupons$State;") ∈ lw_all := lw_g (lw_at lw_m1 100 rfl) rfl
theorem q178 : (Jvm.Cond.fieldLink "AdjectiveCoupons" (95 : Nat) "AdjectiveCoupons" "kept" "[LAdjectiveCoupons$State;") ∈ lw_all := lw_g (lw_at lw_m1 101 rfl) rfl
theorem q179 : (Jvm.Cond.fieldLink "AdjectiveCoupons" (99 : Nat) "AdjectiveCoupons" "backs" "[LAdjectiveCoupons$State;") ∈ lw_all := lw_g (lw_at lw_m1 102 rfl) rfl
theorem q180 : (Jvm.Cond.fieldLink "AdjectiveCoupons" (86 : Nat) "AdjectiveCoupons" "backMany" "I") ∈ lw_all := lw_g (lw_at lw_m1 103 rfl) rfl
theorem q181 : (Jvm.Cond.fieldLink "AdjectiveCoupons" (171 : Nat) "AdjectiveCoupons" "line" "[I") ∈ lw_all := lw_g (lw_at lw_m1 104 rfl) rfl
theorem q182 : (Jvm.Cond.fieldLink "AdjectiveCoupons" (89 : Nat) "AdjectiveCoupons" "lineMany" "I") ∈ lw_all := lw_g (lw_at lw_m1 105 rfl) rfl
theorem q183 : (Jvm.Cond.fieldLink "AdjectiveCoupons" (195 : Nat) "AdjectiveCoupons" "drafts" "[[I") ∈ lw_all := lw_g (lw_at lw_m1 106 rfl) rfl
theorem q184 : (Jvm.Cond.fieldLink "AdjectiveCoupons" (92 : Nat) "AdjectiveCoupons" "draftMany" "I") ∈ lw_all := lw_g (lw_at lw_m1 107 rfl) rfl
theorem q185 : (Jvm.Cond.fieldLink "AdjectiveCoupons" (141 : Nat) "AdjectiveCoupons" "costs" "[I") ∈ lw_all := lw_g (lw_at lw_m1 108 rfl) rfl
theorem q186 : (Jvm.Cond.fieldLink "AdjectiveCoupons" (143 : Nat) "AdjectiveCoupons" "colours" "[Z") ∈ lw_all := lw_g (lw_at lw_m1 109 rfl) rfl
theorem q188 : (Jvm.Cond.fieldLink "AdjectiveCoupons" (198 : Nat) "AdjectiveCoupons" "text" "[B") ∈ lw_all := lw_g (lw_at lw_m1 111 rfl) rfl
theorem q190 : (Jvm.Cond.fieldLink "AdjectiveCoupons" (220 : Nat) "AdjectiveCoupons" "letters" "I") ∈ lw_all := lw_g (lw_at lw_m1 113 rfl) rfl
theorem q191 : (Jvm.Cond.fieldLink "AdjectiveCoupons" (202 : Nat) "AdjectiveCoupons" "order" "[I") ∈ lw_all := lw_g (lw_at lw_m1 114 rfl) rfl
theorem q192 : (Jvm.Cond.fieldLink "AdjectiveCoupons" (205 : Nat) "AdjectiveCoupons" "cheapest" "[I") ∈ lw_all := lw_g (lw_at lw_m1 115 rfl) rfl
theorem q193 : (Jvm.Cond.fieldLink "AdjectiveCoupons" (315 : Nat) "AdjectiveCoupons" "leastCost" "I") ∈ lw_all := lw_g (lw_at lw_m1 116 rfl) rfl
theorem q194 : (Jvm.Cond.fieldLink "AdjectiveCoupons" (318 : Nat) "AdjectiveCoupons" "mostCost" "I") ∈ lw_all := lw_g (lw_at lw_m1 117 rfl) rfl
theorem q195 : (Jvm.Cond.laysFinal "AdjectiveCoupons" "AdjectiveCoupons" "words" "[Ljava/lang/Object;") ∈ lw_all := lw_g (lw_at lw_m1 118 rfl) rfl
theorem q196 : (Jvm.Cond.soleField "AdjectiveCoupons" "words") ∈ lw_all := lw_g (lw_at lw_m1 119 rfl) rfl
theorem q197 : (Jvm.Cond.lays "AdjectiveCoupons" "AdjectiveCoupons" "wordMany" "I") ∈ lw_all := lw_g (lw_at lw_m1 120 rfl) rfl
theorem q198 : (Jvm.Cond.soleField "AdjectiveCoupons" "wordMany") ∈ lw_all := lw_g (lw_at lw_m1 121 rfl) rfl
theorem q199 : (Jvm.Cond.laysFinal "AdjectiveCoupons" "AdjectiveCoupons" "changes" "[[I") ∈ lw_all := lw_g (lw_at lw_m1 122 rfl) rfl
theorem q200 : (Jvm.Cond.soleField "AdjectiveCoupons" "changes") ∈ lw_all := lw_g (lw_at lw_m1 123 rfl) rfl
theorem q201 : (Jvm.Cond.lays "AdjectiveCoupons" "AdjectiveCoupons" "changeMany" "I") ∈ lw_all := lw_g (lw_at lw_m1 124 rfl) rfl
theorem q202 : (Jvm.Cond.soleField "AdjectiveCoupons" "changeMany") ∈ lw_all := lw_g (lw_at lw_m1 125 rfl) rfl
theorem q203 : (Jvm.Cond.laysFinal "AdjectiveCoupons" "AdjectiveCoupons" "people" "[Ljava/lang/Object;") ∈ lw_all := lw_g (lw_at lw_m1 126 rfl) rfl
theorem q204 : (Jvm.Cond.soleField "AdjectiveCoupons" "people") ∈ lw_all := lw_g (lw_at lw_m1 127 rfl) rfl
theorem q205 : (Jvm.Cond.lays "AdjectiveCoupons" "AdjectiveCoupons" "peopleMany" "I") ∈ lw_all := lw_g (lw_at lw_m1 128 rfl) rfl
theorem q206 : (Jvm.Cond.soleField "AdjectiveCoupons" "peopleMany") ∈ lw_all := lw_g (lw_at lw_m1 129 rfl) rfl
theorem q207 : (Jvm.Cond.lays "AdjectiveCoupons" "AdjectiveCoupons" "ration" "I") ∈ lw_all := lw_g (lw_at lw_m1 130 rfl) rfl
theorem q208 : (Jvm.Cond.soleField "AdjectiveCoupons" "ration") ∈ lw_all := lw_g (lw_at lw_m1 131 rfl) rfl
theorem q209 : (Jvm.Cond.lays "AdjectiveCoupons" "AdjectiveCoupons" "rules" "I") ∈ lw_all := lw_g (lw_at lw_m1 132 rfl) rfl
theorem q210 : (Jvm.Cond.soleField "AdjectiveCoupons" "rules") ∈ lw_all := lw_g (lw_at lw_m1 133 rfl) rfl
theorem q211 : (Jvm.Cond.laysFinal "AdjectiveCoupons" "AdjectiveCoupons" "now" "LAdjectiveCoupons$State;") ∈ lw_all := lw_g (lw_at lw_m1 134 rfl) rfl
theorem q212 : (Jvm.Cond.soleField "AdjectiveCoupons" "now") ∈ lw_all := lw_g (lw_at lw_m1 135 rfl) rfl
theorem q213 : (Jvm.Cond.laysFinal "AdjectiveCoupons" "AdjectiveCoupons" "kept" "[LAdjectiveCoupons$State;") ∈ lw_all := lw_g (lw_at lw_m1 136 rfl) rfl
theorem q214 : (Jvm.Cond.soleField "AdjectiveCoupons" "kept") ∈ lw_all := lw_g (lw_at lw_m1 137 rfl) rfl
theorem q215 : (Jvm.Cond.laysFinal "AdjectiveCoupons" "AdjectiveCoupons" "backs" "[LAdjectiveCoupons$State;") ∈ lw_all := lw_g (lw_at lw_m1 138 rfl) rfl
theorem q216 : (Jvm.Cond.soleField "AdjectiveCoupons" "backs") ∈ lw_all := lw_g (lw_at lw_m1 139 rfl) rfl
theorem q217 : (Jvm.Cond.lays "AdjectiveCoupons" "AdjectiveCoupons" "backMany" "I") ∈ lw_all := lw_g (lw_at lw_m1 140 rfl) rfl
theorem q218 : (Jvm.Cond.soleField "AdjectiveCoupons" "backMany") ∈ lw_all := lw_g (lw_at lw_m1 141 rfl) rfl
theorem q219 : (Jvm.Cond.laysFinal "AdjectiveCoupons" "AdjectiveCoupons" "line" "[I") ∈ lw_all := lw_g (lw_at lw_m1 142 rfl) rfl
theorem q220 : (Jvm.Cond.soleField "AdjectiveCoupons" "line") ∈ lw_all := lw_g (lw_at lw_m1 143 rfl) rfl
theorem q221 : (Jvm.Cond.lays "AdjectiveCoupons" "AdjectiveCoupons" "lineMany" "I") ∈ lw_all := lw_g (lw_at lw_m1 144 rfl) rfl
theorem q222 : (Jvm.Cond.soleField "AdjectiveCoupons" "lineMany") ∈ lw_all := lw_g (lw_at lw_m1 145 rfl) rfl
theorem q223 : (Jvm.Cond.laysFinal "AdjectiveCoupons" "AdjectiveCoupons" "drafts" "[[I") ∈ lw_all := lw_g (lw_at lw_m1 146 rfl) rfl
theorem q224 : (Jvm.Cond.soleField "AdjectiveCoupons" "drafts") ∈ lw_all := lw_g (lw_at lw_m1 147 rfl) rfl
theorem q225 : (Jvm.Cond.lays "AdjectiveCoupons" "AdjectiveCoupons" "draftMany" "I") ∈ lw_all := lw_g (lw_at lw_m1 148 rfl) rfl
theorem q226 : (Jvm.Cond.soleField "AdjectiveCoupons" "draftMany") ∈ lw_all := lw_g (lw_at lw_m1 149 rfl) rfl
theorem q227 : (Jvm.Cond.laysFinal "AdjectiveCoupons" "AdjectiveCoupons" "costs" "[I") ∈ lw_all := lw_g (lw_at lw_m1 150 rfl) rfl
theorem q228 : (Jvm.Cond.soleField "AdjectiveCoupons" "costs") ∈ lw_all := lw_g (lw_at lw_m1 151 rfl) rfl
theorem q229 : (Jvm.Cond.laysFinal "AdjectiveCoupons" "AdjectiveCoupons" "colours" "[Z") ∈ lw_all := lw_g (lw_at lw_m1 152 rfl) rfl
theorem q230 : (Jvm.Cond.soleField "AdjectiveCoupons" "colours") ∈ lw_all := lw_g (lw_at lw_m1 153 rfl) rfl
theorem q231 : (Jvm.Cond.laysFinal "AdjectiveCoupons" "AdjectiveCoupons" "text" "[B") ∈ lw_all := lw_g (lw_at lw_m1 154 rfl) rfl
theorem q232 : (Jvm.Cond.soleField "AdjectiveCoupons" "text") ∈ lw_all := lw_g (lw_at lw_m1 155 rfl) rfl
theorem q233 : (Jvm.Cond.lays "AdjectiveCoupons" "AdjectiveCoupons" "letters" "I") ∈ lw_all := lw_g (lw_at lw_m1 156 rfl) rfl
theorem q234 : (Jvm.Cond.soleField "AdjectiveCoupons" "letters") ∈ lw_all := lw_g (lw_at lw_m1 157 rfl) rfl
theorem q235 : (Jvm.Cond.laysFinal "AdjectiveCoupons" "AdjectiveCoupons" "order" "[I") ∈ lw_all := lw_g (lw_at lw_m1 158 rfl) rfl
theorem q236 : (Jvm.Cond.soleField "AdjectiveCoupons" "order") ∈ lw_all := lw_g (lw_at lw_m1 159 rfl) rfl
theorem q237 : (Jvm.Cond.laysFinal "AdjectiveCoupons" "AdjectiveCoupons" "cheapest" "[I") ∈ lw_all := lw_g (lw_at lw_m1 160 rfl) rfl
theorem q238 : (Jvm.Cond.soleField "AdjectiveCoupons" "cheapest") ∈ lw_all := lw_g (lw_at lw_m1 161 rfl) rfl
theorem q239 : (Jvm.Cond.lays "AdjectiveCoupons" "AdjectiveCoupons" "leastCost" "I") ∈ lw_all := lw_g (lw_at lw_m1 162 rfl) rfl
theorem q240 : (Jvm.Cond.soleField "AdjectiveCoupons" "leastCost") ∈ lw_all := lw_g (lw_at lw_m1 163 rfl) rfl
theorem q241 : (Jvm.Cond.lays "AdjectiveCoupons" "AdjectiveCoupons" "mostCost" "I") ∈ lw_all := lw_g (lw_at lw_m1 164 rfl) rfl
theorem q242 : (Jvm.Cond.soleField "AdjectiveCoupons" "mostCost") ∈ lw_all := lw_g (lw_at lw_m1 165 rfl) rfl
theorem q243 : (Jvm.Cond.superclass "AdjectiveCoupons" "java/lang/Object") ∈ lw_all := lw_g (lw_at lw_m1 166 rfl) rfl
theorem q247 : (Jvm.Cond.instanceMethod ({ cls := "AdjectiveCoupons", name := "write", desc := "(I)I" } : Jvm.MethodName)) ∈ lw_all := lw_g (lw_at lw_m1 170 rfl) rfl
theorem q248 : (Jvm.Cond.selects "AdjectiveCoupons" ({ cls := "AdjectiveCoupons", name := "write", desc := "(I)I" } : Jvm.MethodName) ({ cls := "AdjectiveCoupons", name := "write", desc := "(I)I" } : Jvm.MethodName)) ∈ lw_all := lw_g (lw_at lw_m1 171 rfl) rfl
theorem q249 : (Jvm.Cond.code ({ cls := "AdjectiveCoupons", name := "write", desc := "(I)I" } : Jvm.MethodName) prog_1_method_22_code (2 : Nat) (Option.some Jvm.ClassFile.FieldType.int)) ∈ lw_all := lw_g (lw_at lw_m1 172 rfl) rfl
theorem q250 : (Jvm.Cond.constantLong "AdjectiveCoupons" (218 : Nat) (255 : Int64)) ∈ lw_all := lw_g (lw_at lw_m1 173 rfl) rfl
theorem q251 : (Jvm.Cond.methodLink "AdjectiveCoupons" (211 : Nat) ({ cls := "AdjectiveCoupons", name := "in", desc := "(JJJ)Z" } : Jvm.MethodName)) ∈ lw_all := lw_g (lw_at lw_m1 174 rfl) rfl
theorem q252 : (Jvm.Cond.static ({ cls := "AdjectiveCoupons", name := "in", desc := "(JJJ)Z" } : Jvm.MethodName)) ∈ lw_all := lw_g (lw_at lw_m1 175 rfl) rfl
theorem q253 : (Jvm.Cond.code ({ cls := "AdjectiveCoupons", name := "in", desc := "(JJJ)Z" } : Jvm.MethodName) prog_1_method_1_code (6 : Nat) (Option.some Jvm.ClassFile.FieldType.boolean)) ∈ lw_all := lw_g (lw_at lw_m1 176 rfl) rfl
theorem q255 : (Jvm.Cond.instanceMethod ({ cls := "AdjectiveCoupons", name := "erase", desc := "()I" } : Jvm.MethodName)) ∈ lw_all := lw_g (lw_at lw_m1 178 rfl) rfl
theorem q256 : (Jvm.Cond.selects "AdjectiveCoupons" ({ cls := "AdjectiveCoupons", name := "erase", desc := "()I" } : Jvm.MethodName) ({ cls := "AdjectiveCoupons", name := "erase", desc := "()I" } : Jvm.MethodName)) ∈ lw_all := lw_g (lw_at lw_m1 179 rfl) rfl
theorem q257 : (Jvm.Cond.code ({ cls := "AdjectiveCoupons", name := "erase", desc := "()I" } : Jvm.MethodName) prog_1_method_23_code (2 : Nat) (Option.some Jvm.ClassFile.FieldType.int)) ∈ lw_all := lw_g (lw_at lw_m1 180 rfl) rfl
theorem q259 : (Jvm.Cond.instanceMethod ({ cls := "AdjectiveCoupons", name := "fault", desc := "()I" } : Jvm.MethodName)) ∈ lw_all := lw_g (lw_at lw_m1 182 rfl) rfl
theorem q260 : (Jvm.Cond.selects "AdjectiveCoupons" ({ cls := "AdjectiveCoupons", name := "fault", desc := "()I" } : Jvm.MethodName) ({ cls := "AdjectiveCoupons", name := "fault", desc := "()I" } : Jvm.MethodName)) ∈ lw_all := lw_g (lw_at lw_m1 183 rfl) rfl
theorem q261 : (Jvm.Cond.codeWith ({ cls := "AdjectiveCoupons", name := "fault", desc := "()I" } : Jvm.MethodName) prog_1_method_24_code (2 : Nat) (Option.some Jvm.ClassFile.FieldType.int) [((0 : Nat), (13 : Nat), (14 : Nat), (232 : Nat))]) ∈ lw_all := lw_g (lw_at lw_m1 184 rfl) rfl
theorem q262 : (Jvm.Cond.classLink "AdjectiveCoupons" (232 : Nat) "AdjectiveCoupons$Fault") ∈ lw_all := lw_g (lw_at lw_m1 185 rfl) rfl
theorem q263 : (Jvm.Cond.classLink "AdjectiveCoupons" (223 : Nat) "AdjectiveCoupons$Reader") ∈ lw_all := lw_g (lw_at lw_m1 186 rfl) rfl
theorem q265 : (Jvm.Cond.methodLinkNest "AdjectiveCoupons" (225 : Nat) ({ cls := "AdjectiveCoupons$Reader", name := "<init>", desc := "(LAdjectiveCoupons;)V" } : Jvm.MethodName) "AdjectiveCoupons") ∈ lw_tbl := lw_at lw_m1 188 rfl
theorem q278 : (Jvm.Cond.fieldLink "AdjectiveCoupons" (239 : Nat) "AdjectiveCoupons$Reader" "clauses" "[[I") ∈ lw_all := lw_g (lw_at lw_m1 201 rfl) rfl
theorem q280 : (Jvm.Cond.fieldLink "AdjectiveCoupons" (237 : Nat) "AdjectiveCoupons$Reader" "read" "I") ∈ lw_all := lw_g (lw_at lw_m1 203 rfl) rfl
theorem q301 : (Jvm.Cond.methodLink "AdjectiveCoupons" (228 : Nat) ({ cls := "AdjectiveCoupons$Reader", name := "read", desc := "()LAdjectiveCoupons$Reader;" } : Jvm.MethodName)) ∈ lw_all := lw_g (lw_at lw_m1 224 rfl) rfl
theorem q510 : (Jvm.Cond.laysStatic "AdjectiveCoupons" "HEADS" "[Ljava/lang/String;") ∈ lw_tbl := lw_at lw_m2 193 rfl
theorem q585 : (Jvm.Cond.fieldLink "AdjectiveCoupons" (234 : Nat) "AdjectiveCoupons$Fault" "at" "I") ∈ lw_all := lw_g (lw_at lw_m3 28 rfl) rfl
theorem q663 : (Jvm.Cond.instanceMethod ({ cls := "AdjectiveCoupons", name := "realm", desc := "()I" } : Jvm.MethodName)) ∈ lw_all := lw_g (lw_at lw_m3 106 rfl) rfl
theorem q664 : (Jvm.Cond.selects "AdjectiveCoupons" ({ cls := "AdjectiveCoupons", name := "realm", desc := "()I" } : Jvm.MethodName) ({ cls := "AdjectiveCoupons", name := "realm", desc := "()I" } : Jvm.MethodName)) ∈ lw_all := lw_g (lw_at lw_m3 107 rfl) rfl
theorem q665 : (Jvm.Cond.codeWith ({ cls := "AdjectiveCoupons", name := "realm", desc := "()I" } : Jvm.MethodName) prog_1_method_25_code (3 : Nat) (Option.some Jvm.ClassFile.FieldType.int) [((9 : Nat), (14 : Nat), (17 : Nat), (232 : Nat))]) ∈ lw_all := lw_g (lw_at lw_m3 108 rfl) rfl
theorem q666 : (Jvm.Cond.methodLink "AdjectiveCoupons" (242 : Nat) ({ cls := "AdjectiveCoupons", name := "tell", desc := "([I)V" } : Jvm.MethodName)) ∈ lw_all := lw_g (lw_at lw_m3 109 rfl) rfl
theorem q667 : (Jvm.Cond.privateMethod ({ cls := "AdjectiveCoupons", name := "tell", desc := "([I)V" } : Jvm.MethodName)) ∈ lw_tbl := lw_at lw_m3 110 rfl
theorem q668 : (Jvm.Cond.instanceMethod ({ cls := "AdjectiveCoupons", name := "tell", desc := "([I)V" } : Jvm.MethodName)) ∈ lw_all := lw_g (lw_at lw_m3 111 rfl) rfl
theorem q669 : (Jvm.Cond.code ({ cls := "AdjectiveCoupons", name := "tell", desc := "([I)V" } : Jvm.MethodName) prog_1_method_17_code (3 : Nat) (Option.none : Option Jvm.ClassFile.FieldType)) ∈ lw_all := lw_g (lw_at lw_m3 112 rfl) rfl
theorem q670 : (Jvm.Cond.classLink "AdjectiveCoupons" (24 : Nat) "AdjectiveCoupons$Word") ∈ lw_all := lw_g (lw_at lw_m3 113 rfl) rfl
theorem q672 : (Jvm.Cond.methodLink "AdjectiveCoupons" (177 : Nat) ({ cls := "AdjectiveCoupons$Word", name := "<init>", desc := "(II)V" } : Jvm.MethodName)) ∈ lw_all := lw_g (lw_at lw_m3 115 rfl) rfl
theorem q677 : (Jvm.Cond.laysStatic "AdjectiveCoupons" "KINDS" "[LAdjectiveCoupons$Kind;") ∈ lw_tbl := lw_at lw_m3 120 rfl
theorem q679 : (Jvm.Cond.fieldLink "AdjectiveCoupons" (33 : Nat) "AdjectiveCoupons$Word" "kind" "LAdjectiveCoupons$Kind;") ∈ lw_all := lw_g (lw_at lw_m3 122 rfl) rfl
theorem q681 : (Jvm.Cond.fieldLink "AdjectiveCoupons" (169 : Nat) "AdjectiveCoupons$Word" "worth" "I") ∈ lw_all := lw_g (lw_at lw_m3 124 rfl) rfl
theorem q687 : (Jvm.Cond.methodLink "AdjectiveCoupons" (183 : Nat) ({ cls := "AdjectiveCoupons", name := "born", desc := "(II)LAdjectiveCoupons$One;" } : Jvm.MethodName)) ∈ lw_all := lw_g (lw_at lw_m3 130 rfl) rfl
theorem q688 : (Jvm.Cond.static ({ cls := "AdjectiveCoupons", name := "born", desc := "(II)LAdjectiveCoupons$One;" } : Jvm.MethodName)) ∈ lw_all := lw_g (lw_at lw_m3 131 rfl) rfl
theorem q689 : (Jvm.Cond.code ({ cls := "AdjectiveCoupons", name := "born", desc := "(II)LAdjectiveCoupons$One;" } : Jvm.MethodName) prog_1_method_3_code (2 : Nat) (Option.some (Jvm.ClassFile.FieldType.object "AdjectiveCoupons$One"))) ∈ lw_all := lw_g (lw_at lw_m3 132 rfl) rfl
theorem q690 : (Jvm.Cond.classLink "AdjectiveCoupons" (1 : Nat) "AdjectiveCoupons$Citizen") ∈ lw_all := lw_g (lw_at lw_m3 133 rfl) rfl
theorem q692 : (Jvm.Cond.methodLink "AdjectiveCoupons" (3 : Nat) ({ cls := "AdjectiveCoupons$Citizen", name := "<init>", desc := "(I)V" } : Jvm.MethodName)) ∈ lw_all := lw_g (lw_at lw_m3 135 rfl) rfl
theorem q700 : (Jvm.Cond.fieldLink "AdjectiveCoupons" (259 : Nat) "AdjectiveCoupons$One" "wants" "I") ∈ lw_all := lw_g (lw_at lw_m3 143 rfl) rfl
theorem q704 : (Jvm.Cond.classLink "AdjectiveCoupons" (7 : Nat) "AdjectiveCoupons$Lover") ∈ lw_all := lw_g (lw_at lw_m3 147 rfl) rfl
theorem q706 : (Jvm.Cond.methodLink "AdjectiveCoupons" (9 : Nat) ({ cls := "AdjectiveCoupons$Lover", name := "<init>", desc := "(I)V" } : Jvm.MethodName)) ∈ lw_all := lw_g (lw_at lw_m3 149 rfl) rfl
theorem q712 : (Jvm.Cond.classLink "AdjectiveCoupons" (10 : Nat) "AdjectiveCoupons$Critic") ∈ lw_all := lw_g (lw_at lw_m3 155 rfl) rfl
theorem q714 : (Jvm.Cond.methodLink "AdjectiveCoupons" (12 : Nat) ({ cls := "AdjectiveCoupons$Critic", name := "<init>", desc := "(I)V" } : Jvm.MethodName)) ∈ lw_all := lw_g (lw_at lw_m3 157 rfl) rfl
theorem q720 : (Jvm.Cond.classLink "AdjectiveCoupons" (13 : Nat) "AdjectiveCoupons$Poet") ∈ lw_all := lw_g (lw_at lw_m3 163 rfl) rfl
theorem q722 : (Jvm.Cond.methodLink "AdjectiveCoupons" (15 : Nat) ({ cls := "AdjectiveCoupons$Poet", name := "<init>", desc := "(I)V" } : Jvm.MethodName)) ∈ lw_all := lw_g (lw_at lw_m3 165 rfl) rfl
theorem q728 : (Jvm.Cond.methodLink "AdjectiveCoupons" (187 : Nat) ({ cls := "java/util/Arrays", name := "copyOfRange", desc := "([III)[I" } : Jvm.MethodName)) ∈ lw_all := lw_g (lw_at lw_m3 171 rfl) rfl
theorem q740 : (Jvm.Cond.instanceMethod ({ cls := "AdjectiveCoupons", name := "word", desc := "(II)I" } : Jvm.MethodName)) ∈ lw_all := lw_g (lw_at lw_m3 183 rfl) rfl
theorem q741 : (Jvm.Cond.selects "AdjectiveCoupons" ({ cls := "AdjectiveCoupons", name := "word", desc := "(II)I" } : Jvm.MethodName) ({ cls := "AdjectiveCoupons", name := "word", desc := "(II)I" } : Jvm.MethodName)) ∈ lw_all := lw_g (lw_at lw_m3 184 rfl) rfl
theorem q742 : (Jvm.Cond.code ({ cls := "AdjectiveCoupons", name := "word", desc := "(II)I" } : Jvm.MethodName) prog_1_method_26_code (5 : Nat) (Option.some Jvm.ClassFile.FieldType.int)) ∈ lw_all := lw_g (lw_at lw_m3 185 rfl) rfl
theorem q743 : (Jvm.Cond.methodLink "AdjectiveCoupons" (246 : Nat) ({ cls := "AdjectiveCoupons", name := "isWord", desc := "(I)Z" } : Jvm.MethodName)) ∈ lw_all := lw_g (lw_at lw_m3 186 rfl) rfl
theorem q744 : (Jvm.Cond.privateMethod ({ cls := "AdjectiveCoupons", name := "isWord", desc := "(I)Z" } : Jvm.MethodName)) ∈ lw_tbl := lw_at lw_m3 187 rfl
theorem q745 : (Jvm.Cond.instanceMethod ({ cls := "AdjectiveCoupons", name := "isWord", desc := "(I)Z" } : Jvm.MethodName)) ∈ lw_all := lw_g (lw_at lw_m3 188 rfl) rfl
theorem q746 : (Jvm.Cond.code ({ cls := "AdjectiveCoupons", name := "isWord", desc := "(I)Z" } : Jvm.MethodName) prog_1_method_19_code (2 : Nat) (Option.some Jvm.ClassFile.FieldType.boolean)) ∈ lw_all := lw_g (lw_at lw_m3 189 rfl) rfl
theorem q747 : (Jvm.Cond.methodLink "AdjectiveCoupons" (115 : Nat) ({ cls := "AdjectiveCoupons", name := "kindOf", desc := "(II)LAdjectiveCoupons$Kind;" } : Jvm.MethodName)) ∈ lw_all := lw_g (lw_at lw_m3 190 rfl) rfl
theorem q748 : (Jvm.Cond.privateMethod ({ cls := "AdjectiveCoupons", name := "kindOf", desc := "(II)LAdjectiveCoupons$Kind;" } : Jvm.MethodName)) ∈ lw_tbl := lw_at lw_m3 191 rfl
theorem q749 : (Jvm.Cond.instanceMethod ({ cls := "AdjectiveCoupons", name := "kindOf", desc := "(II)LAdjectiveCoupons$Kind;" } : Jvm.MethodName)) ∈ lw_all := lw_g (lw_at lw_m3 192 rfl) rfl
theorem q750 : (Jvm.Cond.code ({ cls := "AdjectiveCoupons", name := "kindOf", desc := "(II)LAdjectiveCoupons$Kind;" } : Jvm.MethodName) prog_1_method_7_code (7 : Nat) (Option.some (Jvm.ClassFile.FieldType.object "AdjectiveCoupons$Kind"))) ∈ lw_all := lw_g (lw_at lw_m3 193 rfl) rfl
theorem q751 : (Jvm.Cond.methodLink "AdjectiveCoupons" (29 : Nat) ({ cls := "AdjectiveCoupons", name := "word", desc := "(I)LAdjectiveCoupons$Word;" } : Jvm.MethodName)) ∈ lw_all := lw_g (lw_at lw_m3 194 rfl) rfl
theorem q752 : (Jvm.Cond.privateMethod ({ cls := "AdjectiveCoupons", name := "word", desc := "(I)LAdjectiveCoupons$Word;" } : Jvm.MethodName)) ∈ lw_tbl := lw_at lw_m3 195 rfl
theorem q753 : (Jvm.Cond.instanceMethod ({ cls := "AdjectiveCoupons", name := "word", desc := "(I)LAdjectiveCoupons$Word;" } : Jvm.MethodName)) ∈ lw_all := lw_g (lw_at lw_m3 196 rfl) rfl
theorem q754 : (Jvm.Cond.code ({ cls := "AdjectiveCoupons", name := "word", desc := "(I)LAdjectiveCoupons$Word;" } : Jvm.MethodName) prog_1_method_5_code (2 : Nat) (Option.some (Jvm.ClassFile.FieldType.object "AdjectiveCoupons$Word"))) ∈ lw_all := lw_g (lw_at lw_m3 197 rfl) rfl
theorem q755 : (Jvm.Cond.fieldLink "AdjectiveCoupons" (45 : Nat) "AdjectiveCoupons" "KINDS" "[LAdjectiveCoupons$Kind;") ∈ lw_all := lw_g (lw_at lw_m3 198 rfl) rfl
theorem q756 : (Jvm.Cond.methodLink "AdjectiveCoupons" (166 : Nat) ({ cls := "AdjectiveCoupons$Kind", name := "number", desc := "()I" } : Jvm.MethodName)) ∈ lw_all := lw_g (lw_at lw_m3 199 rfl) rfl
theorem q779 : (Jvm.Cond.instanceMethod ({ cls := "AdjectiveCoupons", name := "one", desc := "(II)I" } : Jvm.MethodName)) ∈ lw_all := lw_g (lw_at lw_m3 222 rfl) rfl
theorem q780 : (Jvm.Cond.selects "AdjectiveCoupons" ({ cls := "AdjectiveCoupons", name := "one", desc := "(II)I" } : Jvm.MethodName) ({ cls := "AdjectiveCoupons", name := "one", desc := "(II)I" } : Jvm.MethodName)) ∈ lw_all := lw_g (lw_at lw_m3 223 rfl) rfl
theorem q781 : (Jvm.Cond.code ({ cls := "AdjectiveCoupons", name := "one", desc := "(II)I" } : Jvm.MethodName) prog_1_method_27_code (3 : Nat) (Option.some Jvm.ClassFile.FieldType.int)) ∈ lw_all := lw_g (lw_at lw_m3 224 rfl) rfl
theorem q782 : (Jvm.Cond.methodLink "AdjectiveCoupons" (215 : Nat) ({ cls := "AdjectiveCoupons", name := "isOne", desc := "(I)Z" } : Jvm.MethodName)) ∈ lw_all := lw_g (lw_at lw_m3 225 rfl) rfl
theorem q783 : (Jvm.Cond.privateMethod ({ cls := "AdjectiveCoupons", name := "isOne", desc := "(I)Z" } : Jvm.MethodName)) ∈ lw_tbl := lw_at lw_m3 226 rfl
theorem q784 : (Jvm.Cond.instanceMethod ({ cls := "AdjectiveCoupons", name := "isOne", desc := "(I)Z" } : Jvm.MethodName)) ∈ lw_all := lw_g (lw_at lw_m3 227 rfl) rfl
theorem q785 : (Jvm.Cond.code ({ cls := "AdjectiveCoupons", name := "isOne", desc := "(I)Z" } : Jvm.MethodName) prog_1_method_20_code (2 : Nat) (Option.some Jvm.ClassFile.FieldType.boolean)) ∈ lw_all := lw_g (lw_at lw_m3 228 rfl) rfl
theorem q786 : (Jvm.Cond.methodLink "AdjectiveCoupons" (249 : Nat) ({ cls := "AdjectiveCoupons", name := "one", desc := "(I)LAdjectiveCoupons$One;" } : Jvm.MethodName)) ∈ lw_all := lw_g (lw_at lw_m3 229 rfl) rfl
theorem q787 : (Jvm.Cond.privateMethod ({ cls := "AdjectiveCoupons", name := "one", desc := "(I)LAdjectiveCoupons$One;" } : Jvm.MethodName)) ∈ lw_tbl := lw_at lw_m3 230 rfl
theorem q788 : (Jvm.Cond.instanceMethod ({ cls := "AdjectiveCoupons", name := "one", desc := "(I)LAdjectiveCoupons$One;" } : Jvm.MethodName)) ∈ lw_all := lw_g (lw_at lw_m3 231 rfl) rfl
theorem q789 : (Jvm.Cond.code ({ cls := "AdjectiveCoupons", name := "one", desc := "(I)LAdjectiveCoupons$One;" } : Jvm.MethodName) prog_1_method_6_code (2 : Nat) (Option.some (Jvm.ClassFile.FieldType.object "AdjectiveCoupons$One"))) ∈ lw_all := lw_g (lw_at lw_m3 232 rfl) rfl
theorem q790 : (Jvm.Cond.classLink "AdjectiveCoupons" (16 : Nat) "AdjectiveCoupons$One") ∈ lw_all := lw_g (lw_at lw_m3 233 rfl) rfl
theorem q807 : (Jvm.Cond.methodLink "AdjectiveCoupons" (255 : Nat) ({ cls := "AdjectiveCoupons$State", name := "saidBy", desc := "(I)I" } : Jvm.MethodName)) ∈ lw_all := lw_g (lw_at lw_m4 10 rfl) rfl
theorem q812 : (Jvm.Cond.instanceMethod ({ cls := "AdjectiveCoupons", name := "as", desc := "(II)I" } : Jvm.MethodName)) ∈ lw_all := lw_g (lw_at lw_m4 15 rfl) rfl
theorem q813 : (Jvm.Cond.selects "AdjectiveCoupons" ({ cls := "AdjectiveCoupons", name := "as", desc := "(II)I" } : Jvm.MethodName) ({ cls := "AdjectiveCoupons", name := "as", desc := "(II)I" } : Jvm.MethodName)) ∈ lw_all := lw_g (lw_at lw_m4 16 rfl) rfl
theorem q814 : (Jvm.Cond.codeWith ({ cls := "AdjectiveCoupons", name := "as", desc := "(II)I" } : Jvm.MethodName) prog_1_method_28_code (4 : Nat) (Option.some Jvm.ClassFile.FieldType.int) [((26 : Nat), (55 : Nat), (56 : Nat), (272 : Nat))]) ∈ lw_all := lw_g (lw_at lw_m4 17 rfl) rfl
theorem q815 : (Jvm.Cond.classLink "AdjectiveCoupons" (272 : Nat) "java/lang/ClassCastException") ∈ lw_all := lw_g (lw_at lw_m4 18 rfl) rfl
theorem q839 : (Jvm.Cond.constantLong "AdjectiveCoupons" (262 : Nat) (4 : Int64)) ∈ lw_all := lw_g (lw_at lw_m4 42 rfl) rfl
theorem q840 : (Jvm.Cond.methodLink "AdjectiveCoupons" (264 : Nat) ({ cls := "AdjectiveCoupons", name := "castTo", desc := "(Ljava/lang/Object;I)LAdjectiveCoupons$One;" } : Jvm.MethodName)) ∈ lw_all := lw_g (lw_at lw_m4 43 rfl) rfl
theorem q841 : (Jvm.Cond.static ({ cls := "AdjectiveCoupons", name := "castTo", desc := "(Ljava/lang/Object;I)LAdjectiveCoupons$One;" } : Jvm.MethodName)) ∈ lw_all := lw_g (lw_at lw_m4 44 rfl) rfl
theorem q842 : (Jvm.Cond.code ({ cls := "AdjectiveCoupons", name := "castTo", desc := "(Ljava/lang/Object;I)LAdjectiveCoupons$One;" } : Jvm.MethodName) prog_1_method_4_code (2 : Nat) (Option.some (Jvm.ClassFile.FieldType.object "AdjectiveCoupons$One"))) ∈ lw_all := lw_g (lw_at lw_m4 45 rfl) rfl
theorem q843 : (Jvm.Cond.methodLink "AdjectiveCoupons" (268 : Nat) ({ cls := "AdjectiveCoupons", name := "costOf", desc := "(LAdjectiveCoupons$Buyer;[III)I" } : Jvm.MethodName)) ∈ lw_all := lw_g (lw_at lw_m4 46 rfl) rfl
theorem q844 : (Jvm.Cond.privateMethod ({ cls := "AdjectiveCoupons", name := "costOf", desc := "(LAdjectiveCoupons$Buyer;[III)I" } : Jvm.MethodName)) ∈ lw_tbl := lw_at lw_m4 47 rfl
theorem q845 : (Jvm.Cond.instanceMethod ({ cls := "AdjectiveCoupons", name := "costOf", desc := "(LAdjectiveCoupons$Buyer;[III)I" } : Jvm.MethodName)) ∈ lw_all := lw_g (lw_at lw_m4 48 rfl) rfl
theorem q846 : (Jvm.Cond.code ({ cls := "AdjectiveCoupons", name := "costOf", desc := "(LAdjectiveCoupons$Buyer;[III)I" } : Jvm.MethodName) prog_1_method_12_code (7 : Nat) (Option.some Jvm.ClassFile.FieldType.int)) ∈ lw_all := lw_g (lw_at lw_m4 49 rfl) rfl
theorem q847 : (Jvm.Cond.methodLink "AdjectiveCoupons" (147 : Nat) ({ cls := "java/util/Arrays", name := "fill", desc := "([ZZ)V" } : Jvm.MethodName)) ∈ lw_all := lw_g (lw_at lw_m4 50 rfl) rfl
theorem q850 : (Jvm.Cond.methodLink "AdjectiveCoupons" (150 : Nat) ({ cls := "AdjectiveCoupons", name := "costAt", desc := "([IIII)I" } : Jvm.MethodName)) ∈ lw_all := lw_g (lw_at lw_m4 53 rfl) rfl
theorem q851 : (Jvm.Cond.privateMethod ({ cls := "AdjectiveCoupons", name := "costAt", desc := "([IIII)I" } : Jvm.MethodName)) ∈ lw_tbl := lw_at lw_m4 54 rfl
theorem q852 : (Jvm.Cond.instanceMethod ({ cls := "AdjectiveCoupons", name := "costAt", desc := "([IIII)I" } : Jvm.MethodName)) ∈ lw_all := lw_g (lw_at lw_m4 55 rfl) rfl
theorem q853 : (Jvm.Cond.code ({ cls := "AdjectiveCoupons", name := "costAt", desc := "([IIII)I" } : Jvm.MethodName) prog_1_method_11_code (7 : Nat) (Option.some Jvm.ClassFile.FieldType.int)) ∈ lw_all := lw_g (lw_at lw_m4 56 rfl) rfl
theorem q854 : (Jvm.Cond.methodLink "AdjectiveCoupons" (125 : Nat) ({ cls := "AdjectiveCoupons$Kind", name := "costs", desc := "()I" } : Jvm.MethodName)) ∈ lw_all := lw_g (lw_at lw_m4 57 rfl) rfl
theorem q869 : (Jvm.Cond.methodLink "AdjectiveCoupons" (132 : Nat) ({ cls := "AdjectiveCoupons", name := "has", desc := "(II)Z" } : Jvm.MethodName)) ∈ lw_all := lw_g (lw_at lw_m4 72 rfl) rfl
theorem q870 : (Jvm.Cond.static ({ cls := "AdjectiveCoupons", name := "has", desc := "(II)Z" } : Jvm.MethodName)) ∈ lw_all := lw_g (lw_at lw_m4 73 rfl) rfl
theorem q871 : (Jvm.Cond.code ({ cls := "AdjectiveCoupons", name := "has", desc := "(II)Z" } : Jvm.MethodName) prog_1_method_2_code (2 : Nat) (Option.some Jvm.ClassFile.FieldType.boolean)) ∈ lw_all := lw_g (lw_at lw_m4 74 rfl) rfl
theorem q872 : (Jvm.Cond.classLink "AdjectiveCoupons" (136 : Nat) "AdjectiveCoupons$Name") ∈ lw_all := lw_g (lw_at lw_m4 75 rfl) rfl
theorem q873 : (Jvm.Cond.methodLink "AdjectiveCoupons" (138 : Nat) ({ cls := "AdjectiveCoupons", name := "isAdjective", desc := "([III)Z" } : Jvm.MethodName)) ∈ lw_all := lw_g (lw_at lw_m4 76 rfl) rfl
theorem q874 : (Jvm.Cond.privateMethod ({ cls := "AdjectiveCoupons", name := "isAdjective", desc := "([III)Z" } : Jvm.MethodName)) ∈ lw_tbl := lw_at lw_m4 77 rfl
theorem q875 : (Jvm.Cond.instanceMethod ({ cls := "AdjectiveCoupons", name := "isAdjective", desc := "([III)Z" } : Jvm.MethodName)) ∈ lw_all := lw_g (lw_at lw_m4 78 rfl) rfl
theorem q876 : (Jvm.Cond.code ({ cls := "AdjectiveCoupons", name := "isAdjective", desc := "([III)Z" } : Jvm.MethodName) prog_1_method_10_code (4 : Nat) (Option.some Jvm.ClassFile.FieldType.boolean)) ∈ lw_all := lw_g (lw_at lw_m4 79 rfl) rfl
theorem q877 : (Jvm.Cond.methodLink "AdjectiveCoupons" (119 : Nat) ({ cls := "AdjectiveCoupons$Kind", name := "isAdjective", desc := "()Z" } : Jvm.MethodName)) ∈ lw_all := lw_g (lw_at lw_m4 80 rfl) rfl
theorem q887 : (Jvm.Cond.classLink "AdjectiveCoupons" (154 : Nat) "AdjectiveCoupons$Colour") ∈ lw_all := lw_g (lw_at lw_m4 90 rfl) rfl
theorem q888 : (Jvm.Cond.interfaceEntry "AdjectiveCoupons" (156 : Nat)) ∈ lw_tbl := lw_at lw_m4 91 rfl
theorem q889 : (Jvm.Cond.methodLink "AdjectiveCoupons" (156 : Nat) ({ cls := "AdjectiveCoupons$Buyer", name := "off", desc := "([I[Z)I" } : Jvm.MethodName)) ∈ lw_all := lw_g (lw_at lw_m4 92 rfl) rfl
theorem q913 : (Jvm.Cond.instanceMethod ({ cls := "AdjectiveCoupons", name := "put", desc := "(I)I" } : Jvm.MethodName)) ∈ lw_all := lw_g (lw_at lw_m4 116 rfl) rfl
theorem q914 : (Jvm.Cond.selects "AdjectiveCoupons" ({ cls := "AdjectiveCoupons", name := "put", desc := "(I)I" } : Jvm.MethodName) ({ cls := "AdjectiveCoupons", name := "put", desc := "(I)I" } : Jvm.MethodName)) ∈ lw_all := lw_g (lw_at lw_m4 117 rfl) rfl
theorem q915 : (Jvm.Cond.code ({ cls := "AdjectiveCoupons", name := "put", desc := "(I)I" } : Jvm.MethodName) prog_1_method_29_code (2 : Nat) (Option.some Jvm.ClassFile.FieldType.int)) ∈ lw_all := lw_g (lw_at lw_m4 118 rfl) rfl
theorem q917 : (Jvm.Cond.instanceMethod ({ cls := "AdjectiveCoupons", name := "wipe", desc := "()I" } : Jvm.MethodName)) ∈ lw_all := lw_g (lw_at lw_m4 120 rfl) rfl
theorem q918 : (Jvm.Cond.selects "AdjectiveCoupons" ({ cls := "AdjectiveCoupons", name := "wipe", desc := "()I" } : Jvm.MethodName) ({ cls := "AdjectiveCoupons", name := "wipe", desc := "()I" } : Jvm.MethodName)) ∈ lw_all := lw_g (lw_at lw_m4 121 rfl) rfl
theorem q919 : (Jvm.Cond.code ({ cls := "AdjectiveCoupons", name := "wipe", desc := "()I" } : Jvm.MethodName) prog_1_method_30_code (2 : Nat) (Option.some Jvm.ClassFile.FieldType.int)) ∈ lw_all := lw_g (lw_at lw_m4 122 rfl) rfl
theorem q921 : (Jvm.Cond.instanceMethod ({ cls := "AdjectiveCoupons", name := "line", desc := "(I)I" } : Jvm.MethodName)) ∈ lw_all := lw_g (lw_at lw_m4 124 rfl) rfl
theorem q922 : (Jvm.Cond.selects "AdjectiveCoupons" ({ cls := "AdjectiveCoupons", name := "line", desc := "(I)I" } : Jvm.MethodName) ({ cls := "AdjectiveCoupons", name := "line", desc := "(I)I" } : Jvm.MethodName)) ∈ lw_all := lw_g (lw_at lw_m4 125 rfl) rfl
theorem q923 : (Jvm.Cond.code ({ cls := "AdjectiveCoupons", name := "line", desc := "(I)I" } : Jvm.MethodName) prog_1_method_31_code (2 : Nat) (Option.some Jvm.ClassFile.FieldType.int)) ∈ lw_all := lw_g (lw_at lw_m4 126 rfl) rfl
theorem q925 : (Jvm.Cond.instanceMethod ({ cls := "AdjectiveCoupons", name := "cost", desc := "(II)I" } : Jvm.MethodName)) ∈ lw_all := lw_g (lw_at lw_m4 128 rfl) rfl
theorem q926 : (Jvm.Cond.selects "AdjectiveCoupons" ({ cls := "AdjectiveCoupons", name := "cost", desc := "(II)I" } : Jvm.MethodName) ({ cls := "AdjectiveCoupons", name := "cost", desc := "(II)I" } : Jvm.MethodName)) ∈ lw_all := lw_g (lw_at lw_m4 129 rfl) rfl
theorem q927 : (Jvm.Cond.code ({ cls := "AdjectiveCoupons", name := "cost", desc := "(II)I" } : Jvm.MethodName) prog_1_method_32_code (3 : Nat) (Option.some Jvm.ClassFile.FieldType.int)) ∈ lw_all := lw_g (lw_at lw_m4 130 rfl) rfl
theorem q928 : (Jvm.Cond.constantLong "AdjectiveCoupons" (274 : Nat) (999 : Int64)) ∈ lw_all := lw_g (lw_at lw_m4 131 rfl) rfl
theorem q930 : (Jvm.Cond.instanceMethod ({ cls := "AdjectiveCoupons", name := "good", desc := "()I" } : Jvm.MethodName)) ∈ lw_all := lw_g (lw_at lw_m4 133 rfl) rfl
theorem q931 : (Jvm.Cond.selects "AdjectiveCoupons" ({ cls := "AdjectiveCoupons", name := "good", desc := "()I" } : Jvm.MethodName) ({ cls := "AdjectiveCoupons", name := "good", desc := "()I" } : Jvm.MethodName)) ∈ lw_all := lw_g (lw_at lw_m4 134 rfl) rfl
theorem q932 : (Jvm.Cond.code ({ cls := "AdjectiveCoupons", name := "good", desc := "()I" } : Jvm.MethodName) prog_1_method_33_code (1 : Nat) (Option.some Jvm.ClassFile.FieldType.int)) ∈ lw_all := lw_g (lw_at lw_m4 135 rfl) rfl
theorem q933 : (Jvm.Cond.methodLink "AdjectiveCoupons" (276 : Nat) ({ cls := "AdjectiveCoupons", name := "isGood", desc := "([II)Z" } : Jvm.MethodName)) ∈ lw_all := lw_g (lw_at lw_m4 136 rfl) rfl
theorem q934 : (Jvm.Cond.privateMethod ({ cls := "AdjectiveCoupons", name := "isGood", desc := "([II)Z" } : Jvm.MethodName)) ∈ lw_tbl := lw_at lw_m4 137 rfl
theorem q935 : (Jvm.Cond.instanceMethod ({ cls := "AdjectiveCoupons", name := "isGood", desc := "([II)Z" } : Jvm.MethodName)) ∈ lw_all := lw_g (lw_at lw_m4 138 rfl) rfl
theorem q936 : (Jvm.Cond.code ({ cls := "AdjectiveCoupons", name := "isGood", desc := "([II)Z" } : Jvm.MethodName) prog_1_method_13_code (5 : Nat) (Option.some Jvm.ClassFile.FieldType.boolean)) ∈ lw_all := lw_g (lw_at lw_m4 139 rfl) rfl
theorem q937 : (Jvm.Cond.methodLink "AdjectiveCoupons" (162 : Nat) ({ cls := "AdjectiveCoupons", name := "isNoun", desc := "(I)Z" } : Jvm.MethodName)) ∈ lw_all := lw_g (lw_at lw_m4 140 rfl) rfl
theorem q938 : (Jvm.Cond.privateMethod ({ cls := "AdjectiveCoupons", name := "isNoun", desc := "(I)Z" } : Jvm.MethodName)) ∈ lw_tbl := lw_at lw_m4 141 rfl
theorem q939 : (Jvm.Cond.instanceMethod ({ cls := "AdjectiveCoupons", name := "isNoun", desc := "(I)Z" } : Jvm.MethodName)) ∈ lw_all := lw_g (lw_at lw_m4 142 rfl) rfl
theorem q940 : (Jvm.Cond.code ({ cls := "AdjectiveCoupons", name := "isNoun", desc := "(I)Z" } : Jvm.MethodName) prog_1_method_14_code (2 : Nat) (Option.some Jvm.ClassFile.FieldType.boolean)) ∈ lw_all := lw_g (lw_at lw_m4 143 rfl) rfl
theorem q942 : (Jvm.Cond.instanceMethod ({ cls := "AdjectiveCoupons", name := "say", desc := "(I)I" } : Jvm.MethodName)) ∈ lw_all := lw_g (lw_at lw_m4 145 rfl) rfl
theorem q943 : (Jvm.Cond.selects "AdjectiveCoupons" ({ cls := "AdjectiveCoupons", name := "say", desc := "(I)I" } : Jvm.MethodName) ({ cls := "AdjectiveCoupons", name := "say", desc := "(I)I" } : Jvm.MethodName)) ∈ lw_all := lw_g (lw_at lw_m4 146 rfl) rfl
theorem q944 : (Jvm.Cond.code ({ cls := "AdjectiveCoupons", name := "say", desc := "(I)I" } : Jvm.MethodName) prog_1_method_34_code (4 : Nat) (Option.some Jvm.ClassFile.FieldType.int)) ∈ lw_all := lw_g (lw_at lw_m4 147 rfl) rfl
theorem q945 : (Jvm.Cond.methodLink "AdjectiveCoupons" (280 : Nat) ({ cls := "AdjectiveCoupons", name := "holesIn", desc := "()I" } : Jvm.MethodName)) ∈ lw_all := lw_g (lw_at lw_m4 148 rfl) rfl
theorem q946 : (Jvm.Cond.privateMethod ({ cls := "AdjectiveCoupons", name := "holesIn", desc := "()I" } : Jvm.MethodName)) ∈ lw_tbl := lw_at lw_m4 149 rfl
theorem q947 : (Jvm.Cond.instanceMethod ({ cls := "AdjectiveCoupons", name := "holesIn", desc := "()I" } : Jvm.MethodName)) ∈ lw_all := lw_g (lw_at lw_m4 150 rfl) rfl
theorem q948 : (Jvm.Cond.code ({ cls := "AdjectiveCoupons", name := "holesIn", desc := "()I" } : Jvm.MethodName) prog_1_method_16_code (3 : Nat) (Option.some Jvm.ClassFile.FieldType.int)) ∈ lw_all := lw_g (lw_at lw_m4 151 rfl) rfl
theorem q949 : (Jvm.Cond.methodLink "AdjectiveCoupons" (283 : Nat) ({ cls := "AdjectiveCoupons", name := "note", desc := "()V" } : Jvm.MethodName)) ∈ lw_all := lw_g (lw_at lw_m4 152 rfl) rfl
theorem q950 : (Jvm.Cond.privateMethod ({ cls := "AdjectiveCoupons", name := "note", desc := "()V" } : Jvm.MethodName)) ∈ lw_tbl := lw_at lw_m4 153 rfl
theorem q951 : (Jvm.Cond.instanceMethod ({ cls := "AdjectiveCoupons", name := "note", desc := "()V" } : Jvm.MethodName)) ∈ lw_all := lw_g (lw_at lw_m4 154 rfl) rfl
theorem q952 : (Jvm.Cond.code ({ cls := "AdjectiveCoupons", name := "note", desc := "()V" } : Jvm.MethodName) prog_1_method_9_code (2 : Nat) (Option.none : Option Jvm.ClassFile.FieldType)) ∈ lw_all := lw_g (lw_at lw_m4 155 rfl) rfl
theorem q953 : (Jvm.Cond.methodLink "AdjectiveCoupons" (102 : Nat) ({ cls := "java/lang/System", name := "arraycopy", desc := "(Ljava/lang/Object;ILjava/lang/Object;II)V" } : Jvm.MethodName)) ∈ lw_all := lw_g (lw_at lw_m4 156 rfl) rfl
theorem q954 : (Jvm.Cond.methodLink "AdjectiveCoupons" (111 : Nat) ({ cls := "AdjectiveCoupons$State", name := "set", desc := "(LAdjectiveCoupons$State;)LAdjectiveCoupons$State;" } : Jvm.MethodName)) ∈ lw_all := lw_g (lw_at lw_m4 157 rfl) rfl
theorem q959 : (Jvm.Cond.methodLink "AdjectiveCoupons" (286 : Nat) ({ cls := "AdjectiveCoupons", name := "worthOf", desc := "([II)I" } : Jvm.MethodName)) ∈ lw_all := lw_g (lw_at lw_m4 162 rfl) rfl
theorem q960 : (Jvm.Cond.privateMethod ({ cls := "AdjectiveCoupons", name := "worthOf", desc := "([II)I" } : Jvm.MethodName)) ∈ lw_tbl := lw_at lw_m4 163 rfl
theorem q961 : (Jvm.Cond.instanceMethod ({ cls := "AdjectiveCoupons", name := "worthOf", desc := "([II)I" } : Jvm.MethodName)) ∈ lw_all := lw_g (lw_at lw_m4 164 rfl) rfl
theorem q962 : (Jvm.Cond.code ({ cls := "AdjectiveCoupons", name := "worthOf", desc := "([II)I" } : Jvm.MethodName) prog_1_method_15_code (5 : Nat) (Option.some Jvm.ClassFile.FieldType.int)) ∈ lw_all := lw_g (lw_at lw_m4 165 rfl) rfl
theorem q964 : (Jvm.Cond.instanceMethod ({ cls := "AdjectiveCoupons", name := "week", desc := "()I" } : Jvm.MethodName)) ∈ lw_all := lw_g (lw_at lw_m4 167 rfl) rfl
theorem q965 : (Jvm.Cond.selects "AdjectiveCoupons" ({ cls := "AdjectiveCoupons", name := "week", desc := "()I" } : Jvm.MethodName) ({ cls := "AdjectiveCoupons", name := "week", desc := "()I" } : Jvm.MethodName)) ∈ lw_all := lw_g (lw_at lw_m4 168 rfl) rfl
theorem q966 : (Jvm.Cond.code ({ cls := "AdjectiveCoupons", name := "week", desc := "()I" } : Jvm.MethodName) prog_1_method_36_code (2 : Nat) (Option.some Jvm.ClassFile.FieldType.int)) ∈ lw_all := lw_g (lw_at lw_m4 169 rfl) rfl
theorem q967 : (Jvm.Cond.methodLink "AdjectiveCoupons" (299 : Nat) ({ cls := "AdjectiveCoupons", name := "behind", desc := "(II)I" } : Jvm.MethodName)) ∈ lw_all := lw_g (lw_at lw_m4 170 rfl) rfl
theorem q968 : (Jvm.Cond.privateMethod ({ cls := "AdjectiveCoupons", name := "behind", desc := "(II)I" } : Jvm.MethodName)) ∈ lw_tbl := lw_at lw_m4 171 rfl
theorem q969 : (Jvm.Cond.instanceMethod ({ cls := "AdjectiveCoupons", name := "behind", desc := "(II)I" } : Jvm.MethodName)) ∈ lw_all := lw_g (lw_at lw_m4 172 rfl) rfl
theorem q970 : (Jvm.Cond.code ({ cls := "AdjectiveCoupons", name := "behind", desc := "(II)I" } : Jvm.MethodName) prog_1_method_35_code (3 : Nat) (Option.some Jvm.ClassFile.FieldType.int)) ∈ lw_all := lw_g (lw_at lw_m4 173 rfl) rfl
theorem q981 : (Jvm.Cond.methodLink "AdjectiveCoupons" (293 : Nat) ({ cls := "java/lang/Math", name := "min", desc := "(II)I" } : Jvm.MethodName)) ∈ lw_all := lw_g (lw_at lw_m4 184 rfl) rfl
theorem q983 : (Jvm.Cond.instanceMethod ({ cls := "AdjectiveCoupons", name := "trade", desc := "(IIII)I" } : Jvm.MethodName)) ∈ lw_all := lw_g (lw_at lw_m4 186 rfl) rfl
theorem q984 : (Jvm.Cond.selects "AdjectiveCoupons" ({ cls := "AdjectiveCoupons", name := "trade", desc := "(IIII)I" } : Jvm.MethodName) ({ cls := "AdjectiveCoupons", name := "trade", desc := "(IIII)I" } : Jvm.MethodName)) ∈ lw_all := lw_g (lw_at lw_m4 187 rfl) rfl
theorem q985 : (Jvm.Cond.code ({ cls := "AdjectiveCoupons", name := "trade", desc := "(IIII)I" } : Jvm.MethodName) prog_1_method_37_code (5 : Nat) (Option.some Jvm.ClassFile.FieldType.int)) ∈ lw_all := lw_g (lw_at lw_m4 188 rfl) rfl
theorem q986 : (Jvm.Cond.methodLink "AdjectiveCoupons" (302 : Nat) ({ cls := "AdjectiveCoupons", name := "areTwo", desc := "(II)Z" } : Jvm.MethodName)) ∈ lw_all := lw_g (lw_at lw_m4 189 rfl) rfl
theorem q987 : (Jvm.Cond.privateMethod ({ cls := "AdjectiveCoupons", name := "areTwo", desc := "(II)Z" } : Jvm.MethodName)) ∈ lw_tbl := lw_at lw_m4 190 rfl
theorem q988 : (Jvm.Cond.instanceMethod ({ cls := "AdjectiveCoupons", name := "areTwo", desc := "(II)Z" } : Jvm.MethodName)) ∈ lw_all := lw_g (lw_at lw_m4 191 rfl) rfl
theorem q989 : (Jvm.Cond.code ({ cls := "AdjectiveCoupons", name := "areTwo", desc := "(II)Z" } : Jvm.MethodName) prog_1_method_21_code (3 : Nat) (Option.some Jvm.ClassFile.FieldType.boolean)) ∈ lw_all := lw_g (lw_at lw_m4 192 rfl) rfl
theorem q990 : (Jvm.Cond.constantLong "AdjectiveCoupons" (305 : Nat) (60 : Int64)) ∈ lw_all := lw_g (lw_at lw_m4 193 rfl) rfl
theorem q991 : (Jvm.Cond.constantLong "AdjectiveCoupons" (307 : Nat) (99 : Int64)) ∈ lw_all := lw_g (lw_at lw_m4 194 rfl) rfl
theorem q993 : (Jvm.Cond.instanceMethod ({ cls := "AdjectiveCoupons", name := "owe", desc := "(III)I" } : Jvm.MethodName)) ∈ lw_all := lw_g (lw_at lw_m4 196 rfl) rfl
theorem q994 : (Jvm.Cond.selects "AdjectiveCoupons" ({ cls := "AdjectiveCoupons", name := "owe", desc := "(III)I" } : Jvm.MethodName) ({ cls := "AdjectiveCoupons", name := "owe", desc := "(III)I" } : Jvm.MethodName)) ∈ lw_all := lw_g (lw_at lw_m4 197 rfl) rfl
theorem q995 : (Jvm.Cond.code ({ cls := "AdjectiveCoupons", name := "owe", desc := "(III)I" } : Jvm.MethodName) prog_1_method_38_code (4 : Nat) (Option.some Jvm.ClassFile.FieldType.int)) ∈ lw_all := lw_g (lw_at lw_m4 198 rfl) rfl
theorem q997 : (Jvm.Cond.instanceMethod ({ cls := "AdjectiveCoupons", name := "owes", desc := "(II)I" } : Jvm.MethodName)) ∈ lw_all := lw_g (lw_at lw_m4 200 rfl) rfl
theorem q998 : (Jvm.Cond.selects "AdjectiveCoupons" ({ cls := "AdjectiveCoupons", name := "owes", desc := "(II)I" } : Jvm.MethodName) ({ cls := "AdjectiveCoupons", name := "owes", desc := "(II)I" } : Jvm.MethodName)) ∈ lw_all := lw_g (lw_at lw_m4 201 rfl) rfl
theorem q999 : (Jvm.Cond.code ({ cls := "AdjectiveCoupons", name := "owes", desc := "(II)I" } : Jvm.MethodName) prog_1_method_39_code (3 : Nat) (Option.some Jvm.ClassFile.FieldType.int)) ∈ lw_all := lw_g (lw_at lw_m4 202 rfl) rfl
theorem q1001 : (Jvm.Cond.instanceMethod ({ cls := "AdjectiveCoupons", name := "undo", desc := "()I" } : Jvm.MethodName)) ∈ lw_all := lw_g (lw_at lw_m4 204 rfl) rfl
theorem q1002 : (Jvm.Cond.selects "AdjectiveCoupons" ({ cls := "AdjectiveCoupons", name := "undo", desc := "()I" } : Jvm.MethodName) ({ cls := "AdjectiveCoupons", name := "undo", desc := "()I" } : Jvm.MethodName)) ∈ lw_all := lw_g (lw_at lw_m4 205 rfl) rfl
theorem q1003 : (Jvm.Cond.code ({ cls := "AdjectiveCoupons", name := "undo", desc := "()I" } : Jvm.MethodName) prog_1_method_40_code (1 : Nat) (Option.some Jvm.ClassFile.FieldType.int)) ∈ lw_all := lw_g (lw_at lw_m4 206 rfl) rfl
theorem q1005 : (Jvm.Cond.instanceMethod ({ cls := "AdjectiveCoupons", name := "keep", desc := "(I)I" } : Jvm.MethodName)) ∈ lw_all := lw_g (lw_at lw_m4 208 rfl) rfl
theorem q1006 : (Jvm.Cond.selects "AdjectiveCoupons" ({ cls := "AdjectiveCoupons", name := "keep", desc := "(I)I" } : Jvm.MethodName) ({ cls := "AdjectiveCoupons", name := "keep", desc := "(I)I" } : Jvm.MethodName)) ∈ lw_all := lw_g (lw_at lw_m4 209 rfl) rfl
theorem q1007 : (Jvm.Cond.code ({ cls := "AdjectiveCoupons", name := "keep", desc := "(I)I" } : Jvm.MethodName) prog_1_method_41_code (2 : Nat) (Option.some Jvm.ClassFile.FieldType.int)) ∈ lw_all := lw_g (lw_at lw_m4 210 rfl) rfl
theorem q1009 : (Jvm.Cond.instanceMethod ({ cls := "AdjectiveCoupons", name := "back", desc := "(I)I" } : Jvm.MethodName)) ∈ lw_all := lw_g (lw_at lw_m4 212 rfl) rfl
theorem q1010 : (Jvm.Cond.selects "AdjectiveCoupons" ({ cls := "AdjectiveCoupons", name := "back", desc := "(I)I" } : Jvm.MethodName) ({ cls := "AdjectiveCoupons", name := "back", desc := "(I)I" } : Jvm.MethodName)) ∈ lw_all := lw_g (lw_at lw_m4 213 rfl) rfl
theorem q1011 : (Jvm.Cond.codeWith ({ cls := "AdjectiveCoupons", name := "back", desc := "(I)I" } : Jvm.MethodName) prog_1_method_42_code (3 : Nat) (Option.some Jvm.ClassFile.FieldType.int) [((13 : Nat), (27 : Nat), (30 : Nat), (309 : Nat))]) ∈ lw_all := lw_g (lw_at lw_m4 214 rfl) rfl
theorem q1012 : (Jvm.Cond.classLink "AdjectiveCoupons" (309 : Nat) "java/lang/NullPointerException") ∈ lw_all := lw_g (lw_at lw_m4 215 rfl) rfl
theorem q1038 : (Jvm.Cond.instanceMethod ({ cls := "AdjectiveCoupons", name := "cheapest", desc := "(I)I" } : Jvm.MethodName)) ∈ lw_all := lw_g (lw_at lw_m5 1 rfl) rfl
theorem q1039 : (Jvm.Cond.selects "AdjectiveCoupons" ({ cls := "AdjectiveCoupons", name := "cheapest", desc := "(I)I" } : Jvm.MethodName) ({ cls := "AdjectiveCoupons", name := "cheapest", desc := "(I)I" } : Jvm.MethodName)) ∈ lw_all := lw_g (lw_at lw_m5 2 rfl) rfl
theorem q1040 : (Jvm.Cond.code ({ cls := "AdjectiveCoupons", name := "cheapest", desc := "(I)I" } : Jvm.MethodName) prog_1_method_45_code (2 : Nat) (Option.some Jvm.ClassFile.FieldType.int)) ∈ lw_all := lw_g (lw_at lw_m5 3 rfl) rfl
theorem q1041 : (Jvm.Cond.methodLink "AdjectiveCoupons" (327 : Nat) ({ cls := "AdjectiveCoupons", name := "isOrdered", desc := "()Z" } : Jvm.MethodName)) ∈ lw_all := lw_g (lw_at lw_m5 4 rfl) rfl
theorem q1042 : (Jvm.Cond.privateMethod ({ cls := "AdjectiveCoupons", name := "isOrdered", desc := "()Z" } : Jvm.MethodName)) ∈ lw_tbl := lw_at lw_m5 5 rfl
theorem q1043 : (Jvm.Cond.instanceMethod ({ cls := "AdjectiveCoupons", name := "isOrdered", desc := "()Z" } : Jvm.MethodName)) ∈ lw_all := lw_g (lw_at lw_m5 6 rfl) rfl
theorem q1044 : (Jvm.Cond.code ({ cls := "AdjectiveCoupons", name := "isOrdered", desc := "()Z" } : Jvm.MethodName) prog_1_method_44_code (1 : Nat) (Option.some Jvm.ClassFile.FieldType.boolean)) ∈ lw_all := lw_g (lw_at lw_m5 7 rfl) rfl
theorem q1045 : (Jvm.Cond.methodLink "AdjectiveCoupons" (324 : Nat) ({ cls := "AdjectiveCoupons", name := "layOrders", desc := "(II)V" } : Jvm.MethodName)) ∈ lw_all := lw_g (lw_at lw_m5 8 rfl) rfl
theorem q1046 : (Jvm.Cond.privateMethod ({ cls := "AdjectiveCoupons", name := "layOrders", desc := "(II)V" } : Jvm.MethodName)) ∈ lw_tbl := lw_at lw_m5 9 rfl
theorem q1047 : (Jvm.Cond.instanceMethod ({ cls := "AdjectiveCoupons", name := "layOrders", desc := "(II)V" } : Jvm.MethodName)) ∈ lw_all := lw_g (lw_at lw_m5 10 rfl) rfl
theorem q1048 : (Jvm.Cond.code ({ cls := "AdjectiveCoupons", name := "layOrders", desc := "(II)V" } : Jvm.MethodName) prog_1_method_43_code (6 : Nat) (Option.none : Option Jvm.ClassFile.FieldType)) ∈ lw_all := lw_g (lw_at lw_m5 11 rfl) rfl
theorem q1049 : (Jvm.Cond.fieldLink "AdjectiveCoupons" (311 : Nat) "AdjectiveCoupons" "PLAINEST" "LAdjectiveCoupons$One;") ∈ lw_all := lw_g (lw_at lw_m5 12 rfl) rfl
theorem q1050 : (Jvm.Cond.laysStatic "AdjectiveCoupons" "PLAINEST" "LAdjectiveCoupons$One;") ∈ lw_tbl := lw_at lw_m5 13 rfl
theorem q1051 : (Jvm.Cond.methodLink "AdjectiveCoupons" (321 : Nat) ({ cls := "java/lang/Math", name := "max", desc := "(II)I" } : Jvm.MethodName)) ∈ lw_all := lw_g (lw_at lw_m5 14 rfl) rfl
theorem q1053 : (Jvm.Cond.instanceMethod ({ cls := "AdjectiveCoupons", name := "loophole", desc := "()I" } : Jvm.MethodName)) ∈ lw_all := lw_g (lw_at lw_m5 16 rfl) rfl
theorem q1054 : (Jvm.Cond.selects "AdjectiveCoupons" ({ cls := "AdjectiveCoupons", name := "loophole", desc := "()I" } : Jvm.MethodName) ({ cls := "AdjectiveCoupons", name := "loophole", desc := "()I" } : Jvm.MethodName)) ∈ lw_all := lw_g (lw_at lw_m5 17 rfl) rfl
theorem q1055 : (Jvm.Cond.code ({ cls := "AdjectiveCoupons", name := "loophole", desc := "()I" } : Jvm.MethodName) prog_1_method_46_code (1 : Nat) (Option.some Jvm.ClassFile.FieldType.int)) ∈ lw_all := lw_g (lw_at lw_m5 18 rfl) rfl
theorem q1057 : (Jvm.Cond.instanceMethod ({ cls := "AdjectiveCoupons", name := "leftOut", desc := "(II)I" } : Jvm.MethodName)) ∈ lw_all := lw_g (lw_at lw_m5 20 rfl) rfl
theorem q1058 : (Jvm.Cond.selects "AdjectiveCoupons" ({ cls := "AdjectiveCoupons", name := "leftOut", desc := "(II)I" } : Jvm.MethodName) ({ cls := "AdjectiveCoupons", name := "leftOut", desc := "(II)I" } : Jvm.MethodName)) ∈ lw_all := lw_g (lw_at lw_m5 21 rfl) rfl
theorem q1059 : (Jvm.Cond.code ({ cls := "AdjectiveCoupons", name := "leftOut", desc := "(II)I" } : Jvm.MethodName) prog_1_method_48_code (6 : Nat) (Option.some Jvm.ClassFile.FieldType.int)) ∈ lw_all := lw_g (lw_at lw_m5 22 rfl) rfl
theorem q1060 : (Jvm.Cond.methodLink "AdjectiveCoupons" (330 : Nat) ({ cls := "java/lang/Integer", name := "bitCount", desc := "(I)I" } : Jvm.MethodName)) ∈ lw_all := lw_g (lw_at lw_m5 23 rfl) rfl
theorem q1066 : (Jvm.Cond.methodLink "AdjectiveCoupons" (335 : Nat) ({ cls := "AdjectiveCoupons", name := "without", desc := "(I)I" } : Jvm.MethodName)) ∈ lw_all := lw_g (lw_at lw_m5 29 rfl) rfl
theorem q1067 : (Jvm.Cond.privateMethod ({ cls := "AdjectiveCoupons", name := "without", desc := "(I)I" } : Jvm.MethodName)) ∈ lw_tbl := lw_at lw_m5 30 rfl
theorem q1068 : (Jvm.Cond.instanceMethod ({ cls := "AdjectiveCoupons", name := "without", desc := "(I)I" } : Jvm.MethodName)) ∈ lw_all := lw_g (lw_at lw_m5 31 rfl) rfl
theorem q1069 : (Jvm.Cond.code ({ cls := "AdjectiveCoupons", name := "without", desc := "(I)I" } : Jvm.MethodName) prog_1_method_47_code (4 : Nat) (Option.some Jvm.ClassFile.FieldType.int)) ∈ lw_all := lw_g (lw_at lw_m5 32 rfl) rfl
theorem q1071 : (Jvm.Cond.instanceMethod ({ cls := "AdjectiveCoupons", name := "holes", desc := "(II)I" } : Jvm.MethodName)) ∈ lw_all := lw_g (lw_at lw_m5 34 rfl) rfl
theorem q1072 : (Jvm.Cond.selects "AdjectiveCoupons" ({ cls := "AdjectiveCoupons", name := "holes", desc := "(II)I" } : Jvm.MethodName) ({ cls := "AdjectiveCoupons", name := "holes", desc := "(II)I" } : Jvm.MethodName)) ∈ lw_all := lw_g (lw_at lw_m5 35 rfl) rfl
theorem q1073 : (Jvm.Cond.code ({ cls := "AdjectiveCoupons", name := "holes", desc := "(II)I" } : Jvm.MethodName) prog_1_method_49_code (9 : Nat) (Option.some Jvm.ClassFile.FieldType.int)) ∈ lw_all := lw_g (lw_at lw_m5 36 rfl) rfl
theorem q1074 : (Jvm.Cond.methodLink "AdjectiveCoupons" (338 : Nat) ({ cls := "AdjectiveCoupons", name := "fill", desc := "(I)V" } : Jvm.MethodName)) ∈ lw_all := lw_g (lw_at lw_m5 37 rfl) rfl
theorem q1075 : (Jvm.Cond.privateMethod ({ cls := "AdjectiveCoupons", name := "fill", desc := "(I)V" } : Jvm.MethodName)) ∈ lw_tbl := lw_at lw_m5 38 rfl
theorem q1076 : (Jvm.Cond.instanceMethod ({ cls := "AdjectiveCoupons", name := "fill", desc := "(I)V" } : Jvm.MethodName)) ∈ lw_all := lw_g (lw_at lw_m5 39 rfl) rfl
theorem q1077 : (Jvm.Cond.code ({ cls := "AdjectiveCoupons", name := "fill", desc := "(I)V" } : Jvm.MethodName) prog_1_method_50_code (4 : Nat) (Option.none : Option Jvm.ClassFile.FieldType)) ∈ lw_all := lw_g (lw_at lw_m5 40 rfl) rfl
theorem q1079 : (Jvm.Cond.instanceMethod ({ cls := "AdjectiveCoupons", name := "draft", desc := "()I" } : Jvm.MethodName)) ∈ lw_all := lw_g (lw_at lw_m5 42 rfl) rfl
theorem q1080 : (Jvm.Cond.selects "AdjectiveCoupons" ({ cls := "AdjectiveCoupons", name := "draft", desc := "()I" } : Jvm.MethodName) ({ cls := "AdjectiveCoupons", name := "draft", desc := "()I" } : Jvm.MethodName)) ∈ lw_all := lw_g (lw_at lw_m5 43 rfl) rfl
theorem q1081 : (Jvm.Cond.code ({ cls := "AdjectiveCoupons", name := "draft", desc := "()I" } : Jvm.MethodName) prog_1_method_51_code (1 : Nat) (Option.some Jvm.ClassFile.FieldType.int)) ∈ lw_all := lw_g (lw_at lw_m5 44 rfl) rfl
theorem q1082 : (Jvm.Cond.methodLink "AdjectiveCoupons" (340 : Nat) ({ cls := "java/util/Arrays", name := "copyOf", desc := "([II)[I" } : Jvm.MethodName)) ∈ lw_all := lw_g (lw_at lw_m5 45 rfl) rfl
theorem q1086 : (Jvm.Cond.instanceMethod ({ cls := "AdjectiveCoupons", name := "burn", desc := "()I" } : Jvm.MethodName)) ∈ lw_all := lw_g (lw_at lw_m5 49 rfl) rfl
theorem q1087 : (Jvm.Cond.selects "AdjectiveCoupons" ({ cls := "AdjectiveCoupons", name := "burn", desc := "()I" } : Jvm.MethodName) ({ cls := "AdjectiveCoupons", name := "burn", desc := "()I" } : Jvm.MethodName)) ∈ lw_all := lw_g (lw_at lw_m5 50 rfl) rfl
theorem q1088 : (Jvm.Cond.code ({ cls := "AdjectiveCoupons", name := "burn", desc := "()I" } : Jvm.MethodName) prog_1_method_52_code (2 : Nat) (Option.some Jvm.ClassFile.FieldType.int)) ∈ lw_all := lw_g (lw_at lw_m5 51 rfl) rfl
theorem q1090 : (Jvm.Cond.instanceMethod ({ cls := "AdjectiveCoupons", name := "drafted", desc := "(III)I" } : Jvm.MethodName)) ∈ lw_all := lw_g (lw_at lw_m5 53 rfl) rfl
theorem q1091 : (Jvm.Cond.selects "AdjectiveCoupons" ({ cls := "AdjectiveCoupons", name := "drafted", desc := "(III)I" } : Jvm.MethodName) ({ cls := "AdjectiveCoupons", name := "drafted", desc := "(III)I" } : Jvm.MethodName)) ∈ lw_all := lw_g (lw_at lw_m5 54 rfl) rfl
theorem q1092 : (Jvm.Cond.code ({ cls := "AdjectiveCoupons", name := "drafted", desc := "(III)I" } : Jvm.MethodName) prog_1_method_53_code (5 : Nat) (Option.some Jvm.ClassFile.FieldType.int)) ∈ lw_all := lw_g (lw_at lw_m5 55 rfl) rfl
theorem q1094 : (Jvm.Cond.instanceMethod ({ cls := "AdjectiveCoupons", name := "page", desc := "(II)I" } : Jvm.MethodName)) ∈ lw_all := lw_g (lw_at lw_m5 57 rfl) rfl
theorem q1095 : (Jvm.Cond.selects "AdjectiveCoupons" ({ cls := "AdjectiveCoupons", name := "page", desc := "(II)I" } : Jvm.MethodName) ({ cls := "AdjectiveCoupons", name := "page", desc := "(II)I" } : Jvm.MethodName)) ∈ lw_all := lw_g (lw_at lw_m5 58 rfl) rfl
theorem q1096 : (Jvm.Cond.code ({ cls := "AdjectiveCoupons", name := "page", desc := "(II)I" } : Jvm.MethodName) prog_1_method_55_code (7 : Nat) (Option.some Jvm.ClassFile.FieldType.int)) ∈ lw_all := lw_g (lw_at lw_m5 59 rfl) rfl
theorem q1097 : (Jvm.Cond.methodLink "AdjectiveCoupons" (344 : Nat) ({ cls := "AdjectiveCoupons", name := "worthOfAll", desc := "(I)I" } : Jvm.MethodName)) ∈ lw_all := lw_g (lw_at lw_m5 60 rfl) rfl
theorem q1098 : (Jvm.Cond.privateMethod ({ cls := "AdjectiveCoupons", name := "worthOfAll", desc := "(I)I" } : Jvm.MethodName)) ∈ lw_tbl := lw_at lw_m5 61 rfl
theorem q1099 : (Jvm.Cond.instanceMethod ({ cls := "AdjectiveCoupons", name := "worthOfAll", desc := "(I)I" } : Jvm.MethodName)) ∈ lw_all := lw_g (lw_at lw_m5 62 rfl) rfl
theorem q1100 : (Jvm.Cond.code ({ cls := "AdjectiveCoupons", name := "worthOfAll", desc := "(I)I" } : Jvm.MethodName) prog_1_method_54_code (4 : Nat) (Option.some Jvm.ClassFile.FieldType.int)) ∈ lw_all := lw_g (lw_at lw_m5 63 rfl) rfl
theorem q1102 : (Jvm.Cond.instanceMethod ({ cls := "AdjectiveCoupons", name := "plan", desc := "(II)I" } : Jvm.MethodName)) ∈ lw_all := lw_g (lw_at lw_m5 65 rfl) rfl
theorem q1103 : (Jvm.Cond.selects "AdjectiveCoupons" ({ cls := "AdjectiveCoupons", name := "plan", desc := "(II)I" } : Jvm.MethodName) ({ cls := "AdjectiveCoupons", name := "plan", desc := "(II)I" } : Jvm.MethodName)) ∈ lw_all := lw_g (lw_at lw_m5 66 rfl) rfl
theorem q1104 : (Jvm.Cond.code ({ cls := "AdjectiveCoupons", name := "plan", desc := "(II)I" } : Jvm.MethodName) prog_1_method_57_code (5 : Nat) (Option.some Jvm.ClassFile.FieldType.int)) ∈ lw_all := lw_g (lw_at lw_m5 67 rfl) rfl
theorem q1105 : (Jvm.Cond.methodLink "AdjectiveCoupons" (347 : Nat) ({ cls := "AdjectiveCoupons", name := "canPay", desc := "(II)Z" } : Jvm.MethodName)) ∈ lw_all := lw_g (lw_at lw_m5 68 rfl) rfl
theorem q1106 : (Jvm.Cond.privateMethod ({ cls := "AdjectiveCoupons", name := "canPay", desc := "(II)Z" } : Jvm.MethodName)) ∈ lw_tbl := lw_at lw_m5 69 rfl
theorem q1107 : (Jvm.Cond.instanceMethod ({ cls := "AdjectiveCoupons", name := "canPay", desc := "(II)Z" } : Jvm.MethodName)) ∈ lw_all := lw_g (lw_at lw_m5 70 rfl) rfl
theorem q1108 : (Jvm.Cond.code ({ cls := "AdjectiveCoupons", name := "canPay", desc := "(II)Z" } : Jvm.MethodName) prog_1_method_56_code (5 : Nat) (Option.some Jvm.ClassFile.FieldType.boolean)) ∈ lw_all := lw_g (lw_at lw_m5 71 rfl) rfl
theorem q1110 : (Jvm.Cond.instanceMethod ({ cls := "AdjectiveCoupons", name := "likeness", desc := "(I)I" } : Jvm.MethodName)) ∈ lw_all := lw_g (lw_at lw_m5 73 rfl) rfl
theorem q1111 : (Jvm.Cond.selects "AdjectiveCoupons" ({ cls := "AdjectiveCoupons", name := "likeness", desc := "(I)I" } : Jvm.MethodName) ({ cls := "AdjectiveCoupons", name := "likeness", desc := "(I)I" } : Jvm.MethodName)) ∈ lw_all := lw_g (lw_at lw_m5 74 rfl) rfl
theorem q1112 : (Jvm.Cond.code ({ cls := "AdjectiveCoupons", name := "likeness", desc := "(I)I" } : Jvm.MethodName) prog_1_method_59_code (2 : Nat) (Option.some Jvm.ClassFile.FieldType.int)) ∈ lw_all := lw_g (lw_at lw_m5 75 rfl) rfl
theorem q1113 : (Jvm.Cond.methodLink "AdjectiveCoupons" (350 : Nat) ({ cls := "AdjectiveCoupons", name := "likenessOf", desc := "(I)I" } : Jvm.MethodName)) ∈ lw_all := lw_g (lw_at lw_m5 76 rfl) rfl
theorem q1114 : (Jvm.Cond.privateMethod ({ cls := "AdjectiveCoupons", name := "likenessOf", desc := "(I)I" } : Jvm.MethodName)) ∈ lw_tbl := lw_at lw_m5 77 rfl
theorem q1115 : (Jvm.Cond.instanceMethod ({ cls := "AdjectiveCoupons", name := "likenessOf", desc := "(I)I" } : Jvm.MethodName)) ∈ lw_all := lw_g (lw_at lw_m5 78 rfl) rfl
theorem q1116 : (Jvm.Cond.code ({ cls := "AdjectiveCoupons", name := "likenessOf", desc := "(I)I" } : Jvm.MethodName) prog_1_method_58_code (5 : Nat) (Option.some Jvm.ClassFile.FieldType.int)) ∈ lw_all := lw_g (lw_at lw_m5 79 rfl) rfl
theorem q1118 : (Jvm.Cond.instanceMethod ({ cls := "AdjectiveCoupons", name := "author", desc := "()I" } : Jvm.MethodName)) ∈ lw_all := lw_g (lw_at lw_m5 81 rfl) rfl
theorem q1119 : (Jvm.Cond.selects "AdjectiveCoupons" ({ cls := "AdjectiveCoupons", name := "author", desc := "()I" } : Jvm.MethodName) ({ cls := "AdjectiveCoupons", name := "author", desc := "()I" } : Jvm.MethodName)) ∈ lw_all := lw_g (lw_at lw_m5 82 rfl) rfl
theorem q1120 : (Jvm.Cond.code ({ cls := "AdjectiveCoupons", name := "author", desc := "()I" } : Jvm.MethodName) prog_1_method_60_code (3 : Nat) (Option.some Jvm.ClassFile.FieldType.int)) ∈ lw_all := lw_g (lw_at lw_m5 83 rfl) rfl
theorem q1122 : (Jvm.Cond.instanceMethod ({ cls := "AdjectiveCoupons", name := "left", desc := "(I)I" } : Jvm.MethodName)) ∈ lw_all := lw_g (lw_at lw_m5 85 rfl) rfl
theorem q1123 : (Jvm.Cond.selects "AdjectiveCoupons" ({ cls := "AdjectiveCoupons", name := "left", desc := "(I)I" } : Jvm.MethodName) ({ cls := "AdjectiveCoupons", name := "left", desc := "(I)I" } : Jvm.MethodName)) ∈ lw_all := lw_g (lw_at lw_m5 86 rfl) rfl
theorem q1124 : (Jvm.Cond.code ({ cls := "AdjectiveCoupons", name := "left", desc := "(I)I" } : Jvm.MethodName) prog_1_method_62_code (7 : Nat) (Option.some Jvm.ClassFile.FieldType.int)) ∈ lw_all := lw_g (lw_at lw_m5 87 rfl) rfl
theorem q1125 : (Jvm.Cond.constantLong "AdjectiveCoupons" (353 : Nat) (2 : Int64)) ∈ lw_all := lw_g (lw_at lw_m5 88 rfl) rfl
theorem q1126 : (Jvm.Cond.methodLink "AdjectiveCoupons" (355 : Nat) ({ cls := "AdjectiveCoupons", name := "isLeft", desc := "(II)Z" } : Jvm.MethodName)) ∈ lw_all := lw_g (lw_at lw_m5 89 rfl) rfl
theorem q1127 : (Jvm.Cond.privateMethod ({ cls := "AdjectiveCoupons", name := "isLeft", desc := "(II)Z" } : Jvm.MethodName)) ∈ lw_tbl := lw_at lw_m5 90 rfl
theorem q1128 : (Jvm.Cond.instanceMethod ({ cls := "AdjectiveCoupons", name := "isLeft", desc := "(II)Z" } : Jvm.MethodName)) ∈ lw_all := lw_g (lw_at lw_m5 91 rfl) rfl
theorem q1129 : (Jvm.Cond.code ({ cls := "AdjectiveCoupons", name := "isLeft", desc := "(II)Z" } : Jvm.MethodName) prog_1_method_61_code (4 : Nat) (Option.some Jvm.ClassFile.FieldType.boolean)) ∈ lw_all := lw_g (lw_at lw_m5 92 rfl) rfl
theorem q1131 : (Jvm.Cond.instanceMethod ({ cls := "AdjectiveCoupons", name := "net", desc := "(I)I" } : Jvm.MethodName)) ∈ lw_all := lw_g (lw_at lw_m5 94 rfl) rfl
theorem q1132 : (Jvm.Cond.selects "AdjectiveCoupons" ({ cls := "AdjectiveCoupons", name := "net", desc := "(I)I" } : Jvm.MethodName) ({ cls := "AdjectiveCoupons", name := "net", desc := "(I)I" } : Jvm.MethodName)) ∈ lw_all := lw_g (lw_at lw_m5 95 rfl) rfl
theorem q1133 : (Jvm.Cond.code ({ cls := "AdjectiveCoupons", name := "net", desc := "(I)I" } : Jvm.MethodName) prog_1_method_63_code (2 : Nat) (Option.some Jvm.ClassFile.FieldType.int)) ∈ lw_all := lw_g (lw_at lw_m5 96 rfl) rfl
theorem q1134 : (Jvm.Cond.methodLink "AdjectiveCoupons" (358 : Nat) ({ cls := "AdjectiveCoupons$State", name := "net", desc := "(I)I" } : Jvm.MethodName)) ∈ lw_all := lw_g (lw_at lw_m5 97 rfl) rfl
theorem q1139 : (Jvm.Cond.instanceMethod ({ cls := "AdjectiveCoupons", name := "payments", desc := "()I" } : Jvm.MethodName)) ∈ lw_all := lw_g (lw_at lw_m5 102 rfl) rfl
theorem q1140 : (Jvm.Cond.selects "AdjectiveCoupons" ({ cls := "AdjectiveCoupons", name := "payments", desc := "()I" } : Jvm.MethodName) ({ cls := "AdjectiveCoupons", name := "payments", desc := "()I" } : Jvm.MethodName)) ∈ lw_all := lw_g (lw_at lw_m5 103 rfl) rfl
theorem q1141 : (Jvm.Cond.code ({ cls := "AdjectiveCoupons", name := "payments", desc := "()I" } : Jvm.MethodName) prog_1_method_65_code (3 : Nat) (Option.some Jvm.ClassFile.FieldType.int)) ∈ lw_all := lw_g (lw_at lw_m5 104 rfl) rfl
theorem q1142 : (Jvm.Cond.methodLink "AdjectiveCoupons" (361 : Nat) ({ cls := "AdjectiveCoupons", name := "partsOf", desc := "(I)I" } : Jvm.MethodName)) ∈ lw_all := lw_g (lw_at lw_m5 105 rfl) rfl
theorem q1143 : (Jvm.Cond.privateMethod ({ cls := "AdjectiveCoupons", name := "partsOf", desc := "(I)I" } : Jvm.MethodName)) ∈ lw_tbl := lw_at lw_m5 106 rfl
theorem q1144 : (Jvm.Cond.instanceMethod ({ cls := "AdjectiveCoupons", name := "partsOf", desc := "(I)I" } : Jvm.MethodName)) ∈ lw_all := lw_g (lw_at lw_m5 107 rfl) rfl
theorem q1145 : (Jvm.Cond.code ({ cls := "AdjectiveCoupons", name := "partsOf", desc := "(I)I" } : Jvm.MethodName) prog_1_method_64_code (8 : Nat) (Option.some Jvm.ClassFile.FieldType.int)) ∈ lw_all := lw_g (lw_at lw_m5 108 rfl) rfl
theorem q1147 : (Jvm.Cond.instanceMethod ({ cls := "AdjectiveCoupons", name := "count", desc := "(I)I" } : Jvm.MethodName)) ∈ lw_all := lw_g (lw_at lw_m5 110 rfl) rfl
theorem q1148 : (Jvm.Cond.selects "AdjectiveCoupons" ({ cls := "AdjectiveCoupons", name := "count", desc := "(I)I" } : Jvm.MethodName) ({ cls := "AdjectiveCoupons", name := "count", desc := "(I)I" } : Jvm.MethodName)) ∈ lw_all := lw_g (lw_at lw_m5 111 rfl) rfl
theorem q1149 : (Jvm.Cond.code ({ cls := "AdjectiveCoupons", name := "count", desc := "(I)I" } : Jvm.MethodName) prog_1_method_66_code (5 : Nat) (Option.some Jvm.ClassFile.FieldType.int)) ∈ lw_all := lw_g (lw_at lw_m5 112 rfl) rfl
theorem q1643 : (Jvm.Cond.castable "AdjectiveCoupons" "java/lang/Object") ∈ lw_tbl := lw_at lw_m7 126 rfl
theorem q1672 : (Jvm.Cond.stringRef "AdjectiveCoupons" (377 : Nat) "noun") ∈ lw_tbl := lw_at lw_m7 155 rfl
theorem q1673 : (Jvm.Cond.stringRef "AdjectiveCoupons" (379 : Nat) "plain") ∈ lw_tbl := lw_at lw_m7 156 rfl
theorem q1674 : (Jvm.Cond.stringRef "AdjectiveCoupons" (381 : Nat) "colour") ∈ lw_tbl := lw_at lw_m7 157 rfl
theorem q1675 : (Jvm.Cond.stringRef "AdjectiveCoupons" (383 : Nat) "half") ∈ lw_tbl := lw_at lw_m7 158 rfl
theorem q1676 : (Jvm.Cond.stringRef "AdjectiveCoupons" (385 : Nat) "name") ∈ lw_tbl := lw_at lw_m7 159 rfl
theorem q1677 : (Jvm.Cond.stringRef "AdjectiveCoupons" (387 : Nat) "citizen") ∈ lw_tbl := lw_at lw_m7 160 rfl
theorem q1678 : (Jvm.Cond.stringRef "AdjectiveCoupons" (389 : Nat) "lover") ∈ lw_tbl := lw_at lw_m7 161 rfl
theorem q1679 : (Jvm.Cond.stringRef "AdjectiveCoupons" (391 : Nat) "critic") ∈ lw_tbl := lw_at lw_m7 162 rfl
theorem q1680 : (Jvm.Cond.stringRef "AdjectiveCoupons" (393 : Nat) "poet") ∈ lw_tbl := lw_at lw_m7 163 rfl
theorem q1681 : (Jvm.Cond.stringRef "AdjectiveCoupons" (395 : Nat) "realm") ∈ lw_tbl := lw_at lw_m7 164 rfl
theorem q1682 : (Jvm.Cond.stringRef "AdjectiveCoupons" (397 : Nat) "change") ∈ lw_tbl := lw_at lw_m7 165 rfl
theorem q1683 : (Jvm.Cond.stringRef "AdjectiveCoupons" (399 : Nat) "ration") ∈ lw_tbl := lw_at lw_m7 166 rfl
theorem q1684 : (Jvm.Cond.stringRef "AdjectiveCoupons" (400 : Nat) "names") ∈ lw_tbl := lw_at lw_m7 167 rfl
theorem q1685 : (Jvm.Cond.stringRef "AdjectiveCoupons" (402 : Nat) "twice") ∈ lw_tbl := lw_at lw_m7 168 rfl
theorem q1686 : (Jvm.Cond.stringRef "AdjectiveCoupons" (404 : Nat) "swell") ∈ lw_tbl := lw_at lw_m7 169 rfl
theorem q1687 : (Jvm.Cond.stringRef "AdjectiveCoupons" (406 : Nat) "mild") ∈ lw_tbl := lw_at lw_m7 170 rfl
theorem in_X0 : ∀ w ∈ wsX00, w ∈ lw_all := lw_in wsX00 [195, 197, 199, 201, 203, 205, 207, 209, 211, 213, 215, 217, 219, 221, 223, 225, 227, 229, 231, 233, 235, 237, 239, 241] (by decide +kernel) (by decide +kernel)
