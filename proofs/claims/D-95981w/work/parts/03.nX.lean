/-! AdjectiveCoupons$State -/
set_option maxRecDepth 100000
def RX1 : String := "AdjectiveCoupons$State"
def TX1 : u_T := fun k => match k with
  | 0 => ("AdjectiveCoupons$State", "halves", "[I", true)
  | 1 => ("AdjectiveCoupons$State", "loaves", "[I", true)
  | 2 => ("AdjectiveCoupons$State", "fined", "[I", true)
  | 3 => ("AdjectiveCoupons$State", "worth", "[I", true)
  | 4 => ("AdjectiveCoupons$State", "said", "[[I", true)
  | 5 => ("AdjectiveCoupons$State", "owes", "[[I", true)
  | _ => ("AdjectiveCoupons$State", "week", "I", false)
def tyX1 : Nat → FieldType := fun k => match k with
  | 0 => .array .int
  | 1 => .array .int
  | 2 => .array .int
  | 3 => .array .int
  | 4 => .array (.array .int)
  | 5 => .array (.array .int)
  | _ => .int
abbrev wsX10 : List Cond := u_ws RX1 TX1 7
theorem nmX1 : ∀ a, a < 7 → ∀ b, b < 7 → a ≠ b → (TX1 a).2.1 ≠ (TX1 b).2.1 := by decide +kernel
theorem tyX1_ok : ∀ k, k < 7 → parseFieldDescriptor (TX1 k).2.2.1 = some (tyX1 k) := by decide +kernel
abbrev cX1_init : ByteArray := prog_16_method_1_code
def yX1_init : MethodName := ⟨RX1, "<init>", "()V"⟩
def dkwX1_init_2 : List UInt8 := [197, 0, 24, 2, 181, 0, 29, 177]
abbrev dktX1_init_2 : List UInt8 := dkwX1_init_2 ++ []
def dkwX1_init_1 : List UInt8 := [181, 0, 18, 42, 7, 188, 10, 181, 0, 21, 42, 7, 16, 10, 197, 0, 24, 2, 181, 0, 26, 42, 7, 7]
abbrev dktX1_init_1 : List UInt8 := dkwX1_init_1 ++ dktX1_init_2
def dkwX1_init_0 : List UInt8 := [42, 183, 0, 3, 42, 7, 188, 10, 181, 0, 9, 42, 7, 188, 10, 181, 0, 15, 42, 7, 188, 10]
abbrev dktX1_init_0 : List UInt8 := dkwX1_init_0 ++ dktX1_init_1
theorem dksX1_init_0 : cX1_init.data.toList.drop 0 = dktX1_init_0 := by decide +kernel
theorem dksX1_init_1 : cX1_init.data.toList.drop 22 = dktX1_init_1 := dk_seg dksX1_init_0 22 rfl rfl
theorem dksX1_init_2 : cX1_init.data.toList.drop 46 = dktX1_init_2 := dk_seg dksX1_init_1 24 rfl rfl
theorem dX1_init_0 : decode cX1_init 0 = .ok (.aload_n 0, 1) := dk_42 (dk_at dksX1_init_0 0 rfl rfl)
theorem dX1_init_1 : decode cX1_init 1 = .ok (.invokespecial 3, 3) := dk_183 0 3 (dk_at dksX1_init_0 1 rfl rfl)
theorem dX1_init_4 : decode cX1_init 4 = .ok (.aload_n 0, 1) := dk_42 (dk_at dksX1_init_0 4 rfl rfl)
theorem dX1_init_5 : decode cX1_init 5 = .ok (.iconst 4, 1) := dk_7 (dk_at dksX1_init_0 5 rfl rfl)
theorem dX1_init_6 : decode cX1_init 6 = .ok (.newarray .int, 2) := dk_188_10 (dk_at dksX1_init_0 6 rfl rfl)
theorem dX1_init_8 : decode cX1_init 8 = .ok (.putfield 9, 3) := dk_181 0 9 (dk_at dksX1_init_0 8 rfl rfl)
theorem dX1_init_11 : decode cX1_init 11 = .ok (.aload_n 0, 1) := dk_42 (dk_at dksX1_init_0 11 rfl rfl)
theorem dX1_init_12 : decode cX1_init 12 = .ok (.iconst 4, 1) := dk_7 (dk_at dksX1_init_0 12 rfl rfl)
theorem dX1_init_13 : decode cX1_init 13 = .ok (.newarray .int, 2) := dk_188_10 (dk_at dksX1_init_0 13 rfl rfl)
theorem dX1_init_15 : decode cX1_init 15 = .ok (.putfield 15, 3) := dk_181 0 15 (dk_at dksX1_init_0 15 rfl rfl)
theorem dX1_init_18 : decode cX1_init 18 = .ok (.aload_n 0, 1) := dk_42 (dk_at dksX1_init_0 18 rfl rfl)
theorem dX1_init_19 : decode cX1_init 19 = .ok (.iconst 4, 1) := dk_7 (dk_at dksX1_init_0 19 rfl rfl)
theorem dX1_init_20 : decode cX1_init 20 = .ok (.newarray .int, 2) := dk_188_10 (dk_at dksX1_init_0 20 rfl rfl)
theorem dX1_init_22 : decode cX1_init 22 = .ok (.putfield 18, 3) := dk_181 0 18 (dk_at dksX1_init_1 0 rfl rfl)
theorem dX1_init_25 : decode cX1_init 25 = .ok (.aload_n 0, 1) := dk_42 (dk_at dksX1_init_1 3 rfl rfl)
theorem dX1_init_26 : decode cX1_init 26 = .ok (.iconst 4, 1) := dk_7 (dk_at dksX1_init_1 4 rfl rfl)
theorem dX1_init_27 : decode cX1_init 27 = .ok (.newarray .int, 2) := dk_188_10 (dk_at dksX1_init_1 5 rfl rfl)
theorem dX1_init_29 : decode cX1_init 29 = .ok (.putfield 21, 3) := dk_181 0 21 (dk_at dksX1_init_1 7 rfl rfl)
theorem dX1_init_32 : decode cX1_init 32 = .ok (.aload_n 0, 1) := dk_42 (dk_at dksX1_init_1 10 rfl rfl)
theorem dX1_init_33 : decode cX1_init 33 = .ok (.iconst 4, 1) := dk_7 (dk_at dksX1_init_1 11 rfl rfl)
theorem dX1_init_34 : decode cX1_init 34 = .ok (.bipush 10, 2) := dk_16 10 (dk_at dksX1_init_1 12 rfl rfl)
theorem dX1_init_36 : decode cX1_init 36 = .ok (.multianewarray 24 2, 4) := by decide +kernel
theorem dX1_init_40 : decode cX1_init 40 = .ok (.putfield 26, 3) := dk_181 0 26 (dk_at dksX1_init_1 18 rfl rfl)
theorem dX1_init_43 : decode cX1_init 43 = .ok (.aload_n 0, 1) := dk_42 (dk_at dksX1_init_1 21 rfl rfl)
theorem dX1_init_44 : decode cX1_init 44 = .ok (.iconst 4, 1) := dk_7 (dk_at dksX1_init_1 22 rfl rfl)
theorem dX1_init_45 : decode cX1_init 45 = .ok (.iconst 4, 1) := dk_7 (dk_at dksX1_init_1 23 rfl rfl)
theorem dX1_init_46 : decode cX1_init 46 = .ok (.multianewarray 24 2, 4) := by decide +kernel
theorem dX1_init_50 : decode cX1_init 50 = .ok (.putfield 29, 3) := dk_181 0 29 (dk_at dksX1_init_2 4 rfl rfl)
theorem dX1_init_53 : decode cX1_init 53 = .ok (.return_, 1) := dk_177 (dk_at dksX1_init_2 7 rfl rfl)
abbrev cX1_saidBy : ByteArray := prog_16_method_3_code
def yX1_saidBy : MethodName := ⟨RX1, "saidBy", "(I)I"⟩
def dkwX1_saidBy_1 : List UInt8 := [21, 5, 46, 54, 6, 28, 21, 6, 96, 61, 132, 5, 1, 167, 255, 235, 28, 172]
abbrev dktX1_saidBy_1 : List UInt8 := dkwX1_saidBy_1 ++ []
def dkwX1_saidBy_0 : List UInt8 := [3, 61, 42, 180, 0, 26, 27, 50, 78, 45, 190, 54, 4, 3, 54, 5, 21, 5, 21, 4, 162, 0, 20, 45]
abbrev dktX1_saidBy_0 : List UInt8 := dkwX1_saidBy_0 ++ dktX1_saidBy_1
theorem dksX1_saidBy_0 : cX1_saidBy.data.toList.drop 0 = dktX1_saidBy_0 := by decide +kernel
theorem dksX1_saidBy_1 : cX1_saidBy.data.toList.drop 24 = dktX1_saidBy_1 := dk_seg dksX1_saidBy_0 24 rfl rfl
theorem dX1_saidBy_0 : decode cX1_saidBy 0 = .ok (.iconst 0, 1) := dk_3 (dk_at dksX1_saidBy_0 0 rfl rfl)
theorem dX1_saidBy_1 : decode cX1_saidBy 1 = .ok (.istore_n 2, 1) := dk_61 (dk_at dksX1_saidBy_0 1 rfl rfl)
theorem dX1_saidBy_2 : decode cX1_saidBy 2 = .ok (.aload_n 0, 1) := dk_42 (dk_at dksX1_saidBy_0 2 rfl rfl)
theorem dX1_saidBy_3 : decode cX1_saidBy 3 = .ok (.getfield 26, 3) := dk_180 0 26 (dk_at dksX1_saidBy_0 3 rfl rfl)
theorem dX1_saidBy_6 : decode cX1_saidBy 6 = .ok (.iload_n 1, 1) := dk_27 (dk_at dksX1_saidBy_0 6 rfl rfl)
theorem dX1_saidBy_7 : decode cX1_saidBy 7 = .ok (.aaload, 1) := dk_50 (dk_at dksX1_saidBy_0 7 rfl rfl)
theorem dX1_saidBy_8 : decode cX1_saidBy 8 = .ok (.astore_n 3, 1) := dk_78 (dk_at dksX1_saidBy_0 8 rfl rfl)
theorem dX1_saidBy_9 : decode cX1_saidBy 9 = .ok (.aload_n 3, 1) := dk_45 (dk_at dksX1_saidBy_0 9 rfl rfl)
theorem dX1_saidBy_10 : decode cX1_saidBy 10 = .ok (.arraylength, 1) := dk_190 (dk_at dksX1_saidBy_0 10 rfl rfl)
theorem dX1_saidBy_11 : decode cX1_saidBy 11 = .ok (.istore 4, 2) := dk_54 4 (dk_at dksX1_saidBy_0 11 rfl rfl)
theorem dX1_saidBy_13 : decode cX1_saidBy 13 = .ok (.iconst 0, 1) := dk_3 (dk_at dksX1_saidBy_0 13 rfl rfl)
theorem dX1_saidBy_14 : decode cX1_saidBy 14 = .ok (.istore 5, 2) := dk_54 5 (dk_at dksX1_saidBy_0 14 rfl rfl)
theorem dX1_saidBy_16 : decode cX1_saidBy 16 = .ok (.iload 5, 2) := dk_21 5 (dk_at dksX1_saidBy_0 16 rfl rfl)
theorem dX1_saidBy_18 : decode cX1_saidBy 18 = .ok (.iload 4, 2) := dk_21 4 (dk_at dksX1_saidBy_0 18 rfl rfl)
theorem dX1_saidBy_20 : decode cX1_saidBy 20 = .ok (.if_icmp .ge 20, 3) := dk_162 0 20 (dk_at dksX1_saidBy_0 20 rfl rfl)
theorem dX1_saidBy_23 : decode cX1_saidBy 23 = .ok (.aload_n 3, 1) := dk_45 (dk_at dksX1_saidBy_0 23 rfl rfl)
theorem dX1_saidBy_24 : decode cX1_saidBy 24 = .ok (.iload 5, 2) := dk_21 5 (dk_at dksX1_saidBy_1 0 rfl rfl)
theorem dX1_saidBy_26 : decode cX1_saidBy 26 = .ok (.iaload, 1) := dk_46 (dk_at dksX1_saidBy_1 2 rfl rfl)
theorem dX1_saidBy_27 : decode cX1_saidBy 27 = .ok (.istore 6, 2) := dk_54 6 (dk_at dksX1_saidBy_1 3 rfl rfl)
theorem dX1_saidBy_29 : decode cX1_saidBy 29 = .ok (.iload_n 2, 1) := dk_28 (dk_at dksX1_saidBy_1 5 rfl rfl)
theorem dX1_saidBy_30 : decode cX1_saidBy 30 = .ok (.iload 6, 2) := dk_21 6 (dk_at dksX1_saidBy_1 6 rfl rfl)
theorem dX1_saidBy_32 : decode cX1_saidBy 32 = .ok (.iadd, 1) := dk_96 (dk_at dksX1_saidBy_1 8 rfl rfl)
theorem dX1_saidBy_33 : decode cX1_saidBy 33 = .ok (.istore_n 2, 1) := dk_61 (dk_at dksX1_saidBy_1 9 rfl rfl)
theorem dX1_saidBy_34 : decode cX1_saidBy 34 = .ok (.iinc 5 1, 3) := dk_132 5 1 (dk_at dksX1_saidBy_1 10 rfl rfl)
theorem dX1_saidBy_37 : decode cX1_saidBy 37 = .ok (.goto (-21), 3) := dk_167 255 235 (dk_at dksX1_saidBy_1 13 rfl rfl)
theorem dX1_saidBy_40 : decode cX1_saidBy 40 = .ok (.iload_n 2, 1) := dk_28 (dk_at dksX1_saidBy_1 16 rfl rfl)
theorem dX1_saidBy_41 : decode cX1_saidBy 41 = .ok (.ireturn, 1) := dk_172 (dk_at dksX1_saidBy_1 17 rfl rfl)
abbrev cX1_set : ByteArray := prog_16_method_2_code
def yX1_set : MethodName := ⟨RX1, "set", "(LAdjectiveCoupons$State;)LAdjectiveCoupons$State;"⟩
def dkwX1_set_4 : List UInt8 := [3, 7, 184, 0, 32, 132, 2, 1, 167, 255, 211, 42, 43, 180, 0, 38, 181, 0, 38, 42, 176]
abbrev dktX1_set_4 : List UInt8 := dkwX1_set_4 ++ []
def dkwX1_set_3 : List UInt8 := [180, 0, 26, 28, 50, 3, 16, 10, 184, 0, 32, 43, 180, 0, 29, 28, 50, 3, 42, 180, 0, 29, 28, 50]
abbrev dktX1_set_3 : List UInt8 := dkwX1_set_3 ++ dktX1_set_4
def dkwX1_set_2 : List UInt8 := [180, 0, 21, 3, 7, 184, 0, 32, 3, 61, 28, 7, 162, 0, 46, 43, 180, 0, 26, 28, 50, 3, 42]
abbrev dktX1_set_2 : List UInt8 := dkwX1_set_2 ++ dktX1_set_3
def dkwX1_set_1 : List UInt8 := [7, 184, 0, 32, 43, 180, 0, 18, 3, 42, 180, 0, 18, 3, 7, 184, 0, 32, 43, 180, 0, 21, 3, 42]
abbrev dktX1_set_1 : List UInt8 := dkwX1_set_1 ++ dktX1_set_2
def dkwX1_set_0 : List UInt8 := [43, 180, 0, 9, 3, 42, 180, 0, 9, 3, 7, 184, 0, 32, 43, 180, 0, 15, 3, 42, 180, 0, 15, 3]
abbrev dktX1_set_0 : List UInt8 := dkwX1_set_0 ++ dktX1_set_1
theorem dksX1_set_0 : cX1_set.data.toList.drop 0 = dktX1_set_0 := by decide +kernel
theorem dksX1_set_1 : cX1_set.data.toList.drop 24 = dktX1_set_1 := dk_seg dksX1_set_0 24 rfl rfl
theorem dksX1_set_2 : cX1_set.data.toList.drop 48 = dktX1_set_2 := dk_seg dksX1_set_1 24 rfl rfl
theorem dksX1_set_3 : cX1_set.data.toList.drop 71 = dktX1_set_3 := dk_seg dksX1_set_2 23 rfl rfl
theorem dksX1_set_4 : cX1_set.data.toList.drop 95 = dktX1_set_4 := dk_seg dksX1_set_3 24 rfl rfl
theorem dX1_set_0 : decode cX1_set 0 = .ok (.aload_n 1, 1) := dk_43 (dk_at dksX1_set_0 0 rfl rfl)
theorem dX1_set_1 : decode cX1_set 1 = .ok (.getfield 9, 3) := dk_180 0 9 (dk_at dksX1_set_0 1 rfl rfl)
theorem dX1_set_4 : decode cX1_set 4 = .ok (.iconst 0, 1) := dk_3 (dk_at dksX1_set_0 4 rfl rfl)
theorem dX1_set_5 : decode cX1_set 5 = .ok (.aload_n 0, 1) := dk_42 (dk_at dksX1_set_0 5 rfl rfl)
theorem dX1_set_6 : decode cX1_set 6 = .ok (.getfield 9, 3) := dk_180 0 9 (dk_at dksX1_set_0 6 rfl rfl)
theorem dX1_set_9 : decode cX1_set 9 = .ok (.iconst 0, 1) := dk_3 (dk_at dksX1_set_0 9 rfl rfl)
theorem dX1_set_10 : decode cX1_set 10 = .ok (.iconst 4, 1) := dk_7 (dk_at dksX1_set_0 10 rfl rfl)
theorem dX1_set_11 : decode cX1_set 11 = .ok (.invokestatic 32, 3) := dk_184 0 32 (dk_at dksX1_set_0 11 rfl rfl)
theorem dX1_set_14 : decode cX1_set 14 = .ok (.aload_n 1, 1) := dk_43 (dk_at dksX1_set_0 14 rfl rfl)
theorem dX1_set_15 : decode cX1_set 15 = .ok (.getfield 15, 3) := dk_180 0 15 (dk_at dksX1_set_0 15 rfl rfl)
theorem dX1_set_18 : decode cX1_set 18 = .ok (.iconst 0, 1) := dk_3 (dk_at dksX1_set_0 18 rfl rfl)
theorem dX1_set_19 : decode cX1_set 19 = .ok (.aload_n 0, 1) := dk_42 (dk_at dksX1_set_0 19 rfl rfl)
theorem dX1_set_20 : decode cX1_set 20 = .ok (.getfield 15, 3) := dk_180 0 15 (dk_at dksX1_set_0 20 rfl rfl)
theorem dX1_set_23 : decode cX1_set 23 = .ok (.iconst 0, 1) := dk_3 (dk_at dksX1_set_0 23 rfl rfl)
theorem dX1_set_24 : decode cX1_set 24 = .ok (.iconst 4, 1) := dk_7 (dk_at dksX1_set_1 0 rfl rfl)
theorem dX1_set_25 : decode cX1_set 25 = .ok (.invokestatic 32, 3) := dk_184 0 32 (dk_at dksX1_set_1 1 rfl rfl)
theorem dX1_set_28 : decode cX1_set 28 = .ok (.aload_n 1, 1) := dk_43 (dk_at dksX1_set_1 4 rfl rfl)
theorem dX1_set_29 : decode cX1_set 29 = .ok (.getfield 18, 3) := dk_180 0 18 (dk_at dksX1_set_1 5 rfl rfl)
theorem dX1_set_32 : decode cX1_set 32 = .ok (.iconst 0, 1) := dk_3 (dk_at dksX1_set_1 8 rfl rfl)
theorem dX1_set_33 : decode cX1_set 33 = .ok (.aload_n 0, 1) := dk_42 (dk_at dksX1_set_1 9 rfl rfl)
theorem dX1_set_34 : decode cX1_set 34 = .ok (.getfield 18, 3) := dk_180 0 18 (dk_at dksX1_set_1 10 rfl rfl)
theorem dX1_set_37 : decode cX1_set 37 = .ok (.iconst 0, 1) := dk_3 (dk_at dksX1_set_1 13 rfl rfl)
theorem dX1_set_38 : decode cX1_set 38 = .ok (.iconst 4, 1) := dk_7 (dk_at dksX1_set_1 14 rfl rfl)
theorem dX1_set_39 : decode cX1_set 39 = .ok (.invokestatic 32, 3) := dk_184 0 32 (dk_at dksX1_set_1 15 rfl rfl)
theorem dX1_set_42 : decode cX1_set 42 = .ok (.aload_n 1, 1) := dk_43 (dk_at dksX1_set_1 18 rfl rfl)
theorem dX1_set_43 : decode cX1_set 43 = .ok (.getfield 21, 3) := dk_180 0 21 (dk_at dksX1_set_1 19 rfl rfl)
theorem dX1_set_46 : decode cX1_set 46 = .ok (.iconst 0, 1) := dk_3 (dk_at dksX1_set_1 22 rfl rfl)
theorem dX1_set_47 : decode cX1_set 47 = .ok (.aload_n 0, 1) := dk_42 (dk_at dksX1_set_1 23 rfl rfl)
theorem dX1_set_48 : decode cX1_set 48 = .ok (.getfield 21, 3) := dk_180 0 21 (dk_at dksX1_set_2 0 rfl rfl)
theorem dX1_set_51 : decode cX1_set 51 = .ok (.iconst 0, 1) := dk_3 (dk_at dksX1_set_2 3 rfl rfl)
theorem dX1_set_52 : decode cX1_set 52 = .ok (.iconst 4, 1) := dk_7 (dk_at dksX1_set_2 4 rfl rfl)
theorem dX1_set_53 : decode cX1_set 53 = .ok (.invokestatic 32, 3) := dk_184 0 32 (dk_at dksX1_set_2 5 rfl rfl)
theorem dX1_set_56 : decode cX1_set 56 = .ok (.iconst 0, 1) := dk_3 (dk_at dksX1_set_2 8 rfl rfl)
theorem dX1_set_57 : decode cX1_set 57 = .ok (.istore_n 2, 1) := dk_61 (dk_at dksX1_set_2 9 rfl rfl)
theorem dX1_set_58 : decode cX1_set 58 = .ok (.iload_n 2, 1) := dk_28 (dk_at dksX1_set_2 10 rfl rfl)
theorem dX1_set_59 : decode cX1_set 59 = .ok (.iconst 4, 1) := dk_7 (dk_at dksX1_set_2 11 rfl rfl)
theorem dX1_set_60 : decode cX1_set 60 = .ok (.if_icmp .ge 46, 3) := dk_162 0 46 (dk_at dksX1_set_2 12 rfl rfl)
theorem dX1_set_63 : decode cX1_set 63 = .ok (.aload_n 1, 1) := dk_43 (dk_at dksX1_set_2 15 rfl rfl)
theorem dX1_set_64 : decode cX1_set 64 = .ok (.getfield 26, 3) := dk_180 0 26 (dk_at dksX1_set_2 16 rfl rfl)
theorem dX1_set_67 : decode cX1_set 67 = .ok (.iload_n 2, 1) := dk_28 (dk_at dksX1_set_2 19 rfl rfl)
theorem dX1_set_68 : decode cX1_set 68 = .ok (.aaload, 1) := dk_50 (dk_at dksX1_set_2 20 rfl rfl)
theorem dX1_set_69 : decode cX1_set 69 = .ok (.iconst 0, 1) := dk_3 (dk_at dksX1_set_2 21 rfl rfl)
theorem dX1_set_70 : decode cX1_set 70 = .ok (.aload_n 0, 1) := dk_42 (dk_at dksX1_set_2 22 rfl rfl)
theorem dX1_set_71 : decode cX1_set 71 = .ok (.getfield 26, 3) := dk_180 0 26 (dk_at dksX1_set_3 0 rfl rfl)
theorem dX1_set_74 : decode cX1_set 74 = .ok (.iload_n 2, 1) := dk_28 (dk_at dksX1_set_3 3 rfl rfl)
theorem dX1_set_75 : decode cX1_set 75 = .ok (.aaload, 1) := dk_50 (dk_at dksX1_set_3 4 rfl rfl)
theorem dX1_set_76 : decode cX1_set 76 = .ok (.iconst 0, 1) := dk_3 (dk_at dksX1_set_3 5 rfl rfl)
theorem dX1_set_77 : decode cX1_set 77 = .ok (.bipush 10, 2) := dk_16 10 (dk_at dksX1_set_3 6 rfl rfl)
theorem dX1_set_79 : decode cX1_set 79 = .ok (.invokestatic 32, 3) := dk_184 0 32 (dk_at dksX1_set_3 8 rfl rfl)
theorem dX1_set_82 : decode cX1_set 82 = .ok (.aload_n 1, 1) := dk_43 (dk_at dksX1_set_3 11 rfl rfl)
theorem dX1_set_83 : decode cX1_set 83 = .ok (.getfield 29, 3) := dk_180 0 29 (dk_at dksX1_set_3 12 rfl rfl)
theorem dX1_set_86 : decode cX1_set 86 = .ok (.iload_n 2, 1) := dk_28 (dk_at dksX1_set_3 15 rfl rfl)
theorem dX1_set_87 : decode cX1_set 87 = .ok (.aaload, 1) := dk_50 (dk_at dksX1_set_3 16 rfl rfl)
theorem dX1_set_88 : decode cX1_set 88 = .ok (.iconst 0, 1) := dk_3 (dk_at dksX1_set_3 17 rfl rfl)
theorem dX1_set_89 : decode cX1_set 89 = .ok (.aload_n 0, 1) := dk_42 (dk_at dksX1_set_3 18 rfl rfl)
theorem dX1_set_90 : decode cX1_set 90 = .ok (.getfield 29, 3) := dk_180 0 29 (dk_at dksX1_set_3 19 rfl rfl)
theorem dX1_set_93 : decode cX1_set 93 = .ok (.iload_n 2, 1) := dk_28 (dk_at dksX1_set_3 22 rfl rfl)
theorem dX1_set_94 : decode cX1_set 94 = .ok (.aaload, 1) := dk_50 (dk_at dksX1_set_3 23 rfl rfl)
theorem dX1_set_95 : decode cX1_set 95 = .ok (.iconst 0, 1) := dk_3 (dk_at dksX1_set_4 0 rfl rfl)
theorem dX1_set_96 : decode cX1_set 96 = .ok (.iconst 4, 1) := dk_7 (dk_at dksX1_set_4 1 rfl rfl)
theorem dX1_set_97 : decode cX1_set 97 = .ok (.invokestatic 32, 3) := dk_184 0 32 (dk_at dksX1_set_4 2 rfl rfl)
theorem dX1_set_100 : decode cX1_set 100 = .ok (.iinc 2 1, 3) := dk_132 2 1 (dk_at dksX1_set_4 5 rfl rfl)
theorem dX1_set_103 : decode cX1_set 103 = .ok (.goto (-45), 3) := dk_167 255 211 (dk_at dksX1_set_4 8 rfl rfl)
theorem dX1_set_106 : decode cX1_set 106 = .ok (.aload_n 0, 1) := dk_42 (dk_at dksX1_set_4 11 rfl rfl)
theorem dX1_set_107 : decode cX1_set 107 = .ok (.aload_n 1, 1) := dk_43 (dk_at dksX1_set_4 12 rfl rfl)
theorem dX1_set_108 : decode cX1_set 108 = .ok (.getfield 38, 3) := dk_180 0 38 (dk_at dksX1_set_4 13 rfl rfl)
theorem dX1_set_111 : decode cX1_set 111 = .ok (.putfield 38, 3) := dk_181 0 38 (dk_at dksX1_set_4 16 rfl rfl)
theorem dX1_set_114 : decode cX1_set 114 = .ok (.aload_n 0, 1) := dk_42 (dk_at dksX1_set_4 19 rfl rfl)
theorem dX1_set_115 : decode cX1_set 115 = .ok (.areturn, 1) := dk_176 (dk_at dksX1_set_4 20 rfl rfl)
abbrev cX1_net : ByteArray := prog_16_method_4_code
def yX1_net : MethodName := ⟨RX1, "net", "(I)I"⟩
def dkwX1_net_1 : List UInt8 := [29, 46, 100, 96, 61, 132, 3, 1, 167, 255, 228, 28, 172]
abbrev dktX1_net_1 : List UInt8 := dkwX1_net_1 ++ []
def dkwX1_net_0 : List UInt8 := [3, 61, 3, 62, 29, 7, 162, 0, 29, 28, 42, 180, 0, 29, 29, 50, 27, 46, 42, 180, 0, 29, 27, 50]
abbrev dktX1_net_0 : List UInt8 := dkwX1_net_0 ++ dktX1_net_1
theorem dksX1_net_0 : cX1_net.data.toList.drop 0 = dktX1_net_0 := by decide +kernel
theorem dksX1_net_1 : cX1_net.data.toList.drop 24 = dktX1_net_1 := dk_seg dksX1_net_0 24 rfl rfl
theorem dX1_net_0 : decode cX1_net 0 = .ok (.iconst 0, 1) := dk_3 (dk_at dksX1_net_0 0 rfl rfl)
theorem dX1_net_1 : decode cX1_net 1 = .ok (.istore_n 2, 1) := dk_61 (dk_at dksX1_net_0 1 rfl rfl)
theorem dX1_net_2 : decode cX1_net 2 = .ok (.iconst 0, 1) := dk_3 (dk_at dksX1_net_0 2 rfl rfl)
theorem dX1_net_3 : decode cX1_net 3 = .ok (.istore_n 3, 1) := dk_62 (dk_at dksX1_net_0 3 rfl rfl)
theorem dX1_net_4 : decode cX1_net 4 = .ok (.iload_n 3, 1) := dk_29 (dk_at dksX1_net_0 4 rfl rfl)
theorem dX1_net_5 : decode cX1_net 5 = .ok (.iconst 4, 1) := dk_7 (dk_at dksX1_net_0 5 rfl rfl)
theorem dX1_net_6 : decode cX1_net 6 = .ok (.if_icmp .ge 29, 3) := dk_162 0 29 (dk_at dksX1_net_0 6 rfl rfl)
theorem dX1_net_9 : decode cX1_net 9 = .ok (.iload_n 2, 1) := dk_28 (dk_at dksX1_net_0 9 rfl rfl)
theorem dX1_net_10 : decode cX1_net 10 = .ok (.aload_n 0, 1) := dk_42 (dk_at dksX1_net_0 10 rfl rfl)
theorem dX1_net_11 : decode cX1_net 11 = .ok (.getfield 29, 3) := dk_180 0 29 (dk_at dksX1_net_0 11 rfl rfl)
theorem dX1_net_14 : decode cX1_net 14 = .ok (.iload_n 3, 1) := dk_29 (dk_at dksX1_net_0 14 rfl rfl)
theorem dX1_net_15 : decode cX1_net 15 = .ok (.aaload, 1) := dk_50 (dk_at dksX1_net_0 15 rfl rfl)
theorem dX1_net_16 : decode cX1_net 16 = .ok (.iload_n 1, 1) := dk_27 (dk_at dksX1_net_0 16 rfl rfl)
theorem dX1_net_17 : decode cX1_net 17 = .ok (.iaload, 1) := dk_46 (dk_at dksX1_net_0 17 rfl rfl)
theorem dX1_net_18 : decode cX1_net 18 = .ok (.aload_n 0, 1) := dk_42 (dk_at dksX1_net_0 18 rfl rfl)
theorem dX1_net_19 : decode cX1_net 19 = .ok (.getfield 29, 3) := dk_180 0 29 (dk_at dksX1_net_0 19 rfl rfl)
theorem dX1_net_22 : decode cX1_net 22 = .ok (.iload_n 1, 1) := dk_27 (dk_at dksX1_net_0 22 rfl rfl)
theorem dX1_net_23 : decode cX1_net 23 = .ok (.aaload, 1) := dk_50 (dk_at dksX1_net_0 23 rfl rfl)
theorem dX1_net_24 : decode cX1_net 24 = .ok (.iload_n 3, 1) := dk_29 (dk_at dksX1_net_1 0 rfl rfl)
theorem dX1_net_25 : decode cX1_net 25 = .ok (.iaload, 1) := dk_46 (dk_at dksX1_net_1 1 rfl rfl)
theorem dX1_net_26 : decode cX1_net 26 = .ok (.isub, 1) := dk_100 (dk_at dksX1_net_1 2 rfl rfl)
theorem dX1_net_27 : decode cX1_net 27 = .ok (.iadd, 1) := dk_96 (dk_at dksX1_net_1 3 rfl rfl)
theorem dX1_net_28 : decode cX1_net 28 = .ok (.istore_n 2, 1) := dk_61 (dk_at dksX1_net_1 4 rfl rfl)
theorem dX1_net_29 : decode cX1_net 29 = .ok (.iinc 3 1, 3) := dk_132 3 1 (dk_at dksX1_net_1 5 rfl rfl)
theorem dX1_net_32 : decode cX1_net 32 = .ok (.goto (-28), 3) := dk_167 255 228 (dk_at dksX1_net_1 8 rfl rfl)
theorem dX1_net_35 : decode cX1_net 35 = .ok (.iload_n 2, 1) := dk_28 (dk_at dksX1_net_1 11 rfl rfl)
theorem dX1_net_36 : decode cX1_net 36 = .ok (.ireturn, 1) := dk_172 (dk_at dksX1_net_1 12 rfl rfl)
theorem q79 : (Jvm.Cond.initialized "AdjectiveCoupons$State") ∈ lw_all := lw_g (lw_at lw_m1 2 rfl) rfl
theorem q122 : (Jvm.Cond.instantiable "AdjectiveCoupons$State" (7 : Nat)) ∈ lw_all := lw_g (lw_at lw_m1 45 rfl) rfl
theorem q124 : (Jvm.Cond.instanceMethod ({ cls := "AdjectiveCoupons$State", name := "<init>", desc := "()V" } : Jvm.MethodName)) ∈ lw_all := lw_g (lw_at lw_m1 47 rfl) rfl
theorem q125 : (Jvm.Cond.code ({ cls := "AdjectiveCoupons$State", name := "<init>", desc := "()V" } : Jvm.MethodName) prog_16_method_1_code (1 : Nat) (Option.none : Option Jvm.ClassFile.FieldType)) ∈ lw_all := lw_g (lw_at lw_m1 48 rfl) rfl
theorem q126 : (Jvm.Cond.methodLink "AdjectiveCoupons$State" (3 : Nat) ({ cls := "java/lang/Object", name := "<init>", desc := "()V" } : Jvm.MethodName)) ∈ lw_all := lw_g (lw_at lw_m1 49 rfl) rfl
theorem q127 : (Jvm.Cond.classLink "AdjectiveCoupons$State" (24 : Nat) "[[I") ∈ lw_all := lw_g (lw_at lw_m1 50 rfl) rfl
theorem q128 : (Jvm.Cond.fieldLink "AdjectiveCoupons$State" (9 : Nat) "AdjectiveCoupons$State" "halves" "[I") ∈ lw_all := lw_g (lw_at lw_m1 51 rfl) rfl
theorem q130 : (Jvm.Cond.fieldLink "AdjectiveCoupons$State" (15 : Nat) "AdjectiveCoupons$State" "loaves" "[I") ∈ lw_all := lw_g (lw_at lw_m1 53 rfl) rfl
theorem q132 : (Jvm.Cond.fieldLink "AdjectiveCoupons$State" (18 : Nat) "AdjectiveCoupons$State" "fined" "[I") ∈ lw_all := lw_g (lw_at lw_m1 55 rfl) rfl
theorem q134 : (Jvm.Cond.fieldLink "AdjectiveCoupons$State" (21 : Nat) "AdjectiveCoupons$State" "worth" "[I") ∈ lw_all := lw_g (lw_at lw_m1 57 rfl) rfl
theorem q136 : (Jvm.Cond.fieldLink "AdjectiveCoupons$State" (26 : Nat) "AdjectiveCoupons$State" "said" "[[I") ∈ lw_all := lw_g (lw_at lw_m1 59 rfl) rfl
theorem q138 : (Jvm.Cond.fieldLink "AdjectiveCoupons$State" (29 : Nat) "AdjectiveCoupons$State" "owes" "[[I") ∈ lw_all := lw_g (lw_at lw_m1 61 rfl) rfl
theorem q140 : (Jvm.Cond.fieldLink "AdjectiveCoupons$State" (38 : Nat) "AdjectiveCoupons$State" "week" "I") ∈ lw_all := lw_g (lw_at lw_m1 63 rfl) rfl
theorem q142 : (Jvm.Cond.laysFinal "AdjectiveCoupons$State" "AdjectiveCoupons$State" "halves" "[I") ∈ lw_all := lw_g (lw_at lw_m1 65 rfl) rfl
theorem q143 : (Jvm.Cond.soleField "AdjectiveCoupons$State" "halves") ∈ lw_all := lw_g (lw_at lw_m1 66 rfl) rfl
theorem q144 : (Jvm.Cond.laysFinal "AdjectiveCoupons$State" "AdjectiveCoupons$State" "loaves" "[I") ∈ lw_all := lw_g (lw_at lw_m1 67 rfl) rfl
theorem q145 : (Jvm.Cond.soleField "AdjectiveCoupons$State" "loaves") ∈ lw_all := lw_g (lw_at lw_m1 68 rfl) rfl
theorem q146 : (Jvm.Cond.laysFinal "AdjectiveCoupons$State" "AdjectiveCoupons$State" "fined" "[I") ∈ lw_all := lw_g (lw_at lw_m1 69 rfl) rfl
theorem q147 : (Jvm.Cond.soleField "AdjectiveCoupons$State" "fined") ∈ lw_all := lw_g (lw_at lw_m1 70 rfl) rfl
theorem q148 : (Jvm.Cond.laysFinal "AdjectiveCoupons$State" "AdjectiveCoupons$State" "worth" "[I") ∈ lw_all := lw_g (lw_at lw_m1 71 rfl) rfl
theorem q149 : (Jvm.Cond.soleField "AdjectiveCoupons$State" "worth") ∈ lw_all := lw_g (lw_at lw_m1 72 rfl) rfl
theorem q150 : (Jvm.Cond.laysFinal "AdjectiveCoupons$State" "AdjectiveCoupons$State" "said" "[[I") ∈ lw_all := lw_g (lw_at lw_m1 73 rfl) rfl
theorem q151 : (Jvm.Cond.soleField "AdjectiveCoupons$State" "said") ∈ lw_all := lw_g (lw_at lw_m1 74 rfl) rfl
theorem q152 : (Jvm.Cond.laysFinal "AdjectiveCoupons$State" "AdjectiveCoupons$State" "owes" "[[I") ∈ lw_all := lw_g (lw_at lw_m1 75 rfl) rfl
theorem q153 : (Jvm.Cond.soleField "AdjectiveCoupons$State" "owes") ∈ lw_all := lw_g (lw_at lw_m1 76 rfl) rfl
theorem q154 : (Jvm.Cond.lays "AdjectiveCoupons$State" "AdjectiveCoupons$State" "week" "I") ∈ lw_all := lw_g (lw_at lw_m1 77 rfl) rfl
theorem q155 : (Jvm.Cond.soleField "AdjectiveCoupons$State" "week") ∈ lw_all := lw_g (lw_at lw_m1 78 rfl) rfl
theorem q156 : (Jvm.Cond.superclass "AdjectiveCoupons$State" "java/lang/Object") ∈ lw_all := lw_g (lw_at lw_m1 79 rfl) rfl
theorem q808 : (Jvm.Cond.instanceMethod ({ cls := "AdjectiveCoupons$State", name := "saidBy", desc := "(I)I" } : Jvm.MethodName)) ∈ lw_all := lw_g (lw_at lw_m4 11 rfl) rfl
theorem q809 : (Jvm.Cond.selects "AdjectiveCoupons$State" ({ cls := "AdjectiveCoupons$State", name := "saidBy", desc := "(I)I" } : Jvm.MethodName) ({ cls := "AdjectiveCoupons$State", name := "saidBy", desc := "(I)I" } : Jvm.MethodName)) ∈ lw_all := lw_g (lw_at lw_m4 12 rfl) rfl
theorem q810 : (Jvm.Cond.code ({ cls := "AdjectiveCoupons$State", name := "saidBy", desc := "(I)I" } : Jvm.MethodName) prog_16_method_3_code (7 : Nat) (Option.some Jvm.ClassFile.FieldType.int)) ∈ lw_all := lw_g (lw_at lw_m4 13 rfl) rfl
theorem q955 : (Jvm.Cond.instanceMethod ({ cls := "AdjectiveCoupons$State", name := "set", desc := "(LAdjectiveCoupons$State;)LAdjectiveCoupons$State;" } : Jvm.MethodName)) ∈ lw_all := lw_g (lw_at lw_m4 158 rfl) rfl
theorem q956 : (Jvm.Cond.selects "AdjectiveCoupons$State" ({ cls := "AdjectiveCoupons$State", name := "set", desc := "(LAdjectiveCoupons$State;)LAdjectiveCoupons$State;" } : Jvm.MethodName) ({ cls := "AdjectiveCoupons$State", name := "set", desc := "(LAdjectiveCoupons$State;)LAdjectiveCoupons$State;" } : Jvm.MethodName)) ∈ lw_all := lw_g (lw_at lw_m4 159 rfl) rfl
theorem q957 : (Jvm.Cond.code ({ cls := "AdjectiveCoupons$State", name := "set", desc := "(LAdjectiveCoupons$State;)LAdjectiveCoupons$State;" } : Jvm.MethodName) prog_16_method_2_code (3 : Nat) (Option.some (Jvm.ClassFile.FieldType.object "AdjectiveCoupons$State"))) ∈ lw_all := lw_g (lw_at lw_m4 160 rfl) rfl
theorem q958 : (Jvm.Cond.methodLink "AdjectiveCoupons$State" (32 : Nat) ({ cls := "java/lang/System", name := "arraycopy", desc := "(Ljava/lang/Object;ILjava/lang/Object;II)V" } : Jvm.MethodName)) ∈ lw_all := lw_g (lw_at lw_m4 161 rfl) rfl
theorem q1135 : (Jvm.Cond.instanceMethod ({ cls := "AdjectiveCoupons$State", name := "net", desc := "(I)I" } : Jvm.MethodName)) ∈ lw_all := lw_g (lw_at lw_m5 98 rfl) rfl
theorem q1136 : (Jvm.Cond.selects "AdjectiveCoupons$State" ({ cls := "AdjectiveCoupons$State", name := "net", desc := "(I)I" } : Jvm.MethodName) ({ cls := "AdjectiveCoupons$State", name := "net", desc := "(I)I" } : Jvm.MethodName)) ∈ lw_all := lw_g (lw_at lw_m5 99 rfl) rfl
theorem q1137 : (Jvm.Cond.code ({ cls := "AdjectiveCoupons$State", name := "net", desc := "(I)I" } : Jvm.MethodName) prog_16_method_4_code (4 : Nat) (Option.some Jvm.ClassFile.FieldType.int)) ∈ lw_all := lw_g (lw_at lw_m5 100 rfl) rfl
theorem q1644 : (Jvm.Cond.castable "AdjectiveCoupons$State" "java/lang/Object") ∈ lw_tbl := lw_at lw_m7 127 rfl
theorem in_X1 : ∀ w ∈ wsX10, w ∈ lw_all := lw_in wsX10 [142, 144, 146, 148, 150, 152, 154] (by decide +kernel) (by decide +kernel)
/-! AdjectiveCoupons$Poet -/
set_option maxRecDepth 100000
def RX10 : String := "AdjectiveCoupons$Poet"
def TX10 : u_T := fun k => match k with
  | _ => ("AdjectiveCoupons$One", "wants", "I", true)
def tyX10 : Nat → FieldType := fun k => match k with
  | _ => .int
abbrev wsX100 : List Cond := u_ws RX10 TX10 1
theorem nmX10 : ∀ a, a < 1 → ∀ b, b < 1 → a ≠ b → (TX10 a).2.1 ≠ (TX10 b).2.1 := by decide +kernel
theorem tyX10_ok : ∀ k, k < 1 → parseFieldDescriptor (TX10 k).2.2.1 = some (tyX10 k) := by decide +kernel
abbrev cX10_init : ByteArray := prog_14_method_1_code
def yX10_init : MethodName := ⟨RX10, "<init>", "(I)V"⟩
def dkwX10_init_0 : List UInt8 := [42, 27, 183, 0, 1, 177]
abbrev dktX10_init_0 : List UInt8 := dkwX10_init_0 ++ []
theorem dksX10_init_0 : cX10_init.data.toList.drop 0 = dktX10_init_0 := by decide +kernel
theorem dX10_init_0 : decode cX10_init 0 = .ok (.aload_n 0, 1) := dk_42 (dk_at dksX10_init_0 0 rfl rfl)
theorem dX10_init_1 : decode cX10_init 1 = .ok (.iload_n 1, 1) := dk_27 (dk_at dksX10_init_0 1 rfl rfl)
theorem dX10_init_2 : decode cX10_init 2 = .ok (.invokespecial 1, 3) := dk_183 0 1 (dk_at dksX10_init_0 2 rfl rfl)
theorem dX10_init_5 : decode cX10_init 5 = .ok (.return_, 1) := dk_177 (dk_at dksX10_init_0 5 rfl rfl)
abbrev cX10_kind : ByteArray := prog_14_method_2_code
def yX10_kind : MethodName := ⟨RX10, "kind", "()I"⟩
def dkwX10_kind_0 : List UInt8 := [4, 42, 183, 0, 7, 96, 172]
abbrev dktX10_kind_0 : List UInt8 := dkwX10_kind_0 ++ []
theorem dksX10_kind_0 : cX10_kind.data.toList.drop 0 = dktX10_kind_0 := by decide +kernel
theorem dX10_kind_0 : decode cX10_kind 0 = .ok (.iconst 1, 1) := dk_4 (dk_at dksX10_kind_0 0 rfl rfl)
theorem dX10_kind_1 : decode cX10_kind 1 = .ok (.aload_n 0, 1) := dk_42 (dk_at dksX10_kind_0 1 rfl rfl)
theorem dX10_kind_2 : decode cX10_kind 2 = .ok (.invokespecial 7, 3) := dk_183 0 7 (dk_at dksX10_kind_0 2 rfl rfl)
theorem dX10_kind_5 : decode cX10_kind 5 = .ok (.iadd, 1) := dk_96 (dk_at dksX10_kind_0 5 rfl rfl)
theorem dX10_kind_6 : decode cX10_kind 6 = .ok (.ireturn, 1) := dk_172 (dk_at dksX10_kind_0 6 rfl rfl)
abbrev cX10_off : ByteArray := prog_14_method_3_code
def yX10_off : MethodName := ⟨RX10, "off", "([I[Z)I"⟩
def dkwX10_off_1 : List UInt8 := [183, 0, 11, 43, 29, 46, 96, 4, 100, 172, 132, 3, 1, 167, 255, 222, 3, 172]
abbrev dktX10_off_1 : List UInt8 := dkwX10_off_1 ++ []
def dkwX10_off_0 : List UInt8 := [3, 62, 29, 43, 190, 162, 0, 34, 44, 29, 51, 153, 0, 22, 43, 29, 46, 158, 0, 16, 42, 43, 44]
abbrev dktX10_off_0 : List UInt8 := dkwX10_off_0 ++ dktX10_off_1
theorem dksX10_off_0 : cX10_off.data.toList.drop 0 = dktX10_off_0 := by decide +kernel
theorem dksX10_off_1 : cX10_off.data.toList.drop 23 = dktX10_off_1 := dk_seg dksX10_off_0 23 rfl rfl
theorem dX10_off_0 : decode cX10_off 0 = .ok (.iconst 0, 1) := dk_3 (dk_at dksX10_off_0 0 rfl rfl)
theorem dX10_off_1 : decode cX10_off 1 = .ok (.istore_n 3, 1) := dk_62 (dk_at dksX10_off_0 1 rfl rfl)
theorem dX10_off_2 : decode cX10_off 2 = .ok (.iload_n 3, 1) := dk_29 (dk_at dksX10_off_0 2 rfl rfl)
theorem dX10_off_3 : decode cX10_off 3 = .ok (.aload_n 1, 1) := dk_43 (dk_at dksX10_off_0 3 rfl rfl)
theorem dX10_off_4 : decode cX10_off 4 = .ok (.arraylength, 1) := dk_190 (dk_at dksX10_off_0 4 rfl rfl)
theorem dX10_off_5 : decode cX10_off 5 = .ok (.if_icmp .ge 34, 3) := dk_162 0 34 (dk_at dksX10_off_0 5 rfl rfl)
theorem dX10_off_8 : decode cX10_off 8 = .ok (.aload_n 2, 1) := dk_44 (dk_at dksX10_off_0 8 rfl rfl)
theorem dX10_off_9 : decode cX10_off 9 = .ok (.iload_n 3, 1) := dk_29 (dk_at dksX10_off_0 9 rfl rfl)
theorem dX10_off_10 : decode cX10_off 10 = .ok (.baload, 1) := dk_51 (dk_at dksX10_off_0 10 rfl rfl)
theorem dX10_off_11 : decode cX10_off 11 = .ok (.ifCond .eq 22, 3) := dk_153 0 22 (dk_at dksX10_off_0 11 rfl rfl)
theorem dX10_off_14 : decode cX10_off 14 = .ok (.aload_n 1, 1) := dk_43 (dk_at dksX10_off_0 14 rfl rfl)
theorem dX10_off_15 : decode cX10_off 15 = .ok (.iload_n 3, 1) := dk_29 (dk_at dksX10_off_0 15 rfl rfl)
theorem dX10_off_16 : decode cX10_off 16 = .ok (.iaload, 1) := dk_46 (dk_at dksX10_off_0 16 rfl rfl)
theorem dX10_off_17 : decode cX10_off 17 = .ok (.ifCond .le 16, 3) := dk_158 0 16 (dk_at dksX10_off_0 17 rfl rfl)
theorem dX10_off_20 : decode cX10_off 20 = .ok (.aload_n 0, 1) := dk_42 (dk_at dksX10_off_0 20 rfl rfl)
theorem dX10_off_21 : decode cX10_off 21 = .ok (.aload_n 1, 1) := dk_43 (dk_at dksX10_off_0 21 rfl rfl)
theorem dX10_off_22 : decode cX10_off 22 = .ok (.aload_n 2, 1) := dk_44 (dk_at dksX10_off_0 22 rfl rfl)
theorem dX10_off_23 : decode cX10_off 23 = .ok (.invokespecial 11, 3) := dk_183 0 11 (dk_at dksX10_off_1 0 rfl rfl)
theorem dX10_off_26 : decode cX10_off 26 = .ok (.aload_n 1, 1) := dk_43 (dk_at dksX10_off_1 3 rfl rfl)
theorem dX10_off_27 : decode cX10_off 27 = .ok (.iload_n 3, 1) := dk_29 (dk_at dksX10_off_1 4 rfl rfl)
theorem dX10_off_28 : decode cX10_off 28 = .ok (.iaload, 1) := dk_46 (dk_at dksX10_off_1 5 rfl rfl)
theorem dX10_off_29 : decode cX10_off 29 = .ok (.iadd, 1) := dk_96 (dk_at dksX10_off_1 6 rfl rfl)
theorem dX10_off_30 : decode cX10_off 30 = .ok (.iconst 1, 1) := dk_4 (dk_at dksX10_off_1 7 rfl rfl)
theorem dX10_off_31 : decode cX10_off 31 = .ok (.isub, 1) := dk_100 (dk_at dksX10_off_1 8 rfl rfl)
theorem dX10_off_32 : decode cX10_off 32 = .ok (.ireturn, 1) := dk_172 (dk_at dksX10_off_1 9 rfl rfl)
theorem dX10_off_33 : decode cX10_off 33 = .ok (.iinc 3 1, 3) := dk_132 3 1 (dk_at dksX10_off_1 10 rfl rfl)
theorem dX10_off_36 : decode cX10_off 36 = .ok (.goto (-34), 3) := dk_167 255 222 (dk_at dksX10_off_1 13 rfl rfl)
theorem dX10_off_39 : decode cX10_off 39 = .ok (.iconst 0, 1) := dk_3 (dk_at dksX10_off_1 16 rfl rfl)
theorem dX10_off_40 : decode cX10_off 40 = .ok (.ireturn, 1) := dk_172 (dk_at dksX10_off_1 17 rfl rfl)
theorem q105 : (Jvm.Cond.initialized "AdjectiveCoupons$Poet") ∈ lw_all := lw_g (lw_at lw_m1 28 rfl) rfl
theorem q721 : (Jvm.Cond.instantiable "AdjectiveCoupons$Poet" (1 : Nat)) ∈ lw_all := lw_g (lw_at lw_m3 164 rfl) rfl
theorem q723 : (Jvm.Cond.instanceMethod ({ cls := "AdjectiveCoupons$Poet", name := "<init>", desc := "(I)V" } : Jvm.MethodName)) ∈ lw_all := lw_g (lw_at lw_m3 166 rfl) rfl
theorem q724 : (Jvm.Cond.code ({ cls := "AdjectiveCoupons$Poet", name := "<init>", desc := "(I)V" } : Jvm.MethodName) prog_14_method_1_code (2 : Nat) (Option.none : Option Jvm.ClassFile.FieldType)) ∈ lw_all := lw_g (lw_at lw_m3 167 rfl) rfl
theorem q725 : (Jvm.Cond.methodLink "AdjectiveCoupons$Poet" (1 : Nat) ({ cls := "AdjectiveCoupons$Critic", name := "<init>", desc := "(I)V" } : Jvm.MethodName)) ∈ lw_all := lw_g (lw_at lw_m3 168 rfl) rfl
theorem q726 : (Jvm.Cond.laysFinal "AdjectiveCoupons$Poet" "AdjectiveCoupons$One" "wants" "I") ∈ lw_all := lw_g (lw_at lw_m3 169 rfl) rfl
theorem q727 : (Jvm.Cond.superclass "AdjectiveCoupons$Poet" "AdjectiveCoupons$Critic") ∈ lw_all := lw_g (lw_at lw_m3 170 rfl) rfl
theorem q803 : (Jvm.Cond.selects "AdjectiveCoupons$Poet" ({ cls := "AdjectiveCoupons$Buyer", name := "kind", desc := "()I" } : Jvm.MethodName) ({ cls := "AdjectiveCoupons$Poet", name := "kind", desc := "()I" } : Jvm.MethodName)) ∈ lw_all := lw_g (lw_at lw_m4 6 rfl) rfl
theorem q804 : (Jvm.Cond.instanceMethod ({ cls := "AdjectiveCoupons$Poet", name := "kind", desc := "()I" } : Jvm.MethodName)) ∈ lw_all := lw_g (lw_at lw_m4 7 rfl) rfl
theorem q805 : (Jvm.Cond.code ({ cls := "AdjectiveCoupons$Poet", name := "kind", desc := "()I" } : Jvm.MethodName) prog_14_method_2_code (1 : Nat) (Option.some Jvm.ClassFile.FieldType.int)) ∈ lw_all := lw_g (lw_at lw_m4 8 rfl) rfl
theorem q806 : (Jvm.Cond.methodLink "AdjectiveCoupons$Poet" (7 : Nat) ({ cls := "AdjectiveCoupons$Critic", name := "kind", desc := "()I" } : Jvm.MethodName)) ∈ lw_all := lw_g (lw_at lw_m4 9 rfl) rfl
theorem q905 : (Jvm.Cond.castable "AdjectiveCoupons$Poet" "AdjectiveCoupons$Buyer") ∈ lw_tbl := lw_at lw_m4 108 rfl
theorem q906 : (Jvm.Cond.selects "AdjectiveCoupons$Poet" ({ cls := "AdjectiveCoupons$Buyer", name := "off", desc := "([I[Z)I" } : Jvm.MethodName) ({ cls := "AdjectiveCoupons$Poet", name := "off", desc := "([I[Z)I" } : Jvm.MethodName)) ∈ lw_all := lw_g (lw_at lw_m4 109 rfl) rfl
theorem q907 : (Jvm.Cond.unhidden "AdjectiveCoupons$Poet" "off" "([I[Z)I") ∈ lw_tbl := lw_at lw_m4 110 rfl
theorem q908 : (Jvm.Cond.instanceMethod ({ cls := "AdjectiveCoupons$Poet", name := "off", desc := "([I[Z)I" } : Jvm.MethodName)) ∈ lw_all := lw_g (lw_at lw_m4 111 rfl) rfl
theorem q909 : (Jvm.Cond.publicMethod ({ cls := "AdjectiveCoupons$Poet", name := "off", desc := "([I[Z)I" } : Jvm.MethodName)) ∈ lw_tbl := lw_at lw_m4 112 rfl
theorem q910 : (Jvm.Cond.code ({ cls := "AdjectiveCoupons$Poet", name := "off", desc := "([I[Z)I" } : Jvm.MethodName) prog_14_method_3_code (4 : Nat) (Option.some Jvm.ClassFile.FieldType.int)) ∈ lw_all := lw_g (lw_at lw_m4 113 rfl) rfl
theorem q911 : (Jvm.Cond.methodLink "AdjectiveCoupons$Poet" (11 : Nat) ({ cls := "AdjectiveCoupons$Critic", name := "off", desc := "([I[Z)I" } : Jvm.MethodName)) ∈ lw_all := lw_g (lw_at lw_m4 114 rfl) rfl
theorem q979 : (Jvm.Cond.unhidden "AdjectiveCoupons$Poet" "hoards" "()Z") ∈ lw_tbl := lw_at lw_m4 182 rfl
theorem q1640 : (Jvm.Cond.castable "AdjectiveCoupons$Poet" "AdjectiveCoupons$One") ∈ lw_tbl := lw_at lw_m7 123 rfl
theorem q1642 : (Jvm.Cond.castable "AdjectiveCoupons$Poet" "AdjectiveCoupons$Critic") ∈ lw_tbl := lw_at lw_m7 125 rfl
theorem q1660 : (Jvm.Cond.castable "AdjectiveCoupons$Poet" "java/lang/Object") ∈ lw_tbl := lw_at lw_m7 143 rfl
theorem in_X10 : ∀ w ∈ wsX100, w ∈ lw_all := lw_in wsX100 [726] (by decide +kernel) (by decide +kernel)
/-! AdjectiveCoupons$Kind -/
set_option maxRecDepth 100000
def RX11 : String := "AdjectiveCoupons$Kind"
abbrev cX11_costs : ByteArray := prog_8_method_3_code
def yX11_costs : MethodName := ⟨RX11, "costs", "()I"⟩
theorem dX11_costs_0 : decode cX11_costs 0 = .ok (.iconst 0, 1) := by decide +kernel
theorem dX11_costs_1 : decode cX11_costs 1 = .ok (.ireturn, 1) := by decide +kernel
abbrev cX11_isAdjective : ByteArray := prog_8_method_4_code
def yX11_isAdjective : MethodName := ⟨RX11, "isAdjective", "()Z"⟩
def dkwX11_isAdjective_0 : List UInt8 := [42, 182, 0, 7, 158, 0, 7, 4, 167, 0, 4, 3, 172]
abbrev dktX11_isAdjective_0 : List UInt8 := dkwX11_isAdjective_0 ++ []
theorem dksX11_isAdjective_0 : cX11_isAdjective.data.toList.drop 0 = dktX11_isAdjective_0 := by decide +kernel
theorem dX11_isAdjective_0 : decode cX11_isAdjective 0 = .ok (.aload_n 0, 1) := dk_42 (dk_at dksX11_isAdjective_0 0 rfl rfl)
theorem dX11_isAdjective_1 : decode cX11_isAdjective 1 = .ok (.invokevirtual 7, 3) := dk_182 0 7 (dk_at dksX11_isAdjective_0 1 rfl rfl)
theorem dX11_isAdjective_4 : decode cX11_isAdjective 4 = .ok (.ifCond .le 7, 3) := dk_158 0 7 (dk_at dksX11_isAdjective_0 4 rfl rfl)
theorem dX11_isAdjective_7 : decode cX11_isAdjective 7 = .ok (.iconst 1, 1) := dk_4 (dk_at dksX11_isAdjective_0 7 rfl rfl)
theorem dX11_isAdjective_8 : decode cX11_isAdjective 8 = .ok (.goto 4, 3) := dk_167 0 4 (dk_at dksX11_isAdjective_0 8 rfl rfl)
theorem dX11_isAdjective_11 : decode cX11_isAdjective 11 = .ok (.iconst 0, 1) := dk_3 (dk_at dksX11_isAdjective_0 11 rfl rfl)
theorem dX11_isAdjective_12 : decode cX11_isAdjective 12 = .ok (.ireturn, 1) := dk_172 (dk_at dksX11_isAdjective_0 12 rfl rfl)
theorem q757 : (Jvm.Cond.declares ({ cls := "AdjectiveCoupons$Kind", name := "number", desc := "()I" } : Jvm.MethodName)) ∈ lw_tbl := lw_at lw_m3 200 rfl
theorem q758 : (Jvm.Cond.sameMethod "AdjectiveCoupons$Kind" "AdjectiveCoupons$Kind" "number" "()I") ∈ lw_all := lw_g (lw_at lw_m3 201 rfl) rfl
theorem q855 : (Jvm.Cond.instanceMethod ({ cls := "AdjectiveCoupons$Kind", name := "costs", desc := "()I" } : Jvm.MethodName)) ∈ lw_all := lw_g (lw_at lw_m4 58 rfl) rfl
theorem q856 : (Jvm.Cond.sameMethod "AdjectiveCoupons$Kind" "AdjectiveCoupons$Kind" "costs" "()I") ∈ lw_all := lw_g (lw_at lw_m4 59 rfl) rfl
theorem q868 : (Jvm.Cond.code ({ cls := "AdjectiveCoupons$Kind", name := "costs", desc := "()I" } : Jvm.MethodName) prog_8_method_3_code (1 : Nat) (Option.some Jvm.ClassFile.FieldType.int)) ∈ lw_all := lw_g (lw_at lw_m4 71 rfl) rfl
theorem q878 : (Jvm.Cond.instanceMethod ({ cls := "AdjectiveCoupons$Kind", name := "isAdjective", desc := "()Z" } : Jvm.MethodName)) ∈ lw_all := lw_g (lw_at lw_m4 81 rfl) rfl
theorem q879 : (Jvm.Cond.sameMethod "AdjectiveCoupons$Kind" "AdjectiveCoupons$Kind" "isAdjective" "()Z") ∈ lw_all := lw_g (lw_at lw_m4 82 rfl) rfl
theorem q885 : (Jvm.Cond.code ({ cls := "AdjectiveCoupons$Kind", name := "isAdjective", desc := "()Z" } : Jvm.MethodName) prog_8_method_4_code (1 : Nat) (Option.some Jvm.ClassFile.FieldType.boolean)) ∈ lw_all := lw_g (lw_at lw_m4 88 rfl) rfl
theorem q886 : (Jvm.Cond.methodLink "AdjectiveCoupons$Kind" (7 : Nat) ({ cls := "AdjectiveCoupons$Kind", name := "costs", desc := "()I" } : Jvm.MethodName)) ∈ lw_all := lw_g (lw_at lw_m4 89 rfl) rfl
/-! AdjectiveCoupons$Colour -/
set_option maxRecDepth 100000
def RX12 : String := "AdjectiveCoupons$Colour"
abbrev cX12_number : ByteArray := prog_4_method_2_code
def yX12_number : MethodName := ⟨RX12, "number", "()I"⟩
def dkwX12_number_0 : List UInt8 := [4, 42, 183, 0, 7, 96, 172]
abbrev dktX12_number_0 : List UInt8 := dkwX12_number_0 ++ []
theorem dksX12_number_0 : cX12_number.data.toList.drop 0 = dktX12_number_0 := by decide +kernel
theorem dX12_number_0 : decode cX12_number 0 = .ok (.iconst 1, 1) := dk_4 (dk_at dksX12_number_0 0 rfl rfl)
theorem dX12_number_1 : decode cX12_number 1 = .ok (.aload_n 0, 1) := dk_42 (dk_at dksX12_number_0 1 rfl rfl)
theorem dX12_number_2 : decode cX12_number 2 = .ok (.invokespecial 7, 3) := dk_183 0 7 (dk_at dksX12_number_0 2 rfl rfl)
theorem dX12_number_5 : decode cX12_number 5 = .ok (.iadd, 1) := dk_96 (dk_at dksX12_number_0 5 rfl rfl)
theorem dX12_number_6 : decode cX12_number 6 = .ok (.ireturn, 1) := dk_172 (dk_at dksX12_number_0 6 rfl rfl)
theorem q759 : (Jvm.Cond.selects "AdjectiveCoupons$Colour" ({ cls := "AdjectiveCoupons$Kind", name := "number", desc := "()I" } : Jvm.MethodName) ({ cls := "AdjectiveCoupons$Colour", name := "number", desc := "()I" } : Jvm.MethodName)) ∈ lw_all := lw_g (lw_at lw_m3 202 rfl) rfl
theorem q760 : (Jvm.Cond.instanceMethod ({ cls := "AdjectiveCoupons$Colour", name := "number", desc := "()I" } : Jvm.MethodName)) ∈ lw_all := lw_g (lw_at lw_m3 203 rfl) rfl
theorem q761 : (Jvm.Cond.code ({ cls := "AdjectiveCoupons$Colour", name := "number", desc := "()I" } : Jvm.MethodName) prog_4_method_2_code (1 : Nat) (Option.some Jvm.ClassFile.FieldType.int)) ∈ lw_all := lw_g (lw_at lw_m3 204 rfl) rfl
theorem q762 : (Jvm.Cond.methodLink "AdjectiveCoupons$Colour" (7 : Nat) ({ cls := "AdjectiveCoupons$Plain", name := "number", desc := "()I" } : Jvm.MethodName)) ∈ lw_all := lw_g (lw_at lw_m3 205 rfl) rfl
theorem q763 : (Jvm.Cond.superclass "AdjectiveCoupons$Colour" "AdjectiveCoupons$Plain") ∈ lw_all := lw_g (lw_at lw_m3 206 rfl) rfl
theorem q857 : (Jvm.Cond.selects "AdjectiveCoupons$Colour" ({ cls := "AdjectiveCoupons$Kind", name := "costs", desc := "()I" } : Jvm.MethodName) ({ cls := "AdjectiveCoupons$Plain", name := "costs", desc := "()I" } : Jvm.MethodName)) ∈ lw_all := lw_g (lw_at lw_m4 60 rfl) rfl
theorem q880 : (Jvm.Cond.selects "AdjectiveCoupons$Colour" ({ cls := "AdjectiveCoupons$Kind", name := "isAdjective", desc := "()Z" } : Jvm.MethodName) ({ cls := "AdjectiveCoupons$Kind", name := "isAdjective", desc := "()Z" } : Jvm.MethodName)) ∈ lw_all := lw_g (lw_at lw_m4 83 rfl) rfl
theorem q1654 : (Jvm.Cond.castable "AdjectiveCoupons$Colour" "java/lang/Object") ∈ lw_tbl := lw_at lw_m7 137 rfl
/-! AdjectiveCoupons$Plain -/
set_option maxRecDepth 100000
def RX13 : String := "AdjectiveCoupons$Plain"
abbrev cX13_number : ByteArray := prog_13_method_2_code
def yX13_number : MethodName := ⟨RX13, "number", "()I"⟩
theorem dX13_number_0 : decode cX13_number 0 = .ok (.iconst 1, 1) := by decide +kernel
theorem dX13_number_1 : decode cX13_number 1 = .ok (.ireturn, 1) := by decide +kernel
abbrev cX13_costs : ByteArray := prog_13_method_3_code
def yX13_costs : MethodName := ⟨RX13, "costs", "()I"⟩
theorem dX13_costs_0 : decode cX13_costs 0 = .ok (.iconst 2, 1) := by decide +kernel
theorem dX13_costs_1 : decode cX13_costs 1 = .ok (.ireturn, 1) := by decide +kernel
theorem q764 : (Jvm.Cond.instanceMethod ({ cls := "AdjectiveCoupons$Plain", name := "number", desc := "()I" } : Jvm.MethodName)) ∈ lw_all := lw_g (lw_at lw_m3 207 rfl) rfl
theorem q765 : (Jvm.Cond.code ({ cls := "AdjectiveCoupons$Plain", name := "number", desc := "()I" } : Jvm.MethodName) prog_13_method_2_code (1 : Nat) (Option.some Jvm.ClassFile.FieldType.int)) ∈ lw_all := lw_g (lw_at lw_m3 208 rfl) rfl
theorem q777 : (Jvm.Cond.selects "AdjectiveCoupons$Plain" ({ cls := "AdjectiveCoupons$Kind", name := "number", desc := "()I" } : Jvm.MethodName) ({ cls := "AdjectiveCoupons$Plain", name := "number", desc := "()I" } : Jvm.MethodName)) ∈ lw_all := lw_g (lw_at lw_m3 220 rfl) rfl
theorem q858 : (Jvm.Cond.instanceMethod ({ cls := "AdjectiveCoupons$Plain", name := "costs", desc := "()I" } : Jvm.MethodName)) ∈ lw_all := lw_g (lw_at lw_m4 61 rfl) rfl
theorem q859 : (Jvm.Cond.code ({ cls := "AdjectiveCoupons$Plain", name := "costs", desc := "()I" } : Jvm.MethodName) prog_13_method_3_code (1 : Nat) (Option.some Jvm.ClassFile.FieldType.int)) ∈ lw_all := lw_g (lw_at lw_m4 62 rfl) rfl
theorem q867 : (Jvm.Cond.selects "AdjectiveCoupons$Plain" ({ cls := "AdjectiveCoupons$Kind", name := "costs", desc := "()I" } : Jvm.MethodName) ({ cls := "AdjectiveCoupons$Plain", name := "costs", desc := "()I" } : Jvm.MethodName)) ∈ lw_all := lw_g (lw_at lw_m4 70 rfl) rfl
theorem q884 : (Jvm.Cond.selects "AdjectiveCoupons$Plain" ({ cls := "AdjectiveCoupons$Kind", name := "isAdjective", desc := "()Z" } : Jvm.MethodName) ({ cls := "AdjectiveCoupons$Kind", name := "isAdjective", desc := "()Z" } : Jvm.MethodName)) ∈ lw_all := lw_g (lw_at lw_m4 87 rfl) rfl
theorem q1631 : (Jvm.Cond.sameMethod "AdjectiveCoupons$Plain" "AdjectiveCoupons$Plain" "number" "()I") ∈ lw_all := lw_g (lw_at lw_m7 114 rfl) rfl
theorem q1635 : (Jvm.Cond.sameMethod "AdjectiveCoupons$Plain" "AdjectiveCoupons$Plain" "costs" "()I") ∈ lw_all := lw_g (lw_at lw_m7 118 rfl) rfl
theorem q1653 : (Jvm.Cond.castable "AdjectiveCoupons$Plain" "java/lang/Object") ∈ lw_tbl := lw_at lw_m7 136 rfl
/-! AdjectiveCoupons$Half -/
set_option maxRecDepth 100000
def RX14 : String := "AdjectiveCoupons$Half"
abbrev cX14_number : ByteArray := prog_7_method_2_code
def yX14_number : MethodName := ⟨RX14, "number", "()I"⟩
theorem dX14_number_0 : decode cX14_number 0 = .ok (.iconst 3, 1) := by decide +kernel
theorem dX14_number_1 : decode cX14_number 1 = .ok (.ireturn, 1) := by decide +kernel
abbrev cX14_costs : ByteArray := prog_7_method_3_code
def yX14_costs : MethodName := ⟨RX14, "costs", "()I"⟩
def dkwX14_costs_0 : List UInt8 := [42, 183, 0, 7, 5, 108, 172]
abbrev dktX14_costs_0 : List UInt8 := dkwX14_costs_0 ++ []
theorem dksX14_costs_0 : cX14_costs.data.toList.drop 0 = dktX14_costs_0 := by decide +kernel
theorem dX14_costs_0 : decode cX14_costs 0 = .ok (.aload_n 0, 1) := dk_42 (dk_at dksX14_costs_0 0 rfl rfl)
theorem dX14_costs_1 : decode cX14_costs 1 = .ok (.invokespecial 7, 3) := dk_183 0 7 (dk_at dksX14_costs_0 1 rfl rfl)
theorem dX14_costs_4 : decode cX14_costs 4 = .ok (.iconst 2, 1) := dk_5 (dk_at dksX14_costs_0 4 rfl rfl)
theorem dX14_costs_5 : decode cX14_costs 5 = .ok (.idiv, 1) := dk_108 (dk_at dksX14_costs_0 5 rfl rfl)
theorem dX14_costs_6 : decode cX14_costs 6 = .ok (.ireturn, 1) := dk_172 (dk_at dksX14_costs_0 6 rfl rfl)
theorem q766 : (Jvm.Cond.selects "AdjectiveCoupons$Half" ({ cls := "AdjectiveCoupons$Kind", name := "number", desc := "()I" } : Jvm.MethodName) ({ cls := "AdjectiveCoupons$Half", name := "number", desc := "()I" } : Jvm.MethodName)) ∈ lw_all := lw_g (lw_at lw_m3 209 rfl) rfl
theorem q767 : (Jvm.Cond.instanceMethod ({ cls := "AdjectiveCoupons$Half", name := "number", desc := "()I" } : Jvm.MethodName)) ∈ lw_all := lw_g (lw_at lw_m3 210 rfl) rfl
theorem q768 : (Jvm.Cond.code ({ cls := "AdjectiveCoupons$Half", name := "number", desc := "()I" } : Jvm.MethodName) prog_7_method_2_code (1 : Nat) (Option.some Jvm.ClassFile.FieldType.int)) ∈ lw_all := lw_g (lw_at lw_m3 211 rfl) rfl
theorem q860 : (Jvm.Cond.selects "AdjectiveCoupons$Half" ({ cls := "AdjectiveCoupons$Kind", name := "costs", desc := "()I" } : Jvm.MethodName) ({ cls := "AdjectiveCoupons$Half", name := "costs", desc := "()I" } : Jvm.MethodName)) ∈ lw_all := lw_g (lw_at lw_m4 63 rfl) rfl
theorem q861 : (Jvm.Cond.instanceMethod ({ cls := "AdjectiveCoupons$Half", name := "costs", desc := "()I" } : Jvm.MethodName)) ∈ lw_all := lw_g (lw_at lw_m4 64 rfl) rfl
theorem q862 : (Jvm.Cond.code ({ cls := "AdjectiveCoupons$Half", name := "costs", desc := "()I" } : Jvm.MethodName) prog_7_method_3_code (1 : Nat) (Option.some Jvm.ClassFile.FieldType.int)) ∈ lw_all := lw_g (lw_at lw_m4 65 rfl) rfl
theorem q863 : (Jvm.Cond.methodLink "AdjectiveCoupons$Half" (7 : Nat) ({ cls := "AdjectiveCoupons$Plain", name := "costs", desc := "()I" } : Jvm.MethodName)) ∈ lw_all := lw_g (lw_at lw_m4 66 rfl) rfl
theorem q864 : (Jvm.Cond.superclass "AdjectiveCoupons$Half" "AdjectiveCoupons$Plain") ∈ lw_all := lw_g (lw_at lw_m4 67 rfl) rfl
theorem q881 : (Jvm.Cond.selects "AdjectiveCoupons$Half" ({ cls := "AdjectiveCoupons$Kind", name := "isAdjective", desc := "()Z" } : Jvm.MethodName) ({ cls := "AdjectiveCoupons$Kind", name := "isAdjective", desc := "()Z" } : Jvm.MethodName)) ∈ lw_all := lw_g (lw_at lw_m4 84 rfl) rfl
theorem q1655 : (Jvm.Cond.castable "AdjectiveCoupons$Half" "java/lang/Object") ∈ lw_tbl := lw_at lw_m7 138 rfl
/-! AdjectiveCoupons$Name -/
set_option maxRecDepth 100000
def RX15 : String := "AdjectiveCoupons$Name"
abbrev cX15_number : ByteArray := prog_10_method_2_code
def yX15_number : MethodName := ⟨RX15, "number", "()I"⟩
def dkwX15_number_0 : List UInt8 := [7, 42, 183, 0, 7, 96, 172]
abbrev dktX15_number_0 : List UInt8 := dkwX15_number_0 ++ []
theorem dksX15_number_0 : cX15_number.data.toList.drop 0 = dktX15_number_0 := by decide +kernel
theorem dX15_number_0 : decode cX15_number 0 = .ok (.iconst 4, 1) := dk_7 (dk_at dksX15_number_0 0 rfl rfl)
theorem dX15_number_1 : decode cX15_number 1 = .ok (.aload_n 0, 1) := dk_42 (dk_at dksX15_number_0 1 rfl rfl)
theorem dX15_number_2 : decode cX15_number 2 = .ok (.invokespecial 7, 3) := dk_183 0 7 (dk_at dksX15_number_0 2 rfl rfl)
theorem dX15_number_5 : decode cX15_number 5 = .ok (.iadd, 1) := dk_96 (dk_at dksX15_number_0 5 rfl rfl)
theorem dX15_number_6 : decode cX15_number 6 = .ok (.ireturn, 1) := dk_172 (dk_at dksX15_number_0 6 rfl rfl)
theorem q769 : (Jvm.Cond.selects "AdjectiveCoupons$Name" ({ cls := "AdjectiveCoupons$Kind", name := "number", desc := "()I" } : Jvm.MethodName) ({ cls := "AdjectiveCoupons$Name", name := "number", desc := "()I" } : Jvm.MethodName)) ∈ lw_all := lw_g (lw_at lw_m3 212 rfl) rfl
theorem q770 : (Jvm.Cond.instanceMethod ({ cls := "AdjectiveCoupons$Name", name := "number", desc := "()I" } : Jvm.MethodName)) ∈ lw_all := lw_g (lw_at lw_m3 213 rfl) rfl
theorem q771 : (Jvm.Cond.code ({ cls := "AdjectiveCoupons$Name", name := "number", desc := "()I" } : Jvm.MethodName) prog_10_method_2_code (1 : Nat) (Option.some Jvm.ClassFile.FieldType.int)) ∈ lw_all := lw_g (lw_at lw_m3 214 rfl) rfl
theorem q772 : (Jvm.Cond.methodLink "AdjectiveCoupons$Name" (7 : Nat) ({ cls := "AdjectiveCoupons$Noun", name := "number", desc := "()I" } : Jvm.MethodName)) ∈ lw_all := lw_g (lw_at lw_m3 215 rfl) rfl
theorem q773 : (Jvm.Cond.superclass "AdjectiveCoupons$Name" "AdjectiveCoupons$Noun") ∈ lw_all := lw_g (lw_at lw_m3 216 rfl) rfl
theorem q865 : (Jvm.Cond.selects "AdjectiveCoupons$Name" ({ cls := "AdjectiveCoupons$Kind", name := "costs", desc := "()I" } : Jvm.MethodName) ({ cls := "AdjectiveCoupons$Kind", name := "costs", desc := "()I" } : Jvm.MethodName)) ∈ lw_all := lw_g (lw_at lw_m4 68 rfl) rfl
theorem q882 : (Jvm.Cond.selects "AdjectiveCoupons$Name" ({ cls := "AdjectiveCoupons$Kind", name := "isAdjective", desc := "()Z" } : Jvm.MethodName) ({ cls := "AdjectiveCoupons$Kind", name := "isAdjective", desc := "()Z" } : Jvm.MethodName)) ∈ lw_all := lw_g (lw_at lw_m4 85 rfl) rfl
theorem q1656 : (Jvm.Cond.castable "AdjectiveCoupons$Name" "java/lang/Object") ∈ lw_tbl := lw_at lw_m7 139 rfl
/-! AdjectiveCoupons$Noun -/
set_option maxRecDepth 100000
def RX16 : String := "AdjectiveCoupons$Noun"
abbrev cX16_number : ByteArray := prog_11_method_2_code
def yX16_number : MethodName := ⟨RX16, "number", "()I"⟩
theorem dX16_number_0 : decode cX16_number 0 = .ok (.iconst 0, 1) := by decide +kernel
theorem dX16_number_1 : decode cX16_number 1 = .ok (.ireturn, 1) := by decide +kernel
theorem q774 : (Jvm.Cond.instanceMethod ({ cls := "AdjectiveCoupons$Noun", name := "number", desc := "()I" } : Jvm.MethodName)) ∈ lw_all := lw_g (lw_at lw_m3 217 rfl) rfl
theorem q775 : (Jvm.Cond.code ({ cls := "AdjectiveCoupons$Noun", name := "number", desc := "()I" } : Jvm.MethodName) prog_11_method_2_code (1 : Nat) (Option.some Jvm.ClassFile.FieldType.int)) ∈ lw_all := lw_g (lw_at lw_m3 218 rfl) rfl
theorem q776 : (Jvm.Cond.selects "AdjectiveCoupons$Noun" ({ cls := "AdjectiveCoupons$Kind", name := "number", desc := "()I" } : Jvm.MethodName) ({ cls := "AdjectiveCoupons$Noun", name := "number", desc := "()I" } : Jvm.MethodName)) ∈ lw_all := lw_g (lw_at lw_m3 219 rfl) rfl
theorem q866 : (Jvm.Cond.selects "AdjectiveCoupons$Noun" ({ cls := "AdjectiveCoupons$Kind", name := "costs", desc := "()I" } : Jvm.MethodName) ({ cls := "AdjectiveCoupons$Kind", name := "costs", desc := "()I" } : Jvm.MethodName)) ∈ lw_all := lw_g (lw_at lw_m4 69 rfl) rfl
theorem q883 : (Jvm.Cond.selects "AdjectiveCoupons$Noun" ({ cls := "AdjectiveCoupons$Kind", name := "isAdjective", desc := "()Z" } : Jvm.MethodName) ({ cls := "AdjectiveCoupons$Kind", name := "isAdjective", desc := "()Z" } : Jvm.MethodName)) ∈ lw_all := lw_g (lw_at lw_m4 86 rfl) rfl
theorem q1632 : (Jvm.Cond.sameMethod "AdjectiveCoupons$Noun" "AdjectiveCoupons$Noun" "number" "()I") ∈ lw_all := lw_g (lw_at lw_m7 115 rfl) rfl
theorem q1652 : (Jvm.Cond.castable "AdjectiveCoupons$Noun" "java/lang/Object") ∈ lw_tbl := lw_at lw_m7 135 rfl
/-! AdjectiveCoupons$Buyer -/
set_option maxRecDepth 100000
def RX17 : String := "AdjectiveCoupons$Buyer"
abbrev cX17_off : ByteArray := prog_2_method_2_code
def yX17_off : MethodName := ⟨RX17, "off", "([I[Z)I"⟩
theorem dX17_off_0 : decode cX17_off 0 = .ok (.iconst 0, 1) := by decide +kernel
theorem dX17_off_1 : decode cX17_off 1 = .ok (.ireturn, 1) := by decide +kernel
abbrev cX17_hoards : ByteArray := prog_2_method_3_code
def yX17_hoards : MethodName := ⟨RX17, "hoards", "()Z"⟩
theorem dX17_hoards_0 : decode cX17_hoards 0 = .ok (.iconst 0, 1) := by decide +kernel
theorem dX17_hoards_1 : decode cX17_hoards 1 = .ok (.ireturn, 1) := by decide +kernel
theorem q792 : (Jvm.Cond.declares ({ cls := "AdjectiveCoupons$Buyer", name := "kind", desc := "()I" } : Jvm.MethodName)) ∈ lw_tbl := lw_at lw_m3 235 rfl
theorem q890 : (Jvm.Cond.interfaceMethod "AdjectiveCoupons$Buyer" "AdjectiveCoupons$Buyer" "off" "([I[Z)I") ∈ lw_tbl := lw_at lw_m4 93 rfl
theorem q891 : (Jvm.Cond.declares ({ cls := "AdjectiveCoupons$Buyer", name := "off", desc := "([I[Z)I" } : Jvm.MethodName)) ∈ lw_tbl := lw_at lw_m4 94 rfl
theorem q894 : (Jvm.Cond.instanceMethod ({ cls := "AdjectiveCoupons$Buyer", name := "off", desc := "([I[Z)I" } : Jvm.MethodName)) ∈ lw_all := lw_g (lw_at lw_m4 97 rfl) rfl
theorem q895 : (Jvm.Cond.publicMethod ({ cls := "AdjectiveCoupons$Buyer", name := "off", desc := "([I[Z)I" } : Jvm.MethodName)) ∈ lw_tbl := lw_at lw_m4 98 rfl
theorem q896 : (Jvm.Cond.code ({ cls := "AdjectiveCoupons$Buyer", name := "off", desc := "([I[Z)I" } : Jvm.MethodName) prog_2_method_2_code (3 : Nat) (Option.some Jvm.ClassFile.FieldType.int)) ∈ lw_all := lw_g (lw_at lw_m4 99 rfl) rfl
theorem q971 : (Jvm.Cond.declares ({ cls := "AdjectiveCoupons$Buyer", name := "hoards", desc := "()Z" } : Jvm.MethodName)) ∈ lw_tbl := lw_at lw_m4 174 rfl
theorem q977 : (Jvm.Cond.instanceMethod ({ cls := "AdjectiveCoupons$Buyer", name := "hoards", desc := "()Z" } : Jvm.MethodName)) ∈ lw_all := lw_g (lw_at lw_m4 180 rfl) rfl
theorem q978 : (Jvm.Cond.code ({ cls := "AdjectiveCoupons$Buyer", name := "hoards", desc := "()Z" } : Jvm.MethodName) prog_2_method_3_code (1 : Nat) (Option.some Jvm.ClassFile.FieldType.boolean)) ∈ lw_all := lw_g (lw_at lw_m4 181 rfl) rfl
theorem q980 : (Jvm.Cond.publicMethod ({ cls := "AdjectiveCoupons$Buyer", name := "hoards", desc := "()Z" } : Jvm.MethodName)) ∈ lw_tbl := lw_at lw_m4 183 rfl
/-! AdjectiveCoupons$Reader -/
set_option maxRecDepth 100000
def RX3 : String := "AdjectiveCoupons$Reader"
def TX3 : u_T := fun k => match k with
  | 0 => ("AdjectiveCoupons$Reader", "here", "I", false)
  | 1 => ("AdjectiveCoupons$Reader", "first", "I", false)
  | 2 => ("AdjectiveCoupons$Reader", "word", "Ljava/lang/String;", false)
  | 3 => ("AdjectiveCoupons$Reader", "wordsThere", "I", false)
  | 4 => ("AdjectiveCoupons$Reader", "peopleThere", "I", false)
  | 5 => ("AdjectiveCoupons$Reader", "changesThere", "I", false)
  | 6 => ("AdjectiveCoupons$Reader", "clauses", "[[I", true)
  | 7 => ("AdjectiveCoupons$Reader", "read", "I", false)
  | _ => ("AdjectiveCoupons$Reader", "this$0", "LAdjectiveCoupons;", true)
def tyX3 : Nat → FieldType := fun k => match k with
  | 0 => .int
  | 1 => .int
  | 2 => .object "java/lang/String"
  | 3 => .int
  | 4 => .int
  | 5 => .int
  | 6 => .array (.array .int)
  | 7 => .int
  | _ => .object "AdjectiveCoupons"
abbrev wsX30 : List Cond := u_ws RX3 TX3 9
theorem nmX3 : ∀ a, a < 9 → ∀ b, b < 9 → a ≠ b → (TX3 a).2.1 ≠ (TX3 b).2.1 := by decide +kernel
theorem tyX3_ok : ∀ k, k < 9 → parseFieldDescriptor (TX3 k).2.2.1 = some (tyX3 k) := by decide +kernel
abbrev cX3_init : ByteArray := prog_15_method_1_code
def yX3_init : MethodName := ⟨RX3, "<init>", "(LAdjectiveCoupons;)V"⟩
def dkwX3_init_2 : List UInt8 := [181, 0, 37, 42, 16, 14, 189, 0, 40, 181, 0, 42, 177]
abbrev dktX3_init_2 : List UInt8 := dkwX3_init_2 ++ []
def dkwX3_init_1 : List UInt8 := [181, 0, 25, 42, 42, 180, 0, 3, 180, 0, 28, 181, 0, 31, 42, 42, 180, 0, 3, 180, 0, 34]
abbrev dktX3_init_1 : List UInt8 := dkwX3_init_1 ++ dktX3_init_2
def dkwX3_init_0 : List UInt8 := [42, 43, 181, 0, 3, 42, 183, 0, 9, 42, 18, 15, 181, 0, 17, 42, 42, 180, 0, 3, 180, 0, 21]
abbrev dktX3_init_0 : List UInt8 := dkwX3_init_0 ++ dktX3_init_1
theorem dksX3_init_0 : cX3_init.data.toList.drop 0 = dktX3_init_0 := by decide +kernel
theorem dksX3_init_1 : cX3_init.data.toList.drop 23 = dktX3_init_1 := dk_seg dksX3_init_0 23 rfl rfl
theorem dksX3_init_2 : cX3_init.data.toList.drop 45 = dktX3_init_2 := dk_seg dksX3_init_1 22 rfl rfl
theorem dX3_init_0 : decode cX3_init 0 = .ok (.aload_n 0, 1) := dk_42 (dk_at dksX3_init_0 0 rfl rfl)
theorem dX3_init_1 : decode cX3_init 1 = .ok (.aload_n 1, 1) := dk_43 (dk_at dksX3_init_0 1 rfl rfl)
theorem dX3_init_2 : decode cX3_init 2 = .ok (.putfield 3, 3) := dk_181 0 3 (dk_at dksX3_init_0 2 rfl rfl)
theorem dX3_init_5 : decode cX3_init 5 = .ok (.aload_n 0, 1) := dk_42 (dk_at dksX3_init_0 5 rfl rfl)
theorem dX3_init_6 : decode cX3_init 6 = .ok (.invokespecial 9, 3) := dk_183 0 9 (dk_at dksX3_init_0 6 rfl rfl)
theorem dX3_init_9 : decode cX3_init 9 = .ok (.aload_n 0, 1) := dk_42 (dk_at dksX3_init_0 9 rfl rfl)
theorem dX3_init_10 : decode cX3_init 10 = .ok (.ldc 15, 2) := dk_18 15 (dk_at dksX3_init_0 10 rfl rfl)
theorem dX3_init_12 : decode cX3_init 12 = .ok (.putfield 17, 3) := dk_181 0 17 (dk_at dksX3_init_0 12 rfl rfl)
theorem dX3_init_15 : decode cX3_init 15 = .ok (.aload_n 0, 1) := dk_42 (dk_at dksX3_init_0 15 rfl rfl)
theorem dX3_init_16 : decode cX3_init 16 = .ok (.aload_n 0, 1) := dk_42 (dk_at dksX3_init_0 16 rfl rfl)
theorem dX3_init_17 : decode cX3_init 17 = .ok (.getfield 3, 3) := dk_180 0 3 (dk_at dksX3_init_0 17 rfl rfl)
theorem dX3_init_20 : decode cX3_init 20 = .ok (.getfield 21, 3) := dk_180 0 21 (dk_at dksX3_init_0 20 rfl rfl)
theorem dX3_init_23 : decode cX3_init 23 = .ok (.putfield 25, 3) := dk_181 0 25 (dk_at dksX3_init_1 0 rfl rfl)
theorem dX3_init_26 : decode cX3_init 26 = .ok (.aload_n 0, 1) := dk_42 (dk_at dksX3_init_1 3 rfl rfl)
theorem dX3_init_27 : decode cX3_init 27 = .ok (.aload_n 0, 1) := dk_42 (dk_at dksX3_init_1 4 rfl rfl)
theorem dX3_init_28 : decode cX3_init 28 = .ok (.getfield 3, 3) := dk_180 0 3 (dk_at dksX3_init_1 5 rfl rfl)
theorem dX3_init_31 : decode cX3_init 31 = .ok (.getfield 28, 3) := dk_180 0 28 (dk_at dksX3_init_1 8 rfl rfl)
theorem dX3_init_34 : decode cX3_init 34 = .ok (.putfield 31, 3) := dk_181 0 31 (dk_at dksX3_init_1 11 rfl rfl)
theorem dX3_init_37 : decode cX3_init 37 = .ok (.aload_n 0, 1) := dk_42 (dk_at dksX3_init_1 14 rfl rfl)
theorem dX3_init_38 : decode cX3_init 38 = .ok (.aload_n 0, 1) := dk_42 (dk_at dksX3_init_1 15 rfl rfl)
theorem dX3_init_39 : decode cX3_init 39 = .ok (.getfield 3, 3) := dk_180 0 3 (dk_at dksX3_init_1 16 rfl rfl)
theorem dX3_init_42 : decode cX3_init 42 = .ok (.getfield 34, 3) := dk_180 0 34 (dk_at dksX3_init_1 19 rfl rfl)
theorem dX3_init_45 : decode cX3_init 45 = .ok (.putfield 37, 3) := dk_181 0 37 (dk_at dksX3_init_2 0 rfl rfl)
theorem dX3_init_48 : decode cX3_init 48 = .ok (.aload_n 0, 1) := dk_42 (dk_at dksX3_init_2 3 rfl rfl)
theorem dX3_init_49 : decode cX3_init 49 = .ok (.bipush 14, 2) := dk_16 14 (dk_at dksX3_init_2 4 rfl rfl)
theorem dX3_init_51 : decode cX3_init 51 = .ok (.anewarray 40, 3) := dk_189 0 40 (dk_at dksX3_init_2 6 rfl rfl)
theorem dX3_init_54 : decode cX3_init 54 = .ok (.putfield 42, 3) := dk_181 0 42 (dk_at dksX3_init_2 9 rfl rfl)
theorem dX3_init_57 : decode cX3_init 57 = .ok (.return_, 1) := dk_177 (dk_at dksX3_init_2 12 rfl rfl)
abbrev cX3_read : ByteArray := prog_15_method_7_code
def yX3_read : MethodName := ⟨RX3, "read", "()LAdjectiveCoupons$Reader;"⟩
def dkwX3_read_3 : List UInt8 := [182, 0, 94, 153, 0, 7, 4, 167, 0, 4, 3, 182, 0, 108, 167, 255, 175, 42, 176]
abbrev dktX3_read_3 : List UInt8 := dkwX3_read_3 ++ []
def dkwX3_read_2 : List UInt8 := [180, 0, 129, 16, 14, 162, 0, 7, 4, 167, 0, 4, 3, 60, 42, 27, 154, 0, 13, 42, 180, 0, 17]
abbrev dktX3_read_2 : List UInt8 := dkwX3_read_2 ++ dktX3_read_3
def dkwX3_read_1 : List UInt8 := [4, 96, 181, 0, 129, 42, 182, 0, 91, 42, 180, 0, 17, 18, 136, 182, 0, 122, 153, 0, 16, 42]
abbrev dktX3_read_1 : List UInt8 := dkwX3_read_1 ++ dktX3_read_2
def dkwX3_read_0 : List UInt8 := [4, 60, 27, 153, 0, 83, 42, 180, 0, 42, 42, 180, 0, 129, 42, 182, 0, 132, 83, 42, 89, 180, 0, 129]
abbrev dktX3_read_0 : List UInt8 := dkwX3_read_0 ++ dktX3_read_1
theorem dksX3_read_0 : cX3_read.data.toList.drop 0 = dktX3_read_0 := by decide +kernel
theorem dksX3_read_1 : cX3_read.data.toList.drop 24 = dktX3_read_1 := dk_seg dksX3_read_0 24 rfl rfl
theorem dksX3_read_2 : cX3_read.data.toList.drop 46 = dktX3_read_2 := dk_seg dksX3_read_1 22 rfl rfl
theorem dksX3_read_3 : cX3_read.data.toList.drop 69 = dktX3_read_3 := dk_seg dksX3_read_2 23 rfl rfl
theorem dX3_read_0 : decode cX3_read 0 = .ok (.iconst 1, 1) := dk_4 (dk_at dksX3_read_0 0 rfl rfl)
theorem dX3_read_1 : decode cX3_read 1 = .ok (.istore_n 1, 1) := dk_60 (dk_at dksX3_read_0 1 rfl rfl)
theorem dX3_read_2 : decode cX3_read 2 = .ok (.iload_n 1, 1) := dk_27 (dk_at dksX3_read_0 2 rfl rfl)
theorem dX3_read_3 : decode cX3_read 3 = .ok (.ifCond .eq 83, 3) := dk_153 0 83 (dk_at dksX3_read_0 3 rfl rfl)
theorem dX3_read_6 : decode cX3_read 6 = .ok (.aload_n 0, 1) := dk_42 (dk_at dksX3_read_0 6 rfl rfl)
theorem dX3_read_7 : decode cX3_read 7 = .ok (.getfield 42, 3) := dk_180 0 42 (dk_at dksX3_read_0 7 rfl rfl)
theorem dX3_read_10 : decode cX3_read 10 = .ok (.aload_n 0, 1) := dk_42 (dk_at dksX3_read_0 10 rfl rfl)
theorem dX3_read_11 : decode cX3_read 11 = .ok (.getfield 129, 3) := dk_180 0 129 (dk_at dksX3_read_0 11 rfl rfl)
theorem dX3_read_14 : decode cX3_read 14 = .ok (.aload_n 0, 1) := dk_42 (dk_at dksX3_read_0 14 rfl rfl)
theorem dX3_read_15 : decode cX3_read 15 = .ok (.invokevirtual 132, 3) := dk_182 0 132 (dk_at dksX3_read_0 15 rfl rfl)
theorem dX3_read_18 : decode cX3_read 18 = .ok (.aastore, 1) := dk_83 (dk_at dksX3_read_0 18 rfl rfl)
theorem dX3_read_19 : decode cX3_read 19 = .ok (.aload_n 0, 1) := dk_42 (dk_at dksX3_read_0 19 rfl rfl)
theorem dX3_read_20 : decode cX3_read 20 = .ok (.dup, 1) := dk_89 (dk_at dksX3_read_0 20 rfl rfl)
theorem dX3_read_21 : decode cX3_read 21 = .ok (.getfield 129, 3) := dk_180 0 129 (dk_at dksX3_read_0 21 rfl rfl)
theorem dX3_read_24 : decode cX3_read 24 = .ok (.iconst 1, 1) := dk_4 (dk_at dksX3_read_1 0 rfl rfl)
theorem dX3_read_25 : decode cX3_read 25 = .ok (.iadd, 1) := dk_96 (dk_at dksX3_read_1 1 rfl rfl)
theorem dX3_read_26 : decode cX3_read 26 = .ok (.putfield 129, 3) := dk_181 0 129 (dk_at dksX3_read_1 2 rfl rfl)
theorem dX3_read_29 : decode cX3_read 29 = .ok (.aload_n 0, 1) := dk_42 (dk_at dksX3_read_1 5 rfl rfl)
theorem dX3_read_30 : decode cX3_read 30 = .ok (.invokevirtual 91, 3) := dk_182 0 91 (dk_at dksX3_read_1 6 rfl rfl)
theorem dX3_read_33 : decode cX3_read 33 = .ok (.aload_n 0, 1) := dk_42 (dk_at dksX3_read_1 9 rfl rfl)
theorem dX3_read_34 : decode cX3_read 34 = .ok (.getfield 17, 3) := dk_180 0 17 (dk_at dksX3_read_1 10 rfl rfl)
theorem dX3_read_37 : decode cX3_read 37 = .ok (.ldc 136, 2) := dk_18 136 (dk_at dksX3_read_1 13 rfl rfl)
theorem dX3_read_39 : decode cX3_read 39 = .ok (.invokevirtual 122, 3) := dk_182 0 122 (dk_at dksX3_read_1 15 rfl rfl)
theorem dX3_read_42 : decode cX3_read 42 = .ok (.ifCond .eq 16, 3) := dk_153 0 16 (dk_at dksX3_read_1 18 rfl rfl)
theorem dX3_read_45 : decode cX3_read 45 = .ok (.aload_n 0, 1) := dk_42 (dk_at dksX3_read_1 21 rfl rfl)
theorem dX3_read_46 : decode cX3_read 46 = .ok (.getfield 129, 3) := dk_180 0 129 (dk_at dksX3_read_2 0 rfl rfl)
theorem dX3_read_49 : decode cX3_read 49 = .ok (.bipush 14, 2) := dk_16 14 (dk_at dksX3_read_2 3 rfl rfl)
theorem dX3_read_51 : decode cX3_read 51 = .ok (.if_icmp .ge 7, 3) := dk_162 0 7 (dk_at dksX3_read_2 5 rfl rfl)
theorem dX3_read_54 : decode cX3_read 54 = .ok (.iconst 1, 1) := dk_4 (dk_at dksX3_read_2 8 rfl rfl)
theorem dX3_read_55 : decode cX3_read 55 = .ok (.goto 4, 3) := dk_167 0 4 (dk_at dksX3_read_2 9 rfl rfl)
theorem dX3_read_58 : decode cX3_read 58 = .ok (.iconst 0, 1) := dk_3 (dk_at dksX3_read_2 12 rfl rfl)
theorem dX3_read_59 : decode cX3_read 59 = .ok (.istore_n 1, 1) := dk_60 (dk_at dksX3_read_2 13 rfl rfl)
theorem dX3_read_60 : decode cX3_read 60 = .ok (.aload_n 0, 1) := dk_42 (dk_at dksX3_read_2 14 rfl rfl)
theorem dX3_read_61 : decode cX3_read 61 = .ok (.iload_n 1, 1) := dk_27 (dk_at dksX3_read_2 15 rfl rfl)
theorem dX3_read_62 : decode cX3_read 62 = .ok (.ifCond .ne 13, 3) := dk_154 0 13 (dk_at dksX3_read_2 16 rfl rfl)
theorem dX3_read_65 : decode cX3_read 65 = .ok (.aload_n 0, 1) := dk_42 (dk_at dksX3_read_2 19 rfl rfl)
theorem dX3_read_66 : decode cX3_read 66 = .ok (.getfield 17, 3) := dk_180 0 17 (dk_at dksX3_read_2 20 rfl rfl)
theorem dX3_read_69 : decode cX3_read 69 = .ok (.invokevirtual 94, 3) := dk_182 0 94 (dk_at dksX3_read_3 0 rfl rfl)
theorem dX3_read_72 : decode cX3_read 72 = .ok (.ifCond .eq 7, 3) := dk_153 0 7 (dk_at dksX3_read_3 3 rfl rfl)
theorem dX3_read_75 : decode cX3_read 75 = .ok (.iconst 1, 1) := dk_4 (dk_at dksX3_read_3 6 rfl rfl)
theorem dX3_read_76 : decode cX3_read 76 = .ok (.goto 4, 3) := dk_167 0 4 (dk_at dksX3_read_3 7 rfl rfl)
theorem dX3_read_79 : decode cX3_read 79 = .ok (.iconst 0, 1) := dk_3 (dk_at dksX3_read_3 10 rfl rfl)
theorem dX3_read_80 : decode cX3_read 80 = .ok (.invokevirtual 108, 3) := dk_182 0 108 (dk_at dksX3_read_3 11 rfl rfl)
theorem dX3_read_83 : decode cX3_read 83 = .ok (.goto (-81), 3) := dk_167 255 175 (dk_at dksX3_read_3 14 rfl rfl)
theorem dX3_read_86 : decode cX3_read 86 = .ok (.aload_n 0, 1) := dk_42 (dk_at dksX3_read_3 17 rfl rfl)
theorem dX3_read_87 : decode cX3_read 87 = .ok (.areturn, 1) := dk_176 (dk_at dksX3_read_3 18 rfl rfl)
abbrev cX3_clause : ByteArray := prog_15_method_6_code
def yX3_clause : MethodName := ⟨RX3, "clause", "()[I"⟩
def dkwX3_clause_12 : List UInt8 := [89, 4, 42, 16, 20, 182, 0, 126, 79, 176, 4, 188, 10, 89, 3, 27, 79, 176]
abbrev dktX3_clause_12 : List UInt8 := dkwX3_clause_12 ++ []
def dkwX3_clause_11 : List UInt8 := [5, 42, 7, 182, 0, 126, 79, 89, 6, 42, 16, 99, 182, 0, 126, 79, 176, 5, 188, 10, 89, 3, 27, 79]
abbrev dktX3_clause_11 : List UInt8 := dkwX3_clause_11 ++ dktX3_clause_12
def dkwX3_clause_10 : List UInt8 := [181, 0, 37, 7, 188, 10, 89, 3, 27, 79, 89, 4, 42, 42, 180, 0, 25, 4, 100, 182, 0, 126, 79, 89]
abbrev dktX3_clause_10 : List UInt8 := dkwX3_clause_10 ++ dktX3_clause_11
def dkwX3_clause_9 : List UInt8 := [42, 180, 0, 37, 16, 6, 162, 0, 7, 4, 167, 0, 4, 3, 182, 0, 108, 42, 89, 180, 0, 37, 4, 96]
abbrev dktX3_clause_9 : List UInt8 := dkwX3_clause_9 ++ dktX3_clause_10
def dkwX3_clause_8 : List UInt8 := [42, 3, 181, 0, 25, 42, 3, 181, 0, 31, 42, 3, 181, 0, 37, 4, 188, 10, 89, 3, 27, 79, 176, 42]
abbrev dktX3_clause_8 : List UInt8 := dkwX3_clause_8 ++ dktX3_clause_9
def dkwX3_clause_7 : List UInt8 := [170, 0, 0, 0, 0, 132, 0, 0, 0, 9, 0, 0, 0, 11, 0, 0, 0, 26, 0, 0, 0, 49, 0, 0, 0, 115]
abbrev dktX3_clause_7 : List UInt8 := dkwX3_clause_7 ++ dktX3_clause_8
def dkwX3_clause_6 : List UInt8 := [181, 0, 31, 5, 188, 10, 89, 3, 27, 79, 89, 4, 42, 16, 20, 182, 0, 126, 79, 176, 27]
abbrev dktX3_clause_6 : List UInt8 := dkwX3_clause_6 ++ dktX3_clause_7
def dkwX3_clause_5 : List UInt8 := [180, 0, 31, 7, 162, 0, 7, 4, 167, 0, 4, 3, 182, 0, 108, 42, 89, 180, 0, 31, 4, 96]
abbrev dktX3_clause_5 : List UInt8 := dkwX3_clause_5 ++ dktX3_clause_6
def dkwX3_clause_4 : List UInt8 := [89, 3, 27, 79, 89, 4, 42, 16, 30, 182, 0, 126, 79, 176, 27, 16, 9, 162, 0, 47, 42, 42]
abbrev dktX3_clause_4 : List UInt8 := dkwX3_clause_4 ++ dktX3_clause_5
def dkwX3_clause_3 : List UInt8 := [162, 0, 7, 4, 167, 0, 4, 3, 182, 0, 108, 42, 89, 180, 0, 25, 4, 96, 181, 0, 25, 5, 188, 10]
abbrev dktX3_clause_3 : List UInt8 := dkwX3_clause_3 ++ dktX3_clause_4
def dkwX3_clause_2 : List UInt8 := [159, 0, 7, 4, 167, 0, 4, 3, 182, 0, 108, 27, 8, 162, 0, 48, 42, 42, 180, 0, 25, 16, 10]
abbrev dktX3_clause_2 : List UInt8 := dkwX3_clause_2 ++ dktX3_clause_3
def dkwX3_clause_1 : List UInt8 := [50, 182, 0, 122, 153, 0, 7, 28, 167, 0, 4, 27, 60, 132, 2, 1, 167, 255, 224, 42, 27, 2]
abbrev dktX3_clause_1 : List UInt8 := dkwX3_clause_1 ++ dktX3_clause_2
def dkwX3_clause_0 : List UInt8 := [42, 182, 0, 91, 2, 60, 3, 61, 28, 178, 0, 118, 190, 162, 0, 30, 42, 180, 0, 17, 178, 0, 118, 28]
abbrev dktX3_clause_0 : List UInt8 := dkwX3_clause_0 ++ dktX3_clause_1
theorem dksX3_clause_0 : cX3_clause.data.toList.drop 0 = dktX3_clause_0 := by decide +kernel
theorem dksX3_clause_1 : cX3_clause.data.toList.drop 24 = dktX3_clause_1 := dk_seg dksX3_clause_0 24 rfl rfl
theorem dksX3_clause_2 : cX3_clause.data.toList.drop 46 = dktX3_clause_2 := dk_seg dksX3_clause_1 22 rfl rfl
theorem dksX3_clause_3 : cX3_clause.data.toList.drop 69 = dktX3_clause_3 := dk_seg dksX3_clause_2 23 rfl rfl
theorem dksX3_clause_4 : cX3_clause.data.toList.drop 93 = dktX3_clause_4 := dk_seg dksX3_clause_3 24 rfl rfl
theorem dksX3_clause_5 : cX3_clause.data.toList.drop 115 = dktX3_clause_5 := dk_seg dksX3_clause_4 22 rfl rfl
theorem dksX3_clause_6 : cX3_clause.data.toList.drop 137 = dktX3_clause_6 := dk_seg dksX3_clause_5 22 rfl rfl
theorem dksX3_clause_7 : cX3_clause.data.toList.drop 158 = dktX3_clause_7 := dk_seg dksX3_clause_6 21 rfl rfl
theorem dksX3_clause_8 : cX3_clause.data.toList.drop 184 = dktX3_clause_8 := dk_seg dksX3_clause_7 26 rfl rfl
theorem dksX3_clause_9 : cX3_clause.data.toList.drop 208 = dktX3_clause_9 := dk_seg dksX3_clause_8 24 rfl rfl
theorem dksX3_clause_10 : cX3_clause.data.toList.drop 232 = dktX3_clause_10 := dk_seg dksX3_clause_9 24 rfl rfl
theorem dksX3_clause_11 : cX3_clause.data.toList.drop 256 = dktX3_clause_11 := dk_seg dksX3_clause_10 24 rfl rfl
theorem dksX3_clause_12 : cX3_clause.data.toList.drop 280 = dktX3_clause_12 := dk_seg dksX3_clause_11 24 rfl rfl
theorem dX3_clause_0 : decode cX3_clause 0 = .ok (.aload_n 0, 1) := dk_42 (dk_at dksX3_clause_0 0 rfl rfl)
theorem dX3_clause_1 : decode cX3_clause 1 = .ok (.invokevirtual 91, 3) := dk_182 0 91 (dk_at dksX3_clause_0 1 rfl rfl)
theorem dX3_clause_4 : decode cX3_clause 4 = .ok (.iconst (-1), 1) := dk_2 (dk_at dksX3_clause_0 4 rfl rfl)
theorem dX3_clause_5 : decode cX3_clause 5 = .ok (.istore_n 1, 1) := dk_60 (dk_at dksX3_clause_0 5 rfl rfl)
theorem dX3_clause_6 : decode cX3_clause 6 = .ok (.iconst 0, 1) := dk_3 (dk_at dksX3_clause_0 6 rfl rfl)
theorem dX3_clause_7 : decode cX3_clause 7 = .ok (.istore_n 2, 1) := dk_61 (dk_at dksX3_clause_0 7 rfl rfl)
theorem dX3_clause_8 : decode cX3_clause 8 = .ok (.iload_n 2, 1) := dk_28 (dk_at dksX3_clause_0 8 rfl rfl)
theorem dX3_clause_9 : decode cX3_clause 9 = .ok (.getstatic 118, 3) := dk_178 0 118 (dk_at dksX3_clause_0 9 rfl rfl)
theorem dX3_clause_12 : decode cX3_clause 12 = .ok (.arraylength, 1) := dk_190 (dk_at dksX3_clause_0 12 rfl rfl)
theorem dX3_clause_13 : decode cX3_clause 13 = .ok (.if_icmp .ge 30, 3) := dk_162 0 30 (dk_at dksX3_clause_0 13 rfl rfl)
theorem dX3_clause_16 : decode cX3_clause 16 = .ok (.aload_n 0, 1) := dk_42 (dk_at dksX3_clause_0 16 rfl rfl)
theorem dX3_clause_17 : decode cX3_clause 17 = .ok (.getfield 17, 3) := dk_180 0 17 (dk_at dksX3_clause_0 17 rfl rfl)
theorem dX3_clause_20 : decode cX3_clause 20 = .ok (.getstatic 118, 3) := dk_178 0 118 (dk_at dksX3_clause_0 20 rfl rfl)
theorem dX3_clause_23 : decode cX3_clause 23 = .ok (.iload_n 2, 1) := dk_28 (dk_at dksX3_clause_0 23 rfl rfl)
theorem dX3_clause_24 : decode cX3_clause 24 = .ok (.aaload, 1) := dk_50 (dk_at dksX3_clause_1 0 rfl rfl)
theorem dX3_clause_25 : decode cX3_clause 25 = .ok (.invokevirtual 122, 3) := dk_182 0 122 (dk_at dksX3_clause_1 1 rfl rfl)
theorem dX3_clause_28 : decode cX3_clause 28 = .ok (.ifCond .eq 7, 3) := dk_153 0 7 (dk_at dksX3_clause_1 4 rfl rfl)
theorem dX3_clause_31 : decode cX3_clause 31 = .ok (.iload_n 2, 1) := dk_28 (dk_at dksX3_clause_1 7 rfl rfl)
theorem dX3_clause_32 : decode cX3_clause 32 = .ok (.goto 4, 3) := dk_167 0 4 (dk_at dksX3_clause_1 8 rfl rfl)
theorem dX3_clause_35 : decode cX3_clause 35 = .ok (.iload_n 1, 1) := dk_27 (dk_at dksX3_clause_1 11 rfl rfl)
theorem dX3_clause_36 : decode cX3_clause 36 = .ok (.istore_n 1, 1) := dk_60 (dk_at dksX3_clause_1 12 rfl rfl)
theorem dX3_clause_37 : decode cX3_clause 37 = .ok (.iinc 2 1, 3) := dk_132 2 1 (dk_at dksX3_clause_1 13 rfl rfl)
theorem dX3_clause_40 : decode cX3_clause 40 = .ok (.goto (-32), 3) := dk_167 255 224 (dk_at dksX3_clause_1 16 rfl rfl)
theorem dX3_clause_43 : decode cX3_clause 43 = .ok (.aload_n 0, 1) := dk_42 (dk_at dksX3_clause_1 19 rfl rfl)
theorem dX3_clause_44 : decode cX3_clause 44 = .ok (.iload_n 1, 1) := dk_27 (dk_at dksX3_clause_1 20 rfl rfl)
theorem dX3_clause_45 : decode cX3_clause 45 = .ok (.iconst (-1), 1) := dk_2 (dk_at dksX3_clause_1 21 rfl rfl)
theorem dX3_clause_46 : decode cX3_clause 46 = .ok (.if_icmp .eq 7, 3) := dk_159 0 7 (dk_at dksX3_clause_2 0 rfl rfl)
theorem dX3_clause_49 : decode cX3_clause 49 = .ok (.iconst 1, 1) := dk_4 (dk_at dksX3_clause_2 3 rfl rfl)
theorem dX3_clause_50 : decode cX3_clause 50 = .ok (.goto 4, 3) := dk_167 0 4 (dk_at dksX3_clause_2 4 rfl rfl)
theorem dX3_clause_53 : decode cX3_clause 53 = .ok (.iconst 0, 1) := dk_3 (dk_at dksX3_clause_2 7 rfl rfl)
theorem dX3_clause_54 : decode cX3_clause 54 = .ok (.invokevirtual 108, 3) := dk_182 0 108 (dk_at dksX3_clause_2 8 rfl rfl)
theorem dX3_clause_57 : decode cX3_clause 57 = .ok (.iload_n 1, 1) := dk_27 (dk_at dksX3_clause_2 11 rfl rfl)
theorem dX3_clause_58 : decode cX3_clause 58 = .ok (.iconst 5, 1) := dk_8 (dk_at dksX3_clause_2 12 rfl rfl)
theorem dX3_clause_59 : decode cX3_clause 59 = .ok (.if_icmp .ge 48, 3) := dk_162 0 48 (dk_at dksX3_clause_2 13 rfl rfl)
theorem dX3_clause_62 : decode cX3_clause 62 = .ok (.aload_n 0, 1) := dk_42 (dk_at dksX3_clause_2 16 rfl rfl)
theorem dX3_clause_63 : decode cX3_clause 63 = .ok (.aload_n 0, 1) := dk_42 (dk_at dksX3_clause_2 17 rfl rfl)
theorem dX3_clause_64 : decode cX3_clause 64 = .ok (.getfield 25, 3) := dk_180 0 25 (dk_at dksX3_clause_2 18 rfl rfl)
theorem dX3_clause_67 : decode cX3_clause 67 = .ok (.bipush 10, 2) := dk_16 10 (dk_at dksX3_clause_2 21 rfl rfl)
theorem dX3_clause_69 : decode cX3_clause 69 = .ok (.if_icmp .ge 7, 3) := dk_162 0 7 (dk_at dksX3_clause_3 0 rfl rfl)
theorem dX3_clause_72 : decode cX3_clause 72 = .ok (.iconst 1, 1) := dk_4 (dk_at dksX3_clause_3 3 rfl rfl)
theorem dX3_clause_73 : decode cX3_clause 73 = .ok (.goto 4, 3) := dk_167 0 4 (dk_at dksX3_clause_3 4 rfl rfl)
theorem dX3_clause_76 : decode cX3_clause 76 = .ok (.iconst 0, 1) := dk_3 (dk_at dksX3_clause_3 7 rfl rfl)
theorem dX3_clause_77 : decode cX3_clause 77 = .ok (.invokevirtual 108, 3) := dk_182 0 108 (dk_at dksX3_clause_3 8 rfl rfl)
theorem dX3_clause_80 : decode cX3_clause 80 = .ok (.aload_n 0, 1) := dk_42 (dk_at dksX3_clause_3 11 rfl rfl)
theorem dX3_clause_81 : decode cX3_clause 81 = .ok (.dup, 1) := dk_89 (dk_at dksX3_clause_3 12 rfl rfl)
theorem dX3_clause_82 : decode cX3_clause 82 = .ok (.getfield 25, 3) := dk_180 0 25 (dk_at dksX3_clause_3 13 rfl rfl)
theorem dX3_clause_85 : decode cX3_clause 85 = .ok (.iconst 1, 1) := dk_4 (dk_at dksX3_clause_3 16 rfl rfl)
theorem dX3_clause_86 : decode cX3_clause 86 = .ok (.iadd, 1) := dk_96 (dk_at dksX3_clause_3 17 rfl rfl)
theorem dX3_clause_87 : decode cX3_clause 87 = .ok (.putfield 25, 3) := dk_181 0 25 (dk_at dksX3_clause_3 18 rfl rfl)
theorem dX3_clause_90 : decode cX3_clause 90 = .ok (.iconst 2, 1) := dk_5 (dk_at dksX3_clause_3 21 rfl rfl)
theorem dX3_clause_91 : decode cX3_clause 91 = .ok (.newarray .int, 2) := dk_188_10 (dk_at dksX3_clause_3 22 rfl rfl)
theorem dX3_clause_93 : decode cX3_clause 93 = .ok (.dup, 1) := dk_89 (dk_at dksX3_clause_4 0 rfl rfl)
theorem dX3_clause_94 : decode cX3_clause 94 = .ok (.iconst 0, 1) := dk_3 (dk_at dksX3_clause_4 1 rfl rfl)
theorem dX3_clause_95 : decode cX3_clause 95 = .ok (.iload_n 1, 1) := dk_27 (dk_at dksX3_clause_4 2 rfl rfl)
theorem dX3_clause_96 : decode cX3_clause 96 = .ok (.iastore, 1) := dk_79 (dk_at dksX3_clause_4 3 rfl rfl)
theorem dX3_clause_97 : decode cX3_clause 97 = .ok (.dup, 1) := dk_89 (dk_at dksX3_clause_4 4 rfl rfl)
theorem dX3_clause_98 : decode cX3_clause 98 = .ok (.iconst 1, 1) := dk_4 (dk_at dksX3_clause_4 5 rfl rfl)
theorem dX3_clause_99 : decode cX3_clause 99 = .ok (.aload_n 0, 1) := dk_42 (dk_at dksX3_clause_4 6 rfl rfl)
theorem dX3_clause_100 : decode cX3_clause 100 = .ok (.bipush 30, 2) := dk_16 30 (dk_at dksX3_clause_4 7 rfl rfl)
theorem dX3_clause_102 : decode cX3_clause 102 = .ok (.invokevirtual 126, 3) := dk_182 0 126 (dk_at dksX3_clause_4 9 rfl rfl)
theorem dX3_clause_105 : decode cX3_clause 105 = .ok (.iastore, 1) := dk_79 (dk_at dksX3_clause_4 12 rfl rfl)
theorem dX3_clause_106 : decode cX3_clause 106 = .ok (.areturn, 1) := dk_176 (dk_at dksX3_clause_4 13 rfl rfl)
theorem dX3_clause_107 : decode cX3_clause 107 = .ok (.iload_n 1, 1) := dk_27 (dk_at dksX3_clause_4 14 rfl rfl)
theorem dX3_clause_108 : decode cX3_clause 108 = .ok (.bipush 9, 2) := dk_16 9 (dk_at dksX3_clause_4 15 rfl rfl)
theorem dX3_clause_110 : decode cX3_clause 110 = .ok (.if_icmp .ge 47, 3) := dk_162 0 47 (dk_at dksX3_clause_4 17 rfl rfl)
theorem dX3_clause_113 : decode cX3_clause 113 = .ok (.aload_n 0, 1) := dk_42 (dk_at dksX3_clause_4 20 rfl rfl)
theorem dX3_clause_114 : decode cX3_clause 114 = .ok (.aload_n 0, 1) := dk_42 (dk_at dksX3_clause_4 21 rfl rfl)
theorem dX3_clause_115 : decode cX3_clause 115 = .ok (.getfield 31, 3) := dk_180 0 31 (dk_at dksX3_clause_5 0 rfl rfl)
theorem dX3_clause_118 : decode cX3_clause 118 = .ok (.iconst 4, 1) := dk_7 (dk_at dksX3_clause_5 3 rfl rfl)
theorem dX3_clause_119 : decode cX3_clause 119 = .ok (.if_icmp .ge 7, 3) := dk_162 0 7 (dk_at dksX3_clause_5 4 rfl rfl)
theorem dX3_clause_122 : decode cX3_clause 122 = .ok (.iconst 1, 1) := dk_4 (dk_at dksX3_clause_5 7 rfl rfl)
theorem dX3_clause_123 : decode cX3_clause 123 = .ok (.goto 4, 3) := dk_167 0 4 (dk_at dksX3_clause_5 8 rfl rfl)
theorem dX3_clause_126 : decode cX3_clause 126 = .ok (.iconst 0, 1) := dk_3 (dk_at dksX3_clause_5 11 rfl rfl)
theorem dX3_clause_127 : decode cX3_clause 127 = .ok (.invokevirtual 108, 3) := dk_182 0 108 (dk_at dksX3_clause_5 12 rfl rfl)
theorem dX3_clause_130 : decode cX3_clause 130 = .ok (.aload_n 0, 1) := dk_42 (dk_at dksX3_clause_5 15 rfl rfl)
theorem dX3_clause_131 : decode cX3_clause 131 = .ok (.dup, 1) := dk_89 (dk_at dksX3_clause_5 16 rfl rfl)
theorem dX3_clause_132 : decode cX3_clause 132 = .ok (.getfield 31, 3) := dk_180 0 31 (dk_at dksX3_clause_5 17 rfl rfl)
theorem dX3_clause_135 : decode cX3_clause 135 = .ok (.iconst 1, 1) := dk_4 (dk_at dksX3_clause_5 20 rfl rfl)
theorem dX3_clause_136 : decode cX3_clause 136 = .ok (.iadd, 1) := dk_96 (dk_at dksX3_clause_5 21 rfl rfl)
theorem dX3_clause_137 : decode cX3_clause 137 = .ok (.putfield 31, 3) := dk_181 0 31 (dk_at dksX3_clause_6 0 rfl rfl)
theorem dX3_clause_140 : decode cX3_clause 140 = .ok (.iconst 2, 1) := dk_5 (dk_at dksX3_clause_6 3 rfl rfl)
theorem dX3_clause_141 : decode cX3_clause 141 = .ok (.newarray .int, 2) := dk_188_10 (dk_at dksX3_clause_6 4 rfl rfl)
theorem dX3_clause_143 : decode cX3_clause 143 = .ok (.dup, 1) := dk_89 (dk_at dksX3_clause_6 6 rfl rfl)
theorem dX3_clause_144 : decode cX3_clause 144 = .ok (.iconst 0, 1) := dk_3 (dk_at dksX3_clause_6 7 rfl rfl)
theorem dX3_clause_145 : decode cX3_clause 145 = .ok (.iload_n 1, 1) := dk_27 (dk_at dksX3_clause_6 8 rfl rfl)
theorem dX3_clause_146 : decode cX3_clause 146 = .ok (.iastore, 1) := dk_79 (dk_at dksX3_clause_6 9 rfl rfl)
theorem dX3_clause_147 : decode cX3_clause 147 = .ok (.dup, 1) := dk_89 (dk_at dksX3_clause_6 10 rfl rfl)
theorem dX3_clause_148 : decode cX3_clause 148 = .ok (.iconst 1, 1) := dk_4 (dk_at dksX3_clause_6 11 rfl rfl)
theorem dX3_clause_149 : decode cX3_clause 149 = .ok (.aload_n 0, 1) := dk_42 (dk_at dksX3_clause_6 12 rfl rfl)
theorem dX3_clause_150 : decode cX3_clause 150 = .ok (.bipush 20, 2) := dk_16 20 (dk_at dksX3_clause_6 13 rfl rfl)
theorem dX3_clause_152 : decode cX3_clause 152 = .ok (.invokevirtual 126, 3) := dk_182 0 126 (dk_at dksX3_clause_6 15 rfl rfl)
theorem dX3_clause_155 : decode cX3_clause 155 = .ok (.iastore, 1) := dk_79 (dk_at dksX3_clause_6 18 rfl rfl)
theorem dX3_clause_156 : decode cX3_clause 156 = .ok (.areturn, 1) := dk_176 (dk_at dksX3_clause_6 19 rfl rfl)
theorem dX3_clause_157 : decode cX3_clause 157 = .ok (.iload_n 1, 1) := dk_27 (dk_at dksX3_clause_6 20 rfl rfl)
theorem dX3_clause_158 : decode cX3_clause 158 = .ok (.tableswitch 132 9 11 #[26, 49, 115], 26) := by decide +kernel
theorem dX3_clause_184 : decode cX3_clause 184 = .ok (.aload_n 0, 1) := dk_42 (dk_at dksX3_clause_8 0 rfl rfl)
theorem dX3_clause_185 : decode cX3_clause 185 = .ok (.iconst 0, 1) := dk_3 (dk_at dksX3_clause_8 1 rfl rfl)
theorem dX3_clause_186 : decode cX3_clause 186 = .ok (.putfield 25, 3) := dk_181 0 25 (dk_at dksX3_clause_8 2 rfl rfl)
theorem dX3_clause_189 : decode cX3_clause 189 = .ok (.aload_n 0, 1) := dk_42 (dk_at dksX3_clause_8 5 rfl rfl)
theorem dX3_clause_190 : decode cX3_clause 190 = .ok (.iconst 0, 1) := dk_3 (dk_at dksX3_clause_8 6 rfl rfl)
theorem dX3_clause_191 : decode cX3_clause 191 = .ok (.putfield 31, 3) := dk_181 0 31 (dk_at dksX3_clause_8 7 rfl rfl)
theorem dX3_clause_194 : decode cX3_clause 194 = .ok (.aload_n 0, 1) := dk_42 (dk_at dksX3_clause_8 10 rfl rfl)
theorem dX3_clause_195 : decode cX3_clause 195 = .ok (.iconst 0, 1) := dk_3 (dk_at dksX3_clause_8 11 rfl rfl)
theorem dX3_clause_196 : decode cX3_clause 196 = .ok (.putfield 37, 3) := dk_181 0 37 (dk_at dksX3_clause_8 12 rfl rfl)
theorem dX3_clause_199 : decode cX3_clause 199 = .ok (.iconst 1, 1) := dk_4 (dk_at dksX3_clause_8 15 rfl rfl)
theorem dX3_clause_200 : decode cX3_clause 200 = .ok (.newarray .int, 2) := dk_188_10 (dk_at dksX3_clause_8 16 rfl rfl)
theorem dX3_clause_202 : decode cX3_clause 202 = .ok (.dup, 1) := dk_89 (dk_at dksX3_clause_8 18 rfl rfl)
theorem dX3_clause_203 : decode cX3_clause 203 = .ok (.iconst 0, 1) := dk_3 (dk_at dksX3_clause_8 19 rfl rfl)
theorem dX3_clause_204 : decode cX3_clause 204 = .ok (.iload_n 1, 1) := dk_27 (dk_at dksX3_clause_8 20 rfl rfl)
theorem dX3_clause_205 : decode cX3_clause 205 = .ok (.iastore, 1) := dk_79 (dk_at dksX3_clause_8 21 rfl rfl)
theorem dX3_clause_206 : decode cX3_clause 206 = .ok (.areturn, 1) := dk_176 (dk_at dksX3_clause_8 22 rfl rfl)
theorem dX3_clause_207 : decode cX3_clause 207 = .ok (.aload_n 0, 1) := dk_42 (dk_at dksX3_clause_8 23 rfl rfl)
theorem dX3_clause_208 : decode cX3_clause 208 = .ok (.aload_n 0, 1) := dk_42 (dk_at dksX3_clause_9 0 rfl rfl)
theorem dX3_clause_209 : decode cX3_clause 209 = .ok (.getfield 37, 3) := dk_180 0 37 (dk_at dksX3_clause_9 1 rfl rfl)
theorem dX3_clause_212 : decode cX3_clause 212 = .ok (.bipush 6, 2) := dk_16 6 (dk_at dksX3_clause_9 4 rfl rfl)
theorem dX3_clause_214 : decode cX3_clause 214 = .ok (.if_icmp .ge 7, 3) := dk_162 0 7 (dk_at dksX3_clause_9 6 rfl rfl)
theorem dX3_clause_217 : decode cX3_clause 217 = .ok (.iconst 1, 1) := dk_4 (dk_at dksX3_clause_9 9 rfl rfl)
theorem dX3_clause_218 : decode cX3_clause 218 = .ok (.goto 4, 3) := dk_167 0 4 (dk_at dksX3_clause_9 10 rfl rfl)
theorem dX3_clause_221 : decode cX3_clause 221 = .ok (.iconst 0, 1) := dk_3 (dk_at dksX3_clause_9 13 rfl rfl)
theorem dX3_clause_222 : decode cX3_clause 222 = .ok (.invokevirtual 108, 3) := dk_182 0 108 (dk_at dksX3_clause_9 14 rfl rfl)
theorem dX3_clause_225 : decode cX3_clause 225 = .ok (.aload_n 0, 1) := dk_42 (dk_at dksX3_clause_9 17 rfl rfl)
theorem dX3_clause_226 : decode cX3_clause 226 = .ok (.dup, 1) := dk_89 (dk_at dksX3_clause_9 18 rfl rfl)
theorem dX3_clause_227 : decode cX3_clause 227 = .ok (.getfield 37, 3) := dk_180 0 37 (dk_at dksX3_clause_9 19 rfl rfl)
theorem dX3_clause_230 : decode cX3_clause 230 = .ok (.iconst 1, 1) := dk_4 (dk_at dksX3_clause_9 22 rfl rfl)
theorem dX3_clause_231 : decode cX3_clause 231 = .ok (.iadd, 1) := dk_96 (dk_at dksX3_clause_9 23 rfl rfl)
theorem dX3_clause_232 : decode cX3_clause 232 = .ok (.putfield 37, 3) := dk_181 0 37 (dk_at dksX3_clause_10 0 rfl rfl)
theorem dX3_clause_235 : decode cX3_clause 235 = .ok (.iconst 4, 1) := dk_7 (dk_at dksX3_clause_10 3 rfl rfl)
theorem dX3_clause_236 : decode cX3_clause 236 = .ok (.newarray .int, 2) := dk_188_10 (dk_at dksX3_clause_10 4 rfl rfl)
theorem dX3_clause_238 : decode cX3_clause 238 = .ok (.dup, 1) := dk_89 (dk_at dksX3_clause_10 6 rfl rfl)
theorem dX3_clause_239 : decode cX3_clause 239 = .ok (.iconst 0, 1) := dk_3 (dk_at dksX3_clause_10 7 rfl rfl)
theorem dX3_clause_240 : decode cX3_clause 240 = .ok (.iload_n 1, 1) := dk_27 (dk_at dksX3_clause_10 8 rfl rfl)
theorem dX3_clause_241 : decode cX3_clause 241 = .ok (.iastore, 1) := dk_79 (dk_at dksX3_clause_10 9 rfl rfl)
theorem dX3_clause_242 : decode cX3_clause 242 = .ok (.dup, 1) := dk_89 (dk_at dksX3_clause_10 10 rfl rfl)
theorem dX3_clause_243 : decode cX3_clause 243 = .ok (.iconst 1, 1) := dk_4 (dk_at dksX3_clause_10 11 rfl rfl)
theorem dX3_clause_244 : decode cX3_clause 244 = .ok (.aload_n 0, 1) := dk_42 (dk_at dksX3_clause_10 12 rfl rfl)
theorem dX3_clause_245 : decode cX3_clause 245 = .ok (.aload_n 0, 1) := dk_42 (dk_at dksX3_clause_10 13 rfl rfl)
theorem dX3_clause_246 : decode cX3_clause 246 = .ok (.getfield 25, 3) := dk_180 0 25 (dk_at dksX3_clause_10 14 rfl rfl)
theorem dX3_clause_249 : decode cX3_clause 249 = .ok (.iconst 1, 1) := dk_4 (dk_at dksX3_clause_10 17 rfl rfl)
theorem dX3_clause_250 : decode cX3_clause 250 = .ok (.isub, 1) := dk_100 (dk_at dksX3_clause_10 18 rfl rfl)
theorem dX3_clause_251 : decode cX3_clause 251 = .ok (.invokevirtual 126, 3) := dk_182 0 126 (dk_at dksX3_clause_10 19 rfl rfl)
theorem dX3_clause_254 : decode cX3_clause 254 = .ok (.iastore, 1) := dk_79 (dk_at dksX3_clause_10 22 rfl rfl)
theorem dX3_clause_255 : decode cX3_clause 255 = .ok (.dup, 1) := dk_89 (dk_at dksX3_clause_10 23 rfl rfl)
theorem dX3_clause_256 : decode cX3_clause 256 = .ok (.iconst 2, 1) := dk_5 (dk_at dksX3_clause_11 0 rfl rfl)
theorem dX3_clause_257 : decode cX3_clause 257 = .ok (.aload_n 0, 1) := dk_42 (dk_at dksX3_clause_11 1 rfl rfl)
theorem dX3_clause_258 : decode cX3_clause 258 = .ok (.iconst 4, 1) := dk_7 (dk_at dksX3_clause_11 2 rfl rfl)
theorem dX3_clause_259 : decode cX3_clause 259 = .ok (.invokevirtual 126, 3) := dk_182 0 126 (dk_at dksX3_clause_11 3 rfl rfl)
theorem dX3_clause_262 : decode cX3_clause 262 = .ok (.iastore, 1) := dk_79 (dk_at dksX3_clause_11 6 rfl rfl)
theorem dX3_clause_263 : decode cX3_clause 263 = .ok (.dup, 1) := dk_89 (dk_at dksX3_clause_11 7 rfl rfl)
theorem dX3_clause_264 : decode cX3_clause 264 = .ok (.iconst 3, 1) := dk_6 (dk_at dksX3_clause_11 8 rfl rfl)
theorem dX3_clause_265 : decode cX3_clause 265 = .ok (.aload_n 0, 1) := dk_42 (dk_at dksX3_clause_11 9 rfl rfl)
theorem dX3_clause_266 : decode cX3_clause 266 = .ok (.bipush 99, 2) := dk_16 99 (dk_at dksX3_clause_11 10 rfl rfl)
theorem dX3_clause_268 : decode cX3_clause 268 = .ok (.invokevirtual 126, 3) := dk_182 0 126 (dk_at dksX3_clause_11 12 rfl rfl)
theorem dX3_clause_271 : decode cX3_clause 271 = .ok (.iastore, 1) := dk_79 (dk_at dksX3_clause_11 15 rfl rfl)
theorem dX3_clause_272 : decode cX3_clause 272 = .ok (.areturn, 1) := dk_176 (dk_at dksX3_clause_11 16 rfl rfl)
theorem dX3_clause_273 : decode cX3_clause 273 = .ok (.iconst 2, 1) := dk_5 (dk_at dksX3_clause_11 17 rfl rfl)
theorem dX3_clause_274 : decode cX3_clause 274 = .ok (.newarray .int, 2) := dk_188_10 (dk_at dksX3_clause_11 18 rfl rfl)
theorem dX3_clause_276 : decode cX3_clause 276 = .ok (.dup, 1) := dk_89 (dk_at dksX3_clause_11 20 rfl rfl)
theorem dX3_clause_277 : decode cX3_clause 277 = .ok (.iconst 0, 1) := dk_3 (dk_at dksX3_clause_11 21 rfl rfl)
theorem dX3_clause_278 : decode cX3_clause 278 = .ok (.iload_n 1, 1) := dk_27 (dk_at dksX3_clause_11 22 rfl rfl)
theorem dX3_clause_279 : decode cX3_clause 279 = .ok (.iastore, 1) := dk_79 (dk_at dksX3_clause_11 23 rfl rfl)
theorem dX3_clause_280 : decode cX3_clause 280 = .ok (.dup, 1) := dk_89 (dk_at dksX3_clause_12 0 rfl rfl)
theorem dX3_clause_281 : decode cX3_clause 281 = .ok (.iconst 1, 1) := dk_4 (dk_at dksX3_clause_12 1 rfl rfl)
theorem dX3_clause_282 : decode cX3_clause 282 = .ok (.aload_n 0, 1) := dk_42 (dk_at dksX3_clause_12 2 rfl rfl)
theorem dX3_clause_283 : decode cX3_clause 283 = .ok (.bipush 20, 2) := dk_16 20 (dk_at dksX3_clause_12 3 rfl rfl)
theorem dX3_clause_285 : decode cX3_clause 285 = .ok (.invokevirtual 126, 3) := dk_182 0 126 (dk_at dksX3_clause_12 5 rfl rfl)
theorem dX3_clause_288 : decode cX3_clause 288 = .ok (.iastore, 1) := dk_79 (dk_at dksX3_clause_12 8 rfl rfl)
theorem dX3_clause_289 : decode cX3_clause 289 = .ok (.areturn, 1) := dk_176 (dk_at dksX3_clause_12 9 rfl rfl)
theorem dX3_clause_290 : decode cX3_clause 290 = .ok (.iconst 1, 1) := dk_4 (dk_at dksX3_clause_12 10 rfl rfl)
theorem dX3_clause_291 : decode cX3_clause 291 = .ok (.newarray .int, 2) := dk_188_10 (dk_at dksX3_clause_12 11 rfl rfl)
theorem dX3_clause_293 : decode cX3_clause 293 = .ok (.dup, 1) := dk_89 (dk_at dksX3_clause_12 13 rfl rfl)
theorem dX3_clause_294 : decode cX3_clause 294 = .ok (.iconst 0, 1) := dk_3 (dk_at dksX3_clause_12 14 rfl rfl)
theorem dX3_clause_295 : decode cX3_clause 295 = .ok (.iload_n 1, 1) := dk_27 (dk_at dksX3_clause_12 15 rfl rfl)
theorem dX3_clause_296 : decode cX3_clause 296 = .ok (.iastore, 1) := dk_79 (dk_at dksX3_clause_12 16 rfl rfl)
theorem dX3_clause_297 : decode cX3_clause 297 = .ok (.areturn, 1) := dk_176 (dk_at dksX3_clause_12 17 rfl rfl)
abbrev cX3_take : ByteArray := prog_15_method_3_code
def yX3_take : MethodName := ⟨RX3, "take", "()V"⟩
def dkwX3_take_8 : List UInt8 := [177]
abbrev dktX3_take_8 : List UInt8 := dkwX3_take_8 ++ []
def dkwX3_take_7 : List UInt8 := [181, 0, 58, 51, 17, 0, 255, 126, 146, 182, 0, 78, 87, 167, 255, 178, 42, 44, 182, 0, 82, 181, 0, 17]
abbrev dktX3_take_7 : List UInt8 := dkwX3_take_7 ++ dktX3_take_8
def dkwX3_take_6 : List UInt8 := [182, 0, 71, 27, 160, 0, 35, 44, 42, 180, 0, 3, 180, 0, 64, 42, 89, 180, 0, 58, 90, 4, 96]
abbrev dktX3_take_6 : List UInt8 := dkwX3_take_6 ++ dktX3_take_7
def dkwX3_take_5 : List UInt8 := [180, 0, 58, 159, 0, 27, 27, 158, 0, 55, 42, 42, 180, 0, 3, 180, 0, 64, 42, 180, 0, 58, 51]
abbrev dktX3_take_5 : List UInt8 := dkwX3_take_5 ++ dktX3_take_6
def dkwX3_take_4 : List UInt8 := [183, 0, 77, 77, 42, 180, 0, 58, 42, 180, 0, 3, 180, 0, 61, 162, 0, 70, 42, 180, 0, 68, 42]
abbrev dktX3_take_4 : List UInt8 := dkwX3_take_4 ++ dktX3_take_5
def dkwX3_take_3 : List UInt8 := [180, 0, 3, 180, 0, 64, 42, 180, 0, 58, 51, 182, 0, 71, 167, 0, 4, 3, 60, 187, 0, 75, 89]
abbrev dktX3_take_3 : List UInt8 := dkwX3_take_3 ++ dktX3_take_4
def dkwX3_take_2 : List UInt8 := [180, 0, 58, 181, 0, 68, 42, 180, 0, 58, 42, 180, 0, 3, 180, 0, 61, 162, 0, 22, 42, 42]
abbrev dktX3_take_2 : List UInt8 := dkwX3_take_2 ++ dktX3_take_3
def dkwX3_take_1 : List UInt8 := [180, 0, 58, 51, 16, 32, 160, 0, 16, 42, 89, 180, 0, 58, 4, 96, 181, 0, 58, 167, 255, 215, 42, 42]
abbrev dktX3_take_1 : List UInt8 := dkwX3_take_1 ++ dktX3_take_2
def dkwX3_take_0 : List UInt8 := [42, 180, 0, 58, 42, 180, 0, 3, 180, 0, 61, 162, 0, 33, 42, 180, 0, 3, 180, 0, 64, 42]
abbrev dktX3_take_0 : List UInt8 := dkwX3_take_0 ++ dktX3_take_1
theorem dksX3_take_0 : cX3_take.data.toList.drop 0 = dktX3_take_0 := by decide +kernel
theorem dksX3_take_1 : cX3_take.data.toList.drop 22 = dktX3_take_1 := dk_seg dksX3_take_0 22 rfl rfl
theorem dksX3_take_2 : cX3_take.data.toList.drop 46 = dktX3_take_2 := dk_seg dksX3_take_1 24 rfl rfl
theorem dksX3_take_3 : cX3_take.data.toList.drop 68 = dktX3_take_3 := dk_seg dksX3_take_2 22 rfl rfl
theorem dksX3_take_4 : cX3_take.data.toList.drop 91 = dktX3_take_4 := dk_seg dksX3_take_3 23 rfl rfl
theorem dksX3_take_5 : cX3_take.data.toList.drop 114 = dktX3_take_5 := dk_seg dksX3_take_4 23 rfl rfl
theorem dksX3_take_6 : cX3_take.data.toList.drop 137 = dktX3_take_6 := dk_seg dksX3_take_5 23 rfl rfl
theorem dksX3_take_7 : cX3_take.data.toList.drop 160 = dktX3_take_7 := dk_seg dksX3_take_6 23 rfl rfl
theorem dksX3_take_8 : cX3_take.data.toList.drop 184 = dktX3_take_8 := dk_seg dksX3_take_7 24 rfl rfl
theorem dX3_take_0 : decode cX3_take 0 = .ok (.aload_n 0, 1) := dk_42 (dk_at dksX3_take_0 0 rfl rfl)
theorem dX3_take_1 : decode cX3_take 1 = .ok (.getfield 58, 3) := dk_180 0 58 (dk_at dksX3_take_0 1 rfl rfl)
theorem dX3_take_4 : decode cX3_take 4 = .ok (.aload_n 0, 1) := dk_42 (dk_at dksX3_take_0 4 rfl rfl)
theorem dX3_take_5 : decode cX3_take 5 = .ok (.getfield 3, 3) := dk_180 0 3 (dk_at dksX3_take_0 5 rfl rfl)
theorem dX3_take_8 : decode cX3_take 8 = .ok (.getfield 61, 3) := dk_180 0 61 (dk_at dksX3_take_0 8 rfl rfl)
theorem dX3_take_11 : decode cX3_take 11 = .ok (.if_icmp .ge 33, 3) := dk_162 0 33 (dk_at dksX3_take_0 11 rfl rfl)
theorem dX3_take_14 : decode cX3_take 14 = .ok (.aload_n 0, 1) := dk_42 (dk_at dksX3_take_0 14 rfl rfl)
theorem dX3_take_15 : decode cX3_take 15 = .ok (.getfield 3, 3) := dk_180 0 3 (dk_at dksX3_take_0 15 rfl rfl)
theorem dX3_take_18 : decode cX3_take 18 = .ok (.getfield 64, 3) := dk_180 0 64 (dk_at dksX3_take_0 18 rfl rfl)
theorem dX3_take_21 : decode cX3_take 21 = .ok (.aload_n 0, 1) := dk_42 (dk_at dksX3_take_0 21 rfl rfl)
theorem dX3_take_22 : decode cX3_take 22 = .ok (.getfield 58, 3) := dk_180 0 58 (dk_at dksX3_take_1 0 rfl rfl)
theorem dX3_take_25 : decode cX3_take 25 = .ok (.baload, 1) := dk_51 (dk_at dksX3_take_1 3 rfl rfl)
theorem dX3_take_26 : decode cX3_take 26 = .ok (.bipush 32, 2) := dk_16 32 (dk_at dksX3_take_1 4 rfl rfl)
theorem dX3_take_28 : decode cX3_take 28 = .ok (.if_icmp .ne 16, 3) := dk_160 0 16 (dk_at dksX3_take_1 6 rfl rfl)
theorem dX3_take_31 : decode cX3_take 31 = .ok (.aload_n 0, 1) := dk_42 (dk_at dksX3_take_1 9 rfl rfl)
theorem dX3_take_32 : decode cX3_take 32 = .ok (.dup, 1) := dk_89 (dk_at dksX3_take_1 10 rfl rfl)
theorem dX3_take_33 : decode cX3_take 33 = .ok (.getfield 58, 3) := dk_180 0 58 (dk_at dksX3_take_1 11 rfl rfl)
theorem dX3_take_36 : decode cX3_take 36 = .ok (.iconst 1, 1) := dk_4 (dk_at dksX3_take_1 14 rfl rfl)
theorem dX3_take_37 : decode cX3_take 37 = .ok (.iadd, 1) := dk_96 (dk_at dksX3_take_1 15 rfl rfl)
theorem dX3_take_38 : decode cX3_take 38 = .ok (.putfield 58, 3) := dk_181 0 58 (dk_at dksX3_take_1 16 rfl rfl)
theorem dX3_take_41 : decode cX3_take 41 = .ok (.goto (-41), 3) := dk_167 255 215 (dk_at dksX3_take_1 19 rfl rfl)
theorem dX3_take_44 : decode cX3_take 44 = .ok (.aload_n 0, 1) := dk_42 (dk_at dksX3_take_1 22 rfl rfl)
theorem dX3_take_45 : decode cX3_take 45 = .ok (.aload_n 0, 1) := dk_42 (dk_at dksX3_take_1 23 rfl rfl)
theorem dX3_take_46 : decode cX3_take 46 = .ok (.getfield 58, 3) := dk_180 0 58 (dk_at dksX3_take_2 0 rfl rfl)
theorem dX3_take_49 : decode cX3_take 49 = .ok (.putfield 68, 3) := dk_181 0 68 (dk_at dksX3_take_2 3 rfl rfl)
theorem dX3_take_52 : decode cX3_take 52 = .ok (.aload_n 0, 1) := dk_42 (dk_at dksX3_take_2 6 rfl rfl)
theorem dX3_take_53 : decode cX3_take 53 = .ok (.getfield 58, 3) := dk_180 0 58 (dk_at dksX3_take_2 7 rfl rfl)
theorem dX3_take_56 : decode cX3_take 56 = .ok (.aload_n 0, 1) := dk_42 (dk_at dksX3_take_2 10 rfl rfl)
theorem dX3_take_57 : decode cX3_take 57 = .ok (.getfield 3, 3) := dk_180 0 3 (dk_at dksX3_take_2 11 rfl rfl)
theorem dX3_take_60 : decode cX3_take 60 = .ok (.getfield 61, 3) := dk_180 0 61 (dk_at dksX3_take_2 14 rfl rfl)
theorem dX3_take_63 : decode cX3_take 63 = .ok (.if_icmp .ge 22, 3) := dk_162 0 22 (dk_at dksX3_take_2 17 rfl rfl)
theorem dX3_take_66 : decode cX3_take 66 = .ok (.aload_n 0, 1) := dk_42 (dk_at dksX3_take_2 20 rfl rfl)
theorem dX3_take_67 : decode cX3_take 67 = .ok (.aload_n 0, 1) := dk_42 (dk_at dksX3_take_2 21 rfl rfl)
theorem dX3_take_68 : decode cX3_take 68 = .ok (.getfield 3, 3) := dk_180 0 3 (dk_at dksX3_take_3 0 rfl rfl)
theorem dX3_take_71 : decode cX3_take 71 = .ok (.getfield 64, 3) := dk_180 0 64 (dk_at dksX3_take_3 3 rfl rfl)
theorem dX3_take_74 : decode cX3_take 74 = .ok (.aload_n 0, 1) := dk_42 (dk_at dksX3_take_3 6 rfl rfl)
theorem dX3_take_75 : decode cX3_take 75 = .ok (.getfield 58, 3) := dk_180 0 58 (dk_at dksX3_take_3 7 rfl rfl)
theorem dX3_take_78 : decode cX3_take 78 = .ok (.baload, 1) := dk_51 (dk_at dksX3_take_3 10 rfl rfl)
theorem dX3_take_79 : decode cX3_take 79 = .ok (.invokevirtual 71, 3) := dk_182 0 71 (dk_at dksX3_take_3 11 rfl rfl)
theorem dX3_take_82 : decode cX3_take 82 = .ok (.goto 4, 3) := dk_167 0 4 (dk_at dksX3_take_3 14 rfl rfl)
theorem dX3_take_85 : decode cX3_take 85 = .ok (.iconst 0, 1) := dk_3 (dk_at dksX3_take_3 17 rfl rfl)
theorem dX3_take_86 : decode cX3_take 86 = .ok (.istore_n 1, 1) := dk_60 (dk_at dksX3_take_3 18 rfl rfl)
theorem dX3_take_87 : decode cX3_take 87 = .ok (.new 75, 3) := dk_187 0 75 (dk_at dksX3_take_3 19 rfl rfl)
theorem dX3_take_90 : decode cX3_take 90 = .ok (.dup, 1) := dk_89 (dk_at dksX3_take_3 22 rfl rfl)
theorem dX3_take_91 : decode cX3_take 91 = .ok (.invokespecial 77, 3) := dk_183 0 77 (dk_at dksX3_take_4 0 rfl rfl)
theorem dX3_take_94 : decode cX3_take 94 = .ok (.astore_n 2, 1) := dk_77 (dk_at dksX3_take_4 3 rfl rfl)
theorem dX3_take_95 : decode cX3_take 95 = .ok (.aload_n 0, 1) := dk_42 (dk_at dksX3_take_4 4 rfl rfl)
theorem dX3_take_96 : decode cX3_take 96 = .ok (.getfield 58, 3) := dk_180 0 58 (dk_at dksX3_take_4 5 rfl rfl)
theorem dX3_take_99 : decode cX3_take 99 = .ok (.aload_n 0, 1) := dk_42 (dk_at dksX3_take_4 8 rfl rfl)
theorem dX3_take_100 : decode cX3_take 100 = .ok (.getfield 3, 3) := dk_180 0 3 (dk_at dksX3_take_4 9 rfl rfl)
theorem dX3_take_103 : decode cX3_take 103 = .ok (.getfield 61, 3) := dk_180 0 61 (dk_at dksX3_take_4 12 rfl rfl)
theorem dX3_take_106 : decode cX3_take 106 = .ok (.if_icmp .ge 70, 3) := dk_162 0 70 (dk_at dksX3_take_4 15 rfl rfl)
theorem dX3_take_109 : decode cX3_take 109 = .ok (.aload_n 0, 1) := dk_42 (dk_at dksX3_take_4 18 rfl rfl)
theorem dX3_take_110 : decode cX3_take 110 = .ok (.getfield 68, 3) := dk_180 0 68 (dk_at dksX3_take_4 19 rfl rfl)
theorem dX3_take_113 : decode cX3_take 113 = .ok (.aload_n 0, 1) := dk_42 (dk_at dksX3_take_4 22 rfl rfl)
theorem dX3_take_114 : decode cX3_take 114 = .ok (.getfield 58, 3) := dk_180 0 58 (dk_at dksX3_take_5 0 rfl rfl)
theorem dX3_take_117 : decode cX3_take 117 = .ok (.if_icmp .eq 27, 3) := dk_159 0 27 (dk_at dksX3_take_5 3 rfl rfl)
theorem dX3_take_120 : decode cX3_take 120 = .ok (.iload_n 1, 1) := dk_27 (dk_at dksX3_take_5 6 rfl rfl)
theorem dX3_take_121 : decode cX3_take 121 = .ok (.ifCond .le 55, 3) := dk_158 0 55 (dk_at dksX3_take_5 7 rfl rfl)
theorem dX3_take_124 : decode cX3_take 124 = .ok (.aload_n 0, 1) := dk_42 (dk_at dksX3_take_5 10 rfl rfl)
theorem dX3_take_125 : decode cX3_take 125 = .ok (.aload_n 0, 1) := dk_42 (dk_at dksX3_take_5 11 rfl rfl)
theorem dX3_take_126 : decode cX3_take 126 = .ok (.getfield 3, 3) := dk_180 0 3 (dk_at dksX3_take_5 12 rfl rfl)
theorem dX3_take_129 : decode cX3_take 129 = .ok (.getfield 64, 3) := dk_180 0 64 (dk_at dksX3_take_5 15 rfl rfl)
theorem dX3_take_132 : decode cX3_take 132 = .ok (.aload_n 0, 1) := dk_42 (dk_at dksX3_take_5 18 rfl rfl)
theorem dX3_take_133 : decode cX3_take 133 = .ok (.getfield 58, 3) := dk_180 0 58 (dk_at dksX3_take_5 19 rfl rfl)
theorem dX3_take_136 : decode cX3_take 136 = .ok (.baload, 1) := dk_51 (dk_at dksX3_take_5 22 rfl rfl)
theorem dX3_take_137 : decode cX3_take 137 = .ok (.invokevirtual 71, 3) := dk_182 0 71 (dk_at dksX3_take_6 0 rfl rfl)
theorem dX3_take_140 : decode cX3_take 140 = .ok (.iload_n 1, 1) := dk_27 (dk_at dksX3_take_6 3 rfl rfl)
theorem dX3_take_141 : decode cX3_take 141 = .ok (.if_icmp .ne 35, 3) := dk_160 0 35 (dk_at dksX3_take_6 4 rfl rfl)
theorem dX3_take_144 : decode cX3_take 144 = .ok (.aload_n 2, 1) := dk_44 (dk_at dksX3_take_6 7 rfl rfl)
theorem dX3_take_145 : decode cX3_take 145 = .ok (.aload_n 0, 1) := dk_42 (dk_at dksX3_take_6 8 rfl rfl)
theorem dX3_take_146 : decode cX3_take 146 = .ok (.getfield 3, 3) := dk_180 0 3 (dk_at dksX3_take_6 9 rfl rfl)
theorem dX3_take_149 : decode cX3_take 149 = .ok (.getfield 64, 3) := dk_180 0 64 (dk_at dksX3_take_6 12 rfl rfl)
theorem dX3_take_152 : decode cX3_take 152 = .ok (.aload_n 0, 1) := dk_42 (dk_at dksX3_take_6 15 rfl rfl)
theorem dX3_take_153 : decode cX3_take 153 = .ok (.dup, 1) := dk_89 (dk_at dksX3_take_6 16 rfl rfl)
theorem dX3_take_154 : decode cX3_take 154 = .ok (.getfield 58, 3) := dk_180 0 58 (dk_at dksX3_take_6 17 rfl rfl)
theorem dX3_take_157 : decode cX3_take 157 = .ok (.dup_x1, 1) := dk_90 (dk_at dksX3_take_6 20 rfl rfl)
theorem dX3_take_158 : decode cX3_take 158 = .ok (.iconst 1, 1) := dk_4 (dk_at dksX3_take_6 21 rfl rfl)
theorem dX3_take_159 : decode cX3_take 159 = .ok (.iadd, 1) := dk_96 (dk_at dksX3_take_6 22 rfl rfl)
theorem dX3_take_160 : decode cX3_take 160 = .ok (.putfield 58, 3) := dk_181 0 58 (dk_at dksX3_take_7 0 rfl rfl)
theorem dX3_take_163 : decode cX3_take 163 = .ok (.baload, 1) := dk_51 (dk_at dksX3_take_7 3 rfl rfl)
theorem dX3_take_164 : decode cX3_take 164 = .ok (.sipush 255, 3) := dk_17 0 255 (dk_at dksX3_take_7 4 rfl rfl)
theorem dX3_take_167 : decode cX3_take 167 = .ok (.iand, 1) := dk_126 (dk_at dksX3_take_7 7 rfl rfl)
theorem dX3_take_168 : decode cX3_take 168 = .ok (.i2c, 1) := dk_146 (dk_at dksX3_take_7 8 rfl rfl)
theorem dX3_take_169 : decode cX3_take 169 = .ok (.invokevirtual 78, 3) := dk_182 0 78 (dk_at dksX3_take_7 9 rfl rfl)
theorem dX3_take_172 : decode cX3_take 172 = .ok (.pop, 1) := dk_87 (dk_at dksX3_take_7 12 rfl rfl)
theorem dX3_take_173 : decode cX3_take 173 = .ok (.goto (-78), 3) := dk_167 255 178 (dk_at dksX3_take_7 13 rfl rfl)
theorem dX3_take_176 : decode cX3_take 176 = .ok (.aload_n 0, 1) := dk_42 (dk_at dksX3_take_7 16 rfl rfl)
theorem dX3_take_177 : decode cX3_take 177 = .ok (.aload_n 2, 1) := dk_44 (dk_at dksX3_take_7 17 rfl rfl)
theorem dX3_take_178 : decode cX3_take 178 = .ok (.invokevirtual 82, 3) := dk_182 0 82 (dk_at dksX3_take_7 18 rfl rfl)
theorem dX3_take_181 : decode cX3_take 181 = .ok (.putfield 17, 3) := dk_181 0 17 (dk_at dksX3_take_7 21 rfl rfl)
theorem dX3_take_184 : decode cX3_take 184 = .ok (.return_, 1) := dk_177 (dk_at dksX3_take_8 0 rfl rfl)
abbrev cX3_kindOf : ByteArray := prog_15_method_2_code
def yX3_kindOf : MethodName := ⟨RX3, "kindOf", "(I)I"⟩
def dkwX3_kindOf_1 : List UInt8 := [20, 0, 56, 184, 0, 50, 153, 0, 7, 5, 167, 0, 4, 3, 172]
abbrev dktX3_kindOf_1 : List UInt8 := dkwX3_kindOf_1 ++ []
def dkwX3_kindOf_0 : List UInt8 := [27, 133, 20, 0, 46, 20, 0, 48, 184, 0, 50, 153, 0, 7, 4, 167, 0, 22, 27, 133, 20, 0, 54]
abbrev dktX3_kindOf_0 : List UInt8 := dkwX3_kindOf_0 ++ dktX3_kindOf_1
theorem dksX3_kindOf_0 : cX3_kindOf.data.toList.drop 0 = dktX3_kindOf_0 := by decide +kernel
theorem dksX3_kindOf_1 : cX3_kindOf.data.toList.drop 23 = dktX3_kindOf_1 := dk_seg dksX3_kindOf_0 23 rfl rfl
theorem dX3_kindOf_0 : decode cX3_kindOf 0 = .ok (.iload_n 1, 1) := dk_27 (dk_at dksX3_kindOf_0 0 rfl rfl)
theorem dX3_kindOf_1 : decode cX3_kindOf 1 = .ok (.i2l, 1) := dk_133 (dk_at dksX3_kindOf_0 1 rfl rfl)
theorem dX3_kindOf_2 : decode cX3_kindOf 2 = .ok (.ldc2_w 46, 3) := dk_20 0 46 (dk_at dksX3_kindOf_0 2 rfl rfl)
theorem dX3_kindOf_5 : decode cX3_kindOf 5 = .ok (.ldc2_w 48, 3) := dk_20 0 48 (dk_at dksX3_kindOf_0 5 rfl rfl)
theorem dX3_kindOf_8 : decode cX3_kindOf 8 = .ok (.invokestatic 50, 3) := dk_184 0 50 (dk_at dksX3_kindOf_0 8 rfl rfl)
theorem dX3_kindOf_11 : decode cX3_kindOf 11 = .ok (.ifCond .eq 7, 3) := dk_153 0 7 (dk_at dksX3_kindOf_0 11 rfl rfl)
theorem dX3_kindOf_14 : decode cX3_kindOf 14 = .ok (.iconst 1, 1) := dk_4 (dk_at dksX3_kindOf_0 14 rfl rfl)
theorem dX3_kindOf_15 : decode cX3_kindOf 15 = .ok (.goto 22, 3) := dk_167 0 22 (dk_at dksX3_kindOf_0 15 rfl rfl)
theorem dX3_kindOf_18 : decode cX3_kindOf 18 = .ok (.iload_n 1, 1) := dk_27 (dk_at dksX3_kindOf_0 18 rfl rfl)
theorem dX3_kindOf_19 : decode cX3_kindOf 19 = .ok (.i2l, 1) := dk_133 (dk_at dksX3_kindOf_0 19 rfl rfl)
theorem dX3_kindOf_20 : decode cX3_kindOf 20 = .ok (.ldc2_w 54, 3) := dk_20 0 54 (dk_at dksX3_kindOf_0 20 rfl rfl)
theorem dX3_kindOf_23 : decode cX3_kindOf 23 = .ok (.ldc2_w 56, 3) := dk_20 0 56 (dk_at dksX3_kindOf_1 0 rfl rfl)
theorem dX3_kindOf_26 : decode cX3_kindOf 26 = .ok (.invokestatic 50, 3) := dk_184 0 50 (dk_at dksX3_kindOf_1 3 rfl rfl)
theorem dX3_kindOf_29 : decode cX3_kindOf 29 = .ok (.ifCond .eq 7, 3) := dk_153 0 7 (dk_at dksX3_kindOf_1 6 rfl rfl)
theorem dX3_kindOf_32 : decode cX3_kindOf 32 = .ok (.iconst 2, 1) := dk_5 (dk_at dksX3_kindOf_1 9 rfl rfl)
theorem dX3_kindOf_33 : decode cX3_kindOf 33 = .ok (.goto 4, 3) := dk_167 0 4 (dk_at dksX3_kindOf_1 10 rfl rfl)
theorem dX3_kindOf_36 : decode cX3_kindOf 36 = .ok (.iconst 0, 1) := dk_3 (dk_at dksX3_kindOf_1 13 rfl rfl)
theorem dX3_kindOf_37 : decode cX3_kindOf 37 = .ok (.ireturn, 1) := dk_172 (dk_at dksX3_kindOf_1 14 rfl rfl)
abbrev cX3_want : ByteArray := prog_15_method_4_code
def yX3_want : MethodName := ⟨RX3, "want", "(Z)V"⟩
def dkwX3_want_0 : List UInt8 := [27, 154, 0, 15, 187, 0, 86, 89, 42, 180, 0, 68, 183, 0, 88, 191, 177]
abbrev dktX3_want_0 : List UInt8 := dkwX3_want_0 ++ []
theorem dksX3_want_0 : cX3_want.data.toList.drop 0 = dktX3_want_0 := by decide +kernel
theorem dX3_want_0 : decode cX3_want 0 = .ok (.iload_n 1, 1) := dk_27 (dk_at dksX3_want_0 0 rfl rfl)
theorem dX3_want_1 : decode cX3_want 1 = .ok (.ifCond .ne 15, 3) := dk_154 0 15 (dk_at dksX3_want_0 1 rfl rfl)
theorem dX3_want_4 : decode cX3_want 4 = .ok (.new 86, 3) := dk_187 0 86 (dk_at dksX3_want_0 4 rfl rfl)
theorem dX3_want_7 : decode cX3_want 7 = .ok (.dup, 1) := dk_89 (dk_at dksX3_want_0 7 rfl rfl)
theorem dX3_want_8 : decode cX3_want 8 = .ok (.aload_n 0, 1) := dk_42 (dk_at dksX3_want_0 8 rfl rfl)
theorem dX3_want_9 : decode cX3_want 9 = .ok (.getfield 68, 3) := dk_180 0 68 (dk_at dksX3_want_0 9 rfl rfl)
theorem dX3_want_12 : decode cX3_want 12 = .ok (.invokespecial 88, 3) := dk_183 0 88 (dk_at dksX3_want_0 12 rfl rfl)
theorem dX3_want_15 : decode cX3_want 15 = .ok (.athrow, 1) := dk_191 (dk_at dksX3_want_0 15 rfl rfl)
theorem dX3_want_16 : decode cX3_want 16 = .ok (.return_, 1) := dk_177 (dk_at dksX3_want_0 16 rfl rfl)
abbrev cX3_number : ByteArray := prog_15_method_5_code
def yX3_number : MethodName := ⟨RX3, "number", "(I)I"⟩
def dkwX3_number_3 : List UInt8 := [182, 0, 108, 28, 172]
abbrev dktX3_number_3 : List UInt8 := dkwX3_number_3 ++ []
def dkwX3_number_2 : List UInt8 := [182, 0, 108, 42, 180, 0, 17, 184, 0, 112, 61, 42, 28, 27, 163, 0, 7, 4, 167, 0, 4, 3]
abbrev dktX3_number_2 : List UInt8 := dkwX3_number_2 ++ dktX3_number_3
def dkwX3_number_1 : List UInt8 := [182, 0, 71, 5, 160, 0, 18, 42, 180, 0, 17, 182, 0, 104, 6, 162, 0, 7, 4, 167, 0, 4, 3]
abbrev dktX3_number_1 : List UInt8 := dkwX3_number_1 ++ dktX3_number_2
def dkwX3_number_0 : List UInt8 := [42, 182, 0, 91, 42, 42, 180, 0, 17, 182, 0, 94, 154, 0, 34, 42, 42, 180, 0, 17, 3, 182, 0, 100]
abbrev dktX3_number_0 : List UInt8 := dkwX3_number_0 ++ dktX3_number_1
theorem dksX3_number_0 : cX3_number.data.toList.drop 0 = dktX3_number_0 := by decide +kernel
theorem dksX3_number_1 : cX3_number.data.toList.drop 24 = dktX3_number_1 := dk_seg dksX3_number_0 24 rfl rfl
theorem dksX3_number_2 : cX3_number.data.toList.drop 47 = dktX3_number_2 := dk_seg dksX3_number_1 23 rfl rfl
theorem dksX3_number_3 : cX3_number.data.toList.drop 69 = dktX3_number_3 := dk_seg dksX3_number_2 22 rfl rfl
theorem dX3_number_0 : decode cX3_number 0 = .ok (.aload_n 0, 1) := dk_42 (dk_at dksX3_number_0 0 rfl rfl)
theorem dX3_number_1 : decode cX3_number 1 = .ok (.invokevirtual 91, 3) := dk_182 0 91 (dk_at dksX3_number_0 1 rfl rfl)
theorem dX3_number_4 : decode cX3_number 4 = .ok (.aload_n 0, 1) := dk_42 (dk_at dksX3_number_0 4 rfl rfl)
theorem dX3_number_5 : decode cX3_number 5 = .ok (.aload_n 0, 1) := dk_42 (dk_at dksX3_number_0 5 rfl rfl)
theorem dX3_number_6 : decode cX3_number 6 = .ok (.getfield 17, 3) := dk_180 0 17 (dk_at dksX3_number_0 6 rfl rfl)
theorem dX3_number_9 : decode cX3_number 9 = .ok (.invokevirtual 94, 3) := dk_182 0 94 (dk_at dksX3_number_0 9 rfl rfl)
theorem dX3_number_12 : decode cX3_number 12 = .ok (.ifCond .ne 34, 3) := dk_154 0 34 (dk_at dksX3_number_0 12 rfl rfl)
theorem dX3_number_15 : decode cX3_number 15 = .ok (.aload_n 0, 1) := dk_42 (dk_at dksX3_number_0 15 rfl rfl)
theorem dX3_number_16 : decode cX3_number 16 = .ok (.aload_n 0, 1) := dk_42 (dk_at dksX3_number_0 16 rfl rfl)
theorem dX3_number_17 : decode cX3_number 17 = .ok (.getfield 17, 3) := dk_180 0 17 (dk_at dksX3_number_0 17 rfl rfl)
theorem dX3_number_20 : decode cX3_number 20 = .ok (.iconst 0, 1) := dk_3 (dk_at dksX3_number_0 20 rfl rfl)
theorem dX3_number_21 : decode cX3_number 21 = .ok (.invokevirtual 100, 3) := dk_182 0 100 (dk_at dksX3_number_0 21 rfl rfl)
theorem dX3_number_24 : decode cX3_number 24 = .ok (.invokevirtual 71, 3) := dk_182 0 71 (dk_at dksX3_number_1 0 rfl rfl)
theorem dX3_number_27 : decode cX3_number 27 = .ok (.iconst 2, 1) := dk_5 (dk_at dksX3_number_1 3 rfl rfl)
theorem dX3_number_28 : decode cX3_number 28 = .ok (.if_icmp .ne 18, 3) := dk_160 0 18 (dk_at dksX3_number_1 4 rfl rfl)
theorem dX3_number_31 : decode cX3_number 31 = .ok (.aload_n 0, 1) := dk_42 (dk_at dksX3_number_1 7 rfl rfl)
theorem dX3_number_32 : decode cX3_number 32 = .ok (.getfield 17, 3) := dk_180 0 17 (dk_at dksX3_number_1 8 rfl rfl)
theorem dX3_number_35 : decode cX3_number 35 = .ok (.invokevirtual 104, 3) := dk_182 0 104 (dk_at dksX3_number_1 11 rfl rfl)
theorem dX3_number_38 : decode cX3_number 38 = .ok (.iconst 3, 1) := dk_6 (dk_at dksX3_number_1 14 rfl rfl)
theorem dX3_number_39 : decode cX3_number 39 = .ok (.if_icmp .ge 7, 3) := dk_162 0 7 (dk_at dksX3_number_1 15 rfl rfl)
theorem dX3_number_42 : decode cX3_number 42 = .ok (.iconst 1, 1) := dk_4 (dk_at dksX3_number_1 18 rfl rfl)
theorem dX3_number_43 : decode cX3_number 43 = .ok (.goto 4, 3) := dk_167 0 4 (dk_at dksX3_number_1 19 rfl rfl)
theorem dX3_number_46 : decode cX3_number 46 = .ok (.iconst 0, 1) := dk_3 (dk_at dksX3_number_1 22 rfl rfl)
theorem dX3_number_47 : decode cX3_number 47 = .ok (.invokevirtual 108, 3) := dk_182 0 108 (dk_at dksX3_number_2 0 rfl rfl)
theorem dX3_number_50 : decode cX3_number 50 = .ok (.aload_n 0, 1) := dk_42 (dk_at dksX3_number_2 3 rfl rfl)
theorem dX3_number_51 : decode cX3_number 51 = .ok (.getfield 17, 3) := dk_180 0 17 (dk_at dksX3_number_2 4 rfl rfl)
theorem dX3_number_54 : decode cX3_number 54 = .ok (.invokestatic 112, 3) := dk_184 0 112 (dk_at dksX3_number_2 7 rfl rfl)
theorem dX3_number_57 : decode cX3_number 57 = .ok (.istore_n 2, 1) := dk_61 (dk_at dksX3_number_2 10 rfl rfl)
theorem dX3_number_58 : decode cX3_number 58 = .ok (.aload_n 0, 1) := dk_42 (dk_at dksX3_number_2 11 rfl rfl)
theorem dX3_number_59 : decode cX3_number 59 = .ok (.iload_n 2, 1) := dk_28 (dk_at dksX3_number_2 12 rfl rfl)
theorem dX3_number_60 : decode cX3_number 60 = .ok (.iload_n 1, 1) := dk_27 (dk_at dksX3_number_2 13 rfl rfl)
theorem dX3_number_61 : decode cX3_number 61 = .ok (.if_icmp .gt 7, 3) := dk_163 0 7 (dk_at dksX3_number_2 14 rfl rfl)
theorem dX3_number_64 : decode cX3_number 64 = .ok (.iconst 1, 1) := dk_4 (dk_at dksX3_number_2 17 rfl rfl)
theorem dX3_number_65 : decode cX3_number 65 = .ok (.goto 4, 3) := dk_167 0 4 (dk_at dksX3_number_2 18 rfl rfl)
theorem dX3_number_68 : decode cX3_number 68 = .ok (.iconst 0, 1) := dk_3 (dk_at dksX3_number_2 21 rfl rfl)
theorem dX3_number_69 : decode cX3_number 69 = .ok (.invokevirtual 108, 3) := dk_182 0 108 (dk_at dksX3_number_3 0 rfl rfl)
theorem dX3_number_72 : decode cX3_number 72 = .ok (.iload_n 2, 1) := dk_28 (dk_at dksX3_number_3 3 rfl rfl)
theorem dX3_number_73 : decode cX3_number 73 = .ok (.ireturn, 1) := dk_172 (dk_at dksX3_number_3 4 rfl rfl)
theorem q82 : (Jvm.Cond.initialized "AdjectiveCoupons$Reader") ∈ lw_all := lw_g (lw_at lw_m1 5 rfl) rfl
theorem q167 : (Jvm.Cond.fieldLinkNest "AdjectiveCoupons$Reader" (21 : Nat) "AdjectiveCoupons" "wordMany" "I" "AdjectiveCoupons") ∈ lw_tbl := lw_at lw_m1 90 rfl
theorem q170 : (Jvm.Cond.fieldLinkNest "AdjectiveCoupons$Reader" (34 : Nat) "AdjectiveCoupons" "changeMany" "I" "AdjectiveCoupons") ∈ lw_tbl := lw_at lw_m1 93 rfl
theorem q173 : (Jvm.Cond.fieldLinkNest "AdjectiveCoupons$Reader" (28 : Nat) "AdjectiveCoupons" "peopleMany" "I" "AdjectiveCoupons") ∈ lw_tbl := lw_at lw_m1 96 rfl
theorem q187 : (Jvm.Cond.fieldLinkNest "AdjectiveCoupons$Reader" (64 : Nat) "AdjectiveCoupons" "text" "[B" "AdjectiveCoupons") ∈ lw_tbl := lw_at lw_m1 110 rfl
theorem q189 : (Jvm.Cond.fieldLinkNest "AdjectiveCoupons$Reader" (61 : Nat) "AdjectiveCoupons" "letters" "I" "AdjectiveCoupons") ∈ lw_tbl := lw_at lw_m1 112 rfl
theorem q264 : (Jvm.Cond.instantiable "AdjectiveCoupons$Reader" (9 : Nat)) ∈ lw_all := lw_g (lw_at lw_m1 187 rfl) rfl
theorem q266 : (Jvm.Cond.instanceMethod ({ cls := "AdjectiveCoupons$Reader", name := "<init>", desc := "(LAdjectiveCoupons;)V" } : Jvm.MethodName)) ∈ lw_all := lw_g (lw_at lw_m1 189 rfl) rfl
theorem q267 : (Jvm.Cond.code ({ cls := "AdjectiveCoupons$Reader", name := "<init>", desc := "(LAdjectiveCoupons;)V" } : Jvm.MethodName) prog_15_method_1_code (2 : Nat) (Option.none : Option Jvm.ClassFile.FieldType)) ∈ lw_all := lw_g (lw_at lw_m1 190 rfl) rfl
theorem q268 : (Jvm.Cond.methodLink "AdjectiveCoupons$Reader" (9 : Nat) ({ cls := "java/lang/Object", name := "<init>", desc := "()V" } : Jvm.MethodName)) ∈ lw_all := lw_g (lw_at lw_m1 191 rfl) rfl
theorem q269 : (Jvm.Cond.stringRef "AdjectiveCoupons$Reader" (15 : Nat) "") ∈ lw_tbl := lw_at lw_m1 192 rfl
theorem q270 : (Jvm.Cond.classLink "AdjectiveCoupons$Reader" (40 : Nat) "[I") ∈ lw_all := lw_g (lw_at lw_m1 193 rfl) rfl
theorem q271 : (Jvm.Cond.fieldLink "AdjectiveCoupons$Reader" (58 : Nat) "AdjectiveCoupons$Reader" "here" "I") ∈ lw_all := lw_g (lw_at lw_m1 194 rfl) rfl
theorem q272 : (Jvm.Cond.fieldLink "AdjectiveCoupons$Reader" (68 : Nat) "AdjectiveCoupons$Reader" "first" "I") ∈ lw_all := lw_g (lw_at lw_m1 195 rfl) rfl
theorem q273 : (Jvm.Cond.fieldLink "AdjectiveCoupons$Reader" (17 : Nat) "AdjectiveCoupons$Reader" "word" "Ljava/lang/String;") ∈ lw_all := lw_g (lw_at lw_m1 196 rfl) rfl
theorem q274 : (Jvm.Cond.fieldLink "AdjectiveCoupons$Reader" (25 : Nat) "AdjectiveCoupons$Reader" "wordsThere" "I") ∈ lw_all := lw_g (lw_at lw_m1 197 rfl) rfl
theorem q275 : (Jvm.Cond.fieldLink "AdjectiveCoupons$Reader" (31 : Nat) "AdjectiveCoupons$Reader" "peopleThere" "I") ∈ lw_all := lw_g (lw_at lw_m1 198 rfl) rfl
theorem q276 : (Jvm.Cond.fieldLink "AdjectiveCoupons$Reader" (37 : Nat) "AdjectiveCoupons$Reader" "changesThere" "I") ∈ lw_all := lw_g (lw_at lw_m1 199 rfl) rfl
theorem q277 : (Jvm.Cond.fieldLink "AdjectiveCoupons$Reader" (42 : Nat) "AdjectiveCoupons$Reader" "clauses" "[[I") ∈ lw_all := lw_g (lw_at lw_m1 200 rfl) rfl
theorem q279 : (Jvm.Cond.fieldLink "AdjectiveCoupons$Reader" (129 : Nat) "AdjectiveCoupons$Reader" "read" "I") ∈ lw_all := lw_g (lw_at lw_m1 202 rfl) rfl
theorem q281 : (Jvm.Cond.fieldLink "AdjectiveCoupons$Reader" (3 : Nat) "AdjectiveCoupons$Reader" "this$0" "LAdjectiveCoupons;") ∈ lw_all := lw_g (lw_at lw_m1 204 rfl) rfl
theorem q282 : (Jvm.Cond.lays "AdjectiveCoupons$Reader" "AdjectiveCoupons$Reader" "here" "I") ∈ lw_all := lw_g (lw_at lw_m1 205 rfl) rfl
theorem q283 : (Jvm.Cond.soleField "AdjectiveCoupons$Reader" "here") ∈ lw_all := lw_g (lw_at lw_m1 206 rfl) rfl
theorem q284 : (Jvm.Cond.lays "AdjectiveCoupons$Reader" "AdjectiveCoupons$Reader" "first" "I") ∈ lw_all := lw_g (lw_at lw_m1 207 rfl) rfl
theorem q285 : (Jvm.Cond.soleField "AdjectiveCoupons$Reader" "first") ∈ lw_all := lw_g (lw_at lw_m1 208 rfl) rfl
theorem q286 : (Jvm.Cond.lays "AdjectiveCoupons$Reader" "AdjectiveCoupons$Reader" "word" "Ljava/lang/String;") ∈ lw_all := lw_g (lw_at lw_m1 209 rfl) rfl
theorem q287 : (Jvm.Cond.soleField "AdjectiveCoupons$Reader" "word") ∈ lw_all := lw_g (lw_at lw_m1 210 rfl) rfl
theorem q288 : (Jvm.Cond.lays "AdjectiveCoupons$Reader" "AdjectiveCoupons$Reader" "wordsThere" "I") ∈ lw_all := lw_g (lw_at lw_m1 211 rfl) rfl
theorem q289 : (Jvm.Cond.soleField "AdjectiveCoupons$Reader" "wordsThere") ∈ lw_all := lw_g (lw_at lw_m1 212 rfl) rfl
theorem q290 : (Jvm.Cond.lays "AdjectiveCoupons$Reader" "AdjectiveCoupons$Reader" "peopleThere" "I") ∈ lw_all := lw_g (lw_at lw_m1 213 rfl) rfl
theorem q291 : (Jvm.Cond.soleField "AdjectiveCoupons$Reader" "peopleThere") ∈ lw_all := lw_g (lw_at lw_m1 214 rfl) rfl
theorem q292 : (Jvm.Cond.lays "AdjectiveCoupons$Reader" "AdjectiveCoupons$Reader" "changesThere" "I") ∈ lw_all := lw_g (lw_at lw_m1 215 rfl) rfl
theorem q293 : (Jvm.Cond.soleField "AdjectiveCoupons$Reader" "changesThere") ∈ lw_all := lw_g (lw_at lw_m1 216 rfl) rfl
theorem q294 : (Jvm.Cond.laysFinal "AdjectiveCoupons$Reader" "AdjectiveCoupons$Reader" "clauses" "[[I") ∈ lw_all := lw_g (lw_at lw_m1 217 rfl) rfl
theorem q295 : (Jvm.Cond.soleField "AdjectiveCoupons$Reader" "clauses") ∈ lw_all := lw_g (lw_at lw_m1 218 rfl) rfl
theorem q296 : (Jvm.Cond.lays "AdjectiveCoupons$Reader" "AdjectiveCoupons$Reader" "read" "I") ∈ lw_all := lw_g (lw_at lw_m1 219 rfl) rfl
theorem q297 : (Jvm.Cond.soleField "AdjectiveCoupons$Reader" "read") ∈ lw_all := lw_g (lw_at lw_m1 220 rfl) rfl
theorem q298 : (Jvm.Cond.laysFinal "AdjectiveCoupons$Reader" "AdjectiveCoupons$Reader" "this$0" "LAdjectiveCoupons;") ∈ lw_all := lw_g (lw_at lw_m1 221 rfl) rfl
theorem q299 : (Jvm.Cond.soleField "AdjectiveCoupons$Reader" "this$0") ∈ lw_all := lw_g (lw_at lw_m1 222 rfl) rfl
theorem q300 : (Jvm.Cond.superclass "AdjectiveCoupons$Reader" "java/lang/Object") ∈ lw_all := lw_g (lw_at lw_m1 223 rfl) rfl
theorem q302 : (Jvm.Cond.instanceMethod ({ cls := "AdjectiveCoupons$Reader", name := "read", desc := "()LAdjectiveCoupons$Reader;" } : Jvm.MethodName)) ∈ lw_all := lw_g (lw_at lw_m1 225 rfl) rfl
theorem q303 : (Jvm.Cond.selects "AdjectiveCoupons$Reader" ({ cls := "AdjectiveCoupons$Reader", name := "read", desc := "()LAdjectiveCoupons$Reader;" } : Jvm.MethodName) ({ cls := "AdjectiveCoupons$Reader", name := "read", desc := "()LAdjectiveCoupons$Reader;" } : Jvm.MethodName)) ∈ lw_all := lw_g (lw_at lw_m1 226 rfl) rfl
theorem q304 : (Jvm.Cond.code ({ cls := "AdjectiveCoupons$Reader", name := "read", desc := "()LAdjectiveCoupons$Reader;" } : Jvm.MethodName) prog_15_method_7_code (2 : Nat) (Option.some (Jvm.ClassFile.FieldType.object "AdjectiveCoupons$Reader"))) ∈ lw_all := lw_g (lw_at lw_m1 227 rfl) rfl
theorem q305 : (Jvm.Cond.methodLink "AdjectiveCoupons$Reader" (132 : Nat) ({ cls := "AdjectiveCoupons$Reader", name := "clause", desc := "()[I" } : Jvm.MethodName)) ∈ lw_all := lw_g (lw_at lw_m1 228 rfl) rfl
theorem q306 : (Jvm.Cond.privateMethod ({ cls := "AdjectiveCoupons$Reader", name := "clause", desc := "()[I" } : Jvm.MethodName)) ∈ lw_tbl := lw_at lw_m1 229 rfl
theorem q307 : (Jvm.Cond.instanceMethod ({ cls := "AdjectiveCoupons$Reader", name := "clause", desc := "()[I" } : Jvm.MethodName)) ∈ lw_all := lw_g (lw_at lw_m1 230 rfl) rfl
theorem q308 : (Jvm.Cond.code ({ cls := "AdjectiveCoupons$Reader", name := "clause", desc := "()[I" } : Jvm.MethodName) prog_15_method_6_code (3 : Nat) (Option.some (Jvm.ClassFile.FieldType.array Jvm.ClassFile.FieldType.int))) ∈ lw_all := lw_g (lw_at lw_m1 231 rfl) rfl
theorem q309 : (Jvm.Cond.methodLink "AdjectiveCoupons$Reader" (91 : Nat) ({ cls := "AdjectiveCoupons$Reader", name := "take", desc := "()V" } : Jvm.MethodName)) ∈ lw_all := lw_g (lw_at lw_m1 232 rfl) rfl
theorem q310 : (Jvm.Cond.privateMethod ({ cls := "AdjectiveCoupons$Reader", name := "take", desc := "()V" } : Jvm.MethodName)) ∈ lw_tbl := lw_at lw_m1 233 rfl
theorem q311 : (Jvm.Cond.instanceMethod ({ cls := "AdjectiveCoupons$Reader", name := "take", desc := "()V" } : Jvm.MethodName)) ∈ lw_all := lw_g (lw_at lw_m1 234 rfl) rfl
theorem q312 : (Jvm.Cond.code ({ cls := "AdjectiveCoupons$Reader", name := "take", desc := "()V" } : Jvm.MethodName) prog_15_method_3_code (3 : Nat) (Option.none : Option Jvm.ClassFile.FieldType)) ∈ lw_all := lw_g (lw_at lw_m1 235 rfl) rfl
theorem q313 : (Jvm.Cond.methodLink "AdjectiveCoupons$Reader" (71 : Nat) ({ cls := "AdjectiveCoupons$Reader", name := "kindOf", desc := "(I)I" } : Jvm.MethodName)) ∈ lw_all := lw_g (lw_at lw_m1 236 rfl) rfl
theorem q314 : (Jvm.Cond.privateMethod ({ cls := "AdjectiveCoupons$Reader", name := "kindOf", desc := "(I)I" } : Jvm.MethodName)) ∈ lw_tbl := lw_at lw_m1 237 rfl
theorem q315 : (Jvm.Cond.instanceMethod ({ cls := "AdjectiveCoupons$Reader", name := "kindOf", desc := "(I)I" } : Jvm.MethodName)) ∈ lw_all := lw_g (lw_at lw_m1 238 rfl) rfl
theorem q316 : (Jvm.Cond.code ({ cls := "AdjectiveCoupons$Reader", name := "kindOf", desc := "(I)I" } : Jvm.MethodName) prog_15_method_2_code (2 : Nat) (Option.some Jvm.ClassFile.FieldType.int)) ∈ lw_all := lw_g (lw_at lw_m1 239 rfl) rfl
theorem q317 : (Jvm.Cond.constantLong "AdjectiveCoupons$Reader" (46 : Nat) (97 : Int64)) ∈ lw_all := lw_g (lw_at lw_m2 0 rfl) rfl
theorem q318 : (Jvm.Cond.constantLong "AdjectiveCoupons$Reader" (48 : Nat) (122 : Int64)) ∈ lw_all := lw_g (lw_at lw_m2 1 rfl) rfl
theorem q319 : (Jvm.Cond.methodLinkNest "AdjectiveCoupons$Reader" (50 : Nat) ({ cls := "AdjectiveCoupons", name := "in", desc := "(JJJ)Z" } : Jvm.MethodName) "AdjectiveCoupons") ∈ lw_tbl := lw_at lw_m2 2 rfl
theorem q320 : (Jvm.Cond.constantLong "AdjectiveCoupons$Reader" (54 : Nat) (48 : Int64)) ∈ lw_all := lw_g (lw_at lw_m2 3 rfl) rfl
theorem q321 : (Jvm.Cond.constantLong "AdjectiveCoupons$Reader" (56 : Nat) (57 : Int64)) ∈ lw_all := lw_g (lw_at lw_m2 4 rfl) rfl
theorem q322 : (Jvm.Cond.classLink "AdjectiveCoupons$Reader" (75 : Nat) "java/lang/StringBuilder") ∈ lw_all := lw_g (lw_at lw_m2 5 rfl) rfl
theorem q324 : (Jvm.Cond.methodLink "AdjectiveCoupons$Reader" (77 : Nat) ({ cls := "java/lang/StringBuilder", name := "<init>", desc := "()V" } : Jvm.MethodName)) ∈ lw_all := lw_g (lw_at lw_m2 7 rfl) rfl
theorem q353 : (Jvm.Cond.methodLink "AdjectiveCoupons$Reader" (78 : Nat) ({ cls := "java/lang/StringBuilder", name := "append", desc := "(C)Ljava/lang/StringBuilder;" } : Jvm.MethodName)) ∈ lw_all := lw_g (lw_at lw_m2 36 rfl) rfl
theorem q448 : (Jvm.Cond.methodLink "AdjectiveCoupons$Reader" (82 : Nat) ({ cls := "java/lang/StringBuilder", name := "toString", desc := "()Ljava/lang/String;" } : Jvm.MethodName)) ∈ lw_all := lw_g (lw_at lw_m2 131 rfl) rfl
theorem q509 : (Jvm.Cond.fieldLinkNest "AdjectiveCoupons$Reader" (118 : Nat) "AdjectiveCoupons" "HEADS" "[Ljava/lang/String;" "AdjectiveCoupons") ∈ lw_tbl := lw_at lw_m2 192 rfl
theorem q511 : (Jvm.Cond.methodLink "AdjectiveCoupons$Reader" (122 : Nat) ({ cls := "java/lang/String", name := "equals", desc := "(Ljava/lang/Object;)Z" } : Jvm.MethodName)) ∈ lw_all := lw_g (lw_at lw_m2 194 rfl) rfl
theorem q519 : (Jvm.Cond.methodLink "AdjectiveCoupons$Reader" (108 : Nat) ({ cls := "AdjectiveCoupons$Reader", name := "want", desc := "(Z)V" } : Jvm.MethodName)) ∈ lw_all := lw_g (lw_at lw_m2 202 rfl) rfl
theorem q520 : (Jvm.Cond.privateMethod ({ cls := "AdjectiveCoupons$Reader", name := "want", desc := "(Z)V" } : Jvm.MethodName)) ∈ lw_tbl := lw_at lw_m2 203 rfl
theorem q521 : (Jvm.Cond.instanceMethod ({ cls := "AdjectiveCoupons$Reader", name := "want", desc := "(Z)V" } : Jvm.MethodName)) ∈ lw_all := lw_g (lw_at lw_m2 204 rfl) rfl
theorem q522 : (Jvm.Cond.code ({ cls := "AdjectiveCoupons$Reader", name := "want", desc := "(Z)V" } : Jvm.MethodName) prog_15_method_4_code (2 : Nat) (Option.none : Option Jvm.ClassFile.FieldType)) ∈ lw_all := lw_g (lw_at lw_m2 205 rfl) rfl
theorem q523 : (Jvm.Cond.classLink "AdjectiveCoupons$Reader" (86 : Nat) "AdjectiveCoupons$Fault") ∈ lw_all := lw_g (lw_at lw_m2 206 rfl) rfl
theorem q575 : (Jvm.Cond.methodLink "AdjectiveCoupons$Reader" (88 : Nat) ({ cls := "AdjectiveCoupons$Fault", name := "<init>", desc := "(I)V" } : Jvm.MethodName)) ∈ lw_all := lw_g (lw_at lw_m3 18 rfl) rfl
theorem q601 : (Jvm.Cond.methodLink "AdjectiveCoupons$Reader" (126 : Nat) ({ cls := "AdjectiveCoupons$Reader", name := "number", desc := "(I)I" } : Jvm.MethodName)) ∈ lw_all := lw_g (lw_at lw_m3 44 rfl) rfl
theorem q602 : (Jvm.Cond.privateMethod ({ cls := "AdjectiveCoupons$Reader", name := "number", desc := "(I)I" } : Jvm.MethodName)) ∈ lw_tbl := lw_at lw_m3 45 rfl
theorem q603 : (Jvm.Cond.instanceMethod ({ cls := "AdjectiveCoupons$Reader", name := "number", desc := "(I)I" } : Jvm.MethodName)) ∈ lw_all := lw_g (lw_at lw_m3 46 rfl) rfl
theorem q604 : (Jvm.Cond.code ({ cls := "AdjectiveCoupons$Reader", name := "number", desc := "(I)I" } : Jvm.MethodName) prog_15_method_5_code (3 : Nat) (Option.some Jvm.ClassFile.FieldType.int)) ∈ lw_all := lw_g (lw_at lw_m3 47 rfl) rfl
theorem q605 : (Jvm.Cond.methodLink "AdjectiveCoupons$Reader" (94 : Nat) ({ cls := "java/lang/String", name := "isEmpty", desc := "()Z" } : Jvm.MethodName)) ∈ lw_all := lw_g (lw_at lw_m3 48 rfl) rfl
theorem q609 : (Jvm.Cond.methodLink "AdjectiveCoupons$Reader" (100 : Nat) ({ cls := "java/lang/String", name := "charAt", desc := "(I)C" } : Jvm.MethodName)) ∈ lw_all := lw_g (lw_at lw_m3 52 rfl) rfl
theorem q624 : (Jvm.Cond.methodLink "AdjectiveCoupons$Reader" (104 : Nat) ({ cls := "java/lang/String", name := "length", desc := "()I" } : Jvm.MethodName)) ∈ lw_all := lw_g (lw_at lw_m3 67 rfl) rfl
theorem q632 : (Jvm.Cond.methodLink "AdjectiveCoupons$Reader" (112 : Nat) ({ cls := "java/lang/Integer", name := "parseInt", desc := "(Ljava/lang/String;)I" } : Jvm.MethodName)) ∈ lw_all := lw_g (lw_at lw_m3 75 rfl) rfl
theorem q661 : (Jvm.Cond.stringRef "AdjectiveCoupons$Reader" (136 : Nat) ";") ∈ lw_tbl := lw_at lw_m3 104 rfl
theorem q1646 : (Jvm.Cond.castable "AdjectiveCoupons$Reader" "java/lang/Object") ∈ lw_tbl := lw_at lw_m7 129 rfl
theorem in_X3 : ∀ w ∈ wsX30, w ∈ lw_all := lw_in wsX30 [282, 284, 286, 288, 290, 292, 294, 296, 298] (by decide +kernel) (by decide +kernel)
/-! AdjectiveCoupons$Fault -/
set_option maxRecDepth 100000
def RX4 : String := "AdjectiveCoupons$Fault"
def TX4 : u_T := fun k => match k with
  | 0 => ("java/lang/Throwable", "cause", "Ljava/lang/Throwable;", false)
  | 1 => ("java/lang/Throwable", "stackTrace", "[Ljava/lang/StackTraceElement;", false)
  | 2 => ("java/lang/Throwable", "suppressedExceptions", "Ljava/util/List;", false)
  | 3 => ("java/lang/Throwable", "detailMessage", "Ljava/lang/String;", false)
  | 4 => ("java/lang/Throwable", "backtrace", "Ljava/lang/Object;", false)
  | 5 => ("java/lang/Throwable", "depth", "I", false)
  | _ => ("AdjectiveCoupons$Fault", "at", "I", true)
def tyX4 : Nat → FieldType := fun k => match k with
  | 0 => .object "java/lang/Throwable"
  | 1 => .array (.object "java/lang/StackTraceElement")
  | 2 => .object "java/util/List"
  | 3 => .object "java/lang/String"
  | 4 => .object "java/lang/Object"
  | 5 => .int
  | _ => .int
abbrev wsX40 : List Cond := u_ws RX4 TX4 7
theorem nmX4 : ∀ a, a < 7 → ∀ b, b < 7 → a ≠ b → (TX4 a).2.1 ≠ (TX4 b).2.1 := by decide +kernel
theorem tyX4_ok : ∀ k, k < 7 → parseFieldDescriptor (TX4 k).2.2.1 = some (tyX4 k) := by decide +kernel
abbrev cX4_init : ByteArray := prog_6_method_1_code
def yX4_init : MethodName := ⟨RX4, "<init>", "(I)V"⟩
def dkwX4_init_0 : List UInt8 := [42, 1, 1, 3, 3, 183, 0, 1, 42, 27, 181, 0, 7, 177]
abbrev dktX4_init_0 : List UInt8 := dkwX4_init_0 ++ []
theorem dksX4_init_0 : cX4_init.data.toList.drop 0 = dktX4_init_0 := by decide +kernel
theorem dX4_init_0 : decode cX4_init 0 = .ok (.aload_n 0, 1) := dk_42 (dk_at dksX4_init_0 0 rfl rfl)
theorem dX4_init_1 : decode cX4_init 1 = .ok (.aconst_null, 1) := dk_1 (dk_at dksX4_init_0 1 rfl rfl)
theorem dX4_init_2 : decode cX4_init 2 = .ok (.aconst_null, 1) := dk_1 (dk_at dksX4_init_0 2 rfl rfl)
theorem dX4_init_3 : decode cX4_init 3 = .ok (.iconst 0, 1) := dk_3 (dk_at dksX4_init_0 3 rfl rfl)
theorem dX4_init_4 : decode cX4_init 4 = .ok (.iconst 0, 1) := dk_3 (dk_at dksX4_init_0 4 rfl rfl)
theorem dX4_init_5 : decode cX4_init 5 = .ok (.invokespecial 1, 3) := dk_183 0 1 (dk_at dksX4_init_0 5 rfl rfl)
theorem dX4_init_8 : decode cX4_init 8 = .ok (.aload_n 0, 1) := dk_42 (dk_at dksX4_init_0 8 rfl rfl)
theorem dX4_init_9 : decode cX4_init 9 = .ok (.iload_n 1, 1) := dk_27 (dk_at dksX4_init_0 9 rfl rfl)
theorem dX4_init_10 : decode cX4_init 10 = .ok (.putfield 7, 3) := dk_181 0 7 (dk_at dksX4_init_0 10 rfl rfl)
theorem dX4_init_13 : decode cX4_init 13 = .ok (.return_, 1) := dk_177 (dk_at dksX4_init_0 13 rfl rfl)
theorem q94 : (Jvm.Cond.initialized "AdjectiveCoupons$Fault") ∈ lw_all := lw_g (lw_at lw_m1 17 rfl) rfl
theorem q524 : (Jvm.Cond.instantiable "AdjectiveCoupons$Fault" (7 : Nat)) ∈ lw_all := lw_g (lw_at lw_m2 207 rfl) rfl
theorem q525 : (Jvm.Cond.castable "AdjectiveCoupons$Fault" "AdjectiveCoupons$Fault") ∈ lw_tbl := lw_at lw_m2 208 rfl
theorem q530 : (Jvm.Cond.selects "AdjectiveCoupons$Fault" ({ cls := "java/lang/Throwable", name := "fillInStackTrace", desc := "(I)Ljava/lang/Throwable;" } : Jvm.MethodName) ({ cls := "java/lang/Throwable", name := "fillInStackTrace", desc := "(I)Ljava/lang/Throwable;" } : Jvm.MethodName)) ∈ lw_all := lw_g (lw_at lw_m2 213 rfl) rfl
theorem q531 : (Jvm.Cond.selects "AdjectiveCoupons$Fault" ({ cls := "java/lang/Throwable", name := "fillInStackTrace", desc := "()Ljava/lang/Throwable;" } : Jvm.MethodName) ({ cls := "java/lang/Throwable", name := "fillInStackTrace", desc := "()Ljava/lang/Throwable;" } : Jvm.MethodName)) ∈ lw_all := lw_g (lw_at lw_m2 214 rfl) rfl
theorem q532 : (Jvm.Cond.lays "AdjectiveCoupons$Fault" "java/lang/Throwable" "cause" "Ljava/lang/Throwable;") ∈ lw_all := lw_g (lw_at lw_m2 215 rfl) rfl
theorem q534 : (Jvm.Cond.lays "AdjectiveCoupons$Fault" "java/lang/Throwable" "stackTrace" "[Ljava/lang/StackTraceElement;") ∈ lw_all := lw_g (lw_at lw_m2 217 rfl) rfl
theorem q536 : (Jvm.Cond.lays "AdjectiveCoupons$Fault" "java/lang/Throwable" "suppressedExceptions" "Ljava/util/List;") ∈ lw_all := lw_g (lw_at lw_m2 219 rfl) rfl
theorem q538 : (Jvm.Cond.lays "AdjectiveCoupons$Fault" "java/lang/Throwable" "detailMessage" "Ljava/lang/String;") ∈ lw_all := lw_g (lw_at lw_m2 221 rfl) rfl
theorem q540 : (Jvm.Cond.lays "AdjectiveCoupons$Fault" "java/lang/Throwable" "backtrace" "Ljava/lang/Object;") ∈ lw_all := lw_g (lw_at lw_m2 223 rfl) rfl
theorem q576 : (Jvm.Cond.instanceMethod ({ cls := "AdjectiveCoupons$Fault", name := "<init>", desc := "(I)V" } : Jvm.MethodName)) ∈ lw_all := lw_g (lw_at lw_m3 19 rfl) rfl
theorem q577 : (Jvm.Cond.code ({ cls := "AdjectiveCoupons$Fault", name := "<init>", desc := "(I)V" } : Jvm.MethodName) prog_6_method_1_code (2 : Nat) (Option.none : Option Jvm.ClassFile.FieldType)) ∈ lw_all := lw_g (lw_at lw_m3 20 rfl) rfl
theorem q578 : (Jvm.Cond.methodLink "AdjectiveCoupons$Fault" (1 : Nat) ({ cls := "java/lang/Exception", name := "<init>", desc := "(Ljava/lang/String;Ljava/lang/Throwable;ZZ)V" } : Jvm.MethodName)) ∈ lw_all := lw_g (lw_at lw_m3 21 rfl) rfl
theorem q584 : (Jvm.Cond.fieldLink "AdjectiveCoupons$Fault" (7 : Nat) "AdjectiveCoupons$Fault" "at" "I") ∈ lw_all := lw_g (lw_at lw_m3 27 rfl) rfl
theorem q591 : (Jvm.Cond.laysFinal "AdjectiveCoupons$Fault" "AdjectiveCoupons$Fault" "at" "I") ∈ lw_all := lw_g (lw_at lw_m3 34 rfl) rfl
theorem q592 : (Jvm.Cond.soleField "AdjectiveCoupons$Fault" "at") ∈ lw_all := lw_g (lw_at lw_m3 35 rfl) rfl
theorem q597 : (Jvm.Cond.lays "AdjectiveCoupons$Fault" "java/lang/Throwable" "depth" "I") ∈ lw_all := lw_g (lw_at lw_m3 40 rfl) rfl
theorem q600 : (Jvm.Cond.superclass "AdjectiveCoupons$Fault" "java/lang/Exception") ∈ lw_all := lw_g (lw_at lw_m3 43 rfl) rfl
theorem q1649 : (Jvm.Cond.castable "AdjectiveCoupons$Fault" "java/lang/Object") ∈ lw_tbl := lw_at lw_m7 132 rfl
theorem in_X4 : ∀ w ∈ wsX40, w ∈ lw_all := lw_in wsX40 [532, 534, 536, 538, 540, 597, 591] (by decide +kernel) (by decide +kernel)
/-! AdjectiveCoupons$Word -/
set_option maxRecDepth 100000
def RX5 : String := "AdjectiveCoupons$Word"
def TX5 : u_T := fun k => match k with
  | 0 => ("AdjectiveCoupons$Word", "kind", "LAdjectiveCoupons$Kind;", true)
  | _ => ("AdjectiveCoupons$Word", "worth", "I", true)
def tyX5 : Nat → FieldType := fun k => match k with
  | 0 => .object "AdjectiveCoupons$Kind"
  | _ => .int
abbrev wsX50 : List Cond := u_ws RX5 TX5 2
theorem nmX5 : ∀ a, a < 2 → ∀ b, b < 2 → a ≠ b → (TX5 a).2.1 ≠ (TX5 b).2.1 := by decide +kernel
theorem tyX5_ok : ∀ k, k < 2 → parseFieldDescriptor (TX5 k).2.2.1 = some (tyX5 k) := by decide +kernel
abbrev cX5_init : ByteArray := prog_17_method_1_code
def yX5_init : MethodName := ⟨RX5, "<init>", "(II)V"⟩
def dkwX5_init_0 : List UInt8 := [42, 183, 0, 1, 42, 178, 0, 7, 27, 50, 181, 0, 13, 42, 28, 181, 0, 19, 177]
abbrev dktX5_init_0 : List UInt8 := dkwX5_init_0 ++ []
theorem dksX5_init_0 : cX5_init.data.toList.drop 0 = dktX5_init_0 := by decide +kernel
theorem dX5_init_0 : decode cX5_init 0 = .ok (.aload_n 0, 1) := dk_42 (dk_at dksX5_init_0 0 rfl rfl)
theorem dX5_init_1 : decode cX5_init 1 = .ok (.invokespecial 1, 3) := dk_183 0 1 (dk_at dksX5_init_0 1 rfl rfl)
theorem dX5_init_4 : decode cX5_init 4 = .ok (.aload_n 0, 1) := dk_42 (dk_at dksX5_init_0 4 rfl rfl)
theorem dX5_init_5 : decode cX5_init 5 = .ok (.getstatic 7, 3) := dk_178 0 7 (dk_at dksX5_init_0 5 rfl rfl)
theorem dX5_init_8 : decode cX5_init 8 = .ok (.iload_n 1, 1) := dk_27 (dk_at dksX5_init_0 8 rfl rfl)
theorem dX5_init_9 : decode cX5_init 9 = .ok (.aaload, 1) := dk_50 (dk_at dksX5_init_0 9 rfl rfl)
theorem dX5_init_10 : decode cX5_init 10 = .ok (.putfield 13, 3) := dk_181 0 13 (dk_at dksX5_init_0 10 rfl rfl)
theorem dX5_init_13 : decode cX5_init 13 = .ok (.aload_n 0, 1) := dk_42 (dk_at dksX5_init_0 13 rfl rfl)
theorem dX5_init_14 : decode cX5_init 14 = .ok (.iload_n 2, 1) := dk_28 (dk_at dksX5_init_0 14 rfl rfl)
theorem dX5_init_15 : decode cX5_init 15 = .ok (.putfield 19, 3) := dk_181 0 19 (dk_at dksX5_init_0 15 rfl rfl)
theorem dX5_init_18 : decode cX5_init 18 = .ok (.return_, 1) := dk_177 (dk_at dksX5_init_0 18 rfl rfl)
theorem q100 : (Jvm.Cond.initialized "AdjectiveCoupons$Word") ∈ lw_all := lw_g (lw_at lw_m1 23 rfl) rfl
theorem q671 : (Jvm.Cond.instantiable "AdjectiveCoupons$Word" (2 : Nat)) ∈ lw_all := lw_g (lw_at lw_m3 114 rfl) rfl
theorem q673 : (Jvm.Cond.instanceMethod ({ cls := "AdjectiveCoupons$Word", name := "<init>", desc := "(II)V" } : Jvm.MethodName)) ∈ lw_all := lw_g (lw_at lw_m3 116 rfl) rfl
theorem q674 : (Jvm.Cond.code ({ cls := "AdjectiveCoupons$Word", name := "<init>", desc := "(II)V" } : Jvm.MethodName) prog_17_method_1_code (3 : Nat) (Option.none : Option Jvm.ClassFile.FieldType)) ∈ lw_all := lw_g (lw_at lw_m3 117 rfl) rfl
theorem q675 : (Jvm.Cond.methodLink "AdjectiveCoupons$Word" (1 : Nat) ({ cls := "java/lang/Object", name := "<init>", desc := "()V" } : Jvm.MethodName)) ∈ lw_all := lw_g (lw_at lw_m3 118 rfl) rfl
theorem q676 : (Jvm.Cond.fieldLinkNest "AdjectiveCoupons$Word" (7 : Nat) "AdjectiveCoupons" "KINDS" "[LAdjectiveCoupons$Kind;" "AdjectiveCoupons") ∈ lw_tbl := lw_at lw_m3 119 rfl
theorem q678 : (Jvm.Cond.fieldLink "AdjectiveCoupons$Word" (13 : Nat) "AdjectiveCoupons$Word" "kind" "LAdjectiveCoupons$Kind;") ∈ lw_all := lw_g (lw_at lw_m3 121 rfl) rfl
theorem q680 : (Jvm.Cond.fieldLink "AdjectiveCoupons$Word" (19 : Nat) "AdjectiveCoupons$Word" "worth" "I") ∈ lw_all := lw_g (lw_at lw_m3 123 rfl) rfl
theorem q682 : (Jvm.Cond.laysFinal "AdjectiveCoupons$Word" "AdjectiveCoupons$Word" "kind" "LAdjectiveCoupons$Kind;") ∈ lw_all := lw_g (lw_at lw_m3 125 rfl) rfl
theorem q683 : (Jvm.Cond.soleField "AdjectiveCoupons$Word" "kind") ∈ lw_all := lw_g (lw_at lw_m3 126 rfl) rfl
theorem q684 : (Jvm.Cond.laysFinal "AdjectiveCoupons$Word" "AdjectiveCoupons$Word" "worth" "I") ∈ lw_all := lw_g (lw_at lw_m3 127 rfl) rfl
theorem q685 : (Jvm.Cond.soleField "AdjectiveCoupons$Word" "worth") ∈ lw_all := lw_g (lw_at lw_m3 128 rfl) rfl
theorem q686 : (Jvm.Cond.superclass "AdjectiveCoupons$Word" "java/lang/Object") ∈ lw_all := lw_g (lw_at lw_m3 129 rfl) rfl
theorem q1651 : (Jvm.Cond.castable "AdjectiveCoupons$Word" "java/lang/Object") ∈ lw_tbl := lw_at lw_m7 134 rfl
theorem in_X5 : ∀ w ∈ wsX50, w ∈ lw_all := lw_in wsX50 [682, 684] (by decide +kernel) (by decide +kernel)
/-! AdjectiveCoupons$One -/
set_option maxRecDepth 100000
def RX6 : String := "AdjectiveCoupons$One"
abbrev cX6_init : ByteArray := prog_12_method_1_code
def yX6_init : MethodName := ⟨RX6, "<init>", "(I)V"⟩
def dkwX6_init_0 : List UInt8 := [42, 183, 0, 1, 42, 27, 181, 0, 7, 177]
abbrev dktX6_init_0 : List UInt8 := dkwX6_init_0 ++ []
theorem dksX6_init_0 : cX6_init.data.toList.drop 0 = dktX6_init_0 := by decide +kernel
theorem dX6_init_0 : decode cX6_init 0 = .ok (.aload_n 0, 1) := dk_42 (dk_at dksX6_init_0 0 rfl rfl)
theorem dX6_init_1 : decode cX6_init 1 = .ok (.invokespecial 1, 3) := dk_183 0 1 (dk_at dksX6_init_0 1 rfl rfl)
theorem dX6_init_4 : decode cX6_init 4 = .ok (.aload_n 0, 1) := dk_42 (dk_at dksX6_init_0 4 rfl rfl)
theorem dX6_init_5 : decode cX6_init 5 = .ok (.iload_n 1, 1) := dk_27 (dk_at dksX6_init_0 5 rfl rfl)
theorem dX6_init_6 : decode cX6_init 6 = .ok (.putfield 7, 3) := dk_181 0 7 (dk_at dksX6_init_0 6 rfl rfl)
theorem dX6_init_9 : decode cX6_init 9 = .ok (.return_, 1) := dk_177 (dk_at dksX6_init_0 9 rfl rfl)
theorem q101 : (Jvm.Cond.initialized "AdjectiveCoupons$One") ∈ lw_all := lw_g (lw_at lw_m1 24 rfl) rfl
theorem q696 : (Jvm.Cond.instanceMethod ({ cls := "AdjectiveCoupons$One", name := "<init>", desc := "(I)V" } : Jvm.MethodName)) ∈ lw_all := lw_g (lw_at lw_m3 139 rfl) rfl
theorem q697 : (Jvm.Cond.code ({ cls := "AdjectiveCoupons$One", name := "<init>", desc := "(I)V" } : Jvm.MethodName) prog_12_method_1_code (2 : Nat) (Option.none : Option Jvm.ClassFile.FieldType)) ∈ lw_all := lw_g (lw_at lw_m3 140 rfl) rfl
theorem q698 : (Jvm.Cond.methodLink "AdjectiveCoupons$One" (1 : Nat) ({ cls := "java/lang/Object", name := "<init>", desc := "()V" } : Jvm.MethodName)) ∈ lw_all := lw_g (lw_at lw_m3 141 rfl) rfl
theorem q699 : (Jvm.Cond.fieldLink "AdjectiveCoupons$One" (7 : Nat) "AdjectiveCoupons$One" "wants" "I") ∈ lw_all := lw_g (lw_at lw_m3 142 rfl) rfl
theorem q702 : (Jvm.Cond.soleField "AdjectiveCoupons$One" "wants") ∈ lw_all := lw_g (lw_at lw_m3 145 rfl) rfl
theorem q791 : (Jvm.Cond.superclass "AdjectiveCoupons$One" "java/lang/Object") ∈ lw_all := lw_g (lw_at lw_m3 234 rfl) rfl
/-! AdjectiveCoupons$Citizen -/
set_option maxRecDepth 100000
def RX7 : String := "AdjectiveCoupons$Citizen"
def TX7 : u_T := fun k => match k with
  | _ => ("AdjectiveCoupons$One", "wants", "I", true)
def tyX7 : Nat → FieldType := fun k => match k with
  | _ => .int
abbrev wsX70 : List Cond := u_ws RX7 TX7 1
theorem nmX7 : ∀ a, a < 1 → ∀ b, b < 1 → a ≠ b → (TX7 a).2.1 ≠ (TX7 b).2.1 := by decide +kernel
theorem tyX7_ok : ∀ k, k < 1 → parseFieldDescriptor (TX7 k).2.2.1 = some (tyX7 k) := by decide +kernel
abbrev cX7_init : ByteArray := prog_3_method_1_code
def yX7_init : MethodName := ⟨RX7, "<init>", "(I)V"⟩
def dkwX7_init_0 : List UInt8 := [42, 27, 183, 0, 1, 177]
abbrev dktX7_init_0 : List UInt8 := dkwX7_init_0 ++ []
theorem dksX7_init_0 : cX7_init.data.toList.drop 0 = dktX7_init_0 := by decide +kernel
theorem dX7_init_0 : decode cX7_init 0 = .ok (.aload_n 0, 1) := dk_42 (dk_at dksX7_init_0 0 rfl rfl)
theorem dX7_init_1 : decode cX7_init 1 = .ok (.iload_n 1, 1) := dk_27 (dk_at dksX7_init_0 1 rfl rfl)
theorem dX7_init_2 : decode cX7_init 2 = .ok (.invokespecial 1, 3) := dk_183 0 1 (dk_at dksX7_init_0 2 rfl rfl)
theorem dX7_init_5 : decode cX7_init 5 = .ok (.return_, 1) := dk_177 (dk_at dksX7_init_0 5 rfl rfl)
abbrev cX7_kind : ByteArray := prog_3_method_2_code
def yX7_kind : MethodName := ⟨RX7, "kind", "()I"⟩
theorem dX7_kind_0 : decode cX7_kind 0 = .ok (.iconst 0, 1) := by decide +kernel
theorem dX7_kind_1 : decode cX7_kind 1 = .ok (.ireturn, 1) := by decide +kernel
theorem q102 : (Jvm.Cond.initialized "AdjectiveCoupons$Citizen") ∈ lw_all := lw_g (lw_at lw_m1 25 rfl) rfl
theorem q691 : (Jvm.Cond.instantiable "AdjectiveCoupons$Citizen" (1 : Nat)) ∈ lw_all := lw_g (lw_at lw_m3 134 rfl) rfl
theorem q693 : (Jvm.Cond.instanceMethod ({ cls := "AdjectiveCoupons$Citizen", name := "<init>", desc := "(I)V" } : Jvm.MethodName)) ∈ lw_all := lw_g (lw_at lw_m3 136 rfl) rfl
theorem q694 : (Jvm.Cond.code ({ cls := "AdjectiveCoupons$Citizen", name := "<init>", desc := "(I)V" } : Jvm.MethodName) prog_3_method_1_code (2 : Nat) (Option.none : Option Jvm.ClassFile.FieldType)) ∈ lw_all := lw_g (lw_at lw_m3 137 rfl) rfl
theorem q695 : (Jvm.Cond.methodLink "AdjectiveCoupons$Citizen" (1 : Nat) ({ cls := "AdjectiveCoupons$One", name := "<init>", desc := "(I)V" } : Jvm.MethodName)) ∈ lw_all := lw_g (lw_at lw_m3 138 rfl) rfl
theorem q701 : (Jvm.Cond.laysFinal "AdjectiveCoupons$Citizen" "AdjectiveCoupons$One" "wants" "I") ∈ lw_all := lw_g (lw_at lw_m3 144 rfl) rfl
theorem q703 : (Jvm.Cond.superclass "AdjectiveCoupons$Citizen" "AdjectiveCoupons$One") ∈ lw_all := lw_g (lw_at lw_m3 146 rfl) rfl
theorem q793 : (Jvm.Cond.selects "AdjectiveCoupons$Citizen" ({ cls := "AdjectiveCoupons$Buyer", name := "kind", desc := "()I" } : Jvm.MethodName) ({ cls := "AdjectiveCoupons$Citizen", name := "kind", desc := "()I" } : Jvm.MethodName)) ∈ lw_all := lw_g (lw_at lw_m3 236 rfl) rfl
theorem q794 : (Jvm.Cond.instanceMethod ({ cls := "AdjectiveCoupons$Citizen", name := "kind", desc := "()I" } : Jvm.MethodName)) ∈ lw_all := lw_g (lw_at lw_m3 237 rfl) rfl
theorem q795 : (Jvm.Cond.code ({ cls := "AdjectiveCoupons$Citizen", name := "kind", desc := "()I" } : Jvm.MethodName) prog_3_method_2_code (1 : Nat) (Option.some Jvm.ClassFile.FieldType.int)) ∈ lw_all := lw_g (lw_at lw_m3 238 rfl) rfl
theorem q892 : (Jvm.Cond.castable "AdjectiveCoupons$Citizen" "AdjectiveCoupons$Buyer") ∈ lw_tbl := lw_at lw_m4 95 rfl
theorem q893 : (Jvm.Cond.unhidden "AdjectiveCoupons$Citizen" "off" "([I[Z)I") ∈ lw_tbl := lw_at lw_m4 96 rfl
theorem q972 : (Jvm.Cond.unhidden "AdjectiveCoupons$Citizen" "hoards" "()Z") ∈ lw_tbl := lw_at lw_m4 175 rfl
theorem q1633 : (Jvm.Cond.sameMethod "AdjectiveCoupons$Citizen" "AdjectiveCoupons$Citizen" "kind" "()I") ∈ lw_all := lw_g (lw_at lw_m7 116 rfl) rfl
theorem q1637 : (Jvm.Cond.castable "AdjectiveCoupons$Citizen" "AdjectiveCoupons$One") ∈ lw_tbl := lw_at lw_m7 120 rfl
theorem q1657 : (Jvm.Cond.castable "AdjectiveCoupons$Citizen" "java/lang/Object") ∈ lw_tbl := lw_at lw_m7 140 rfl
theorem in_X7 : ∀ w ∈ wsX70, w ∈ lw_all := lw_in wsX70 [701] (by decide +kernel) (by decide +kernel)
/-! AdjectiveCoupons$Lover -/
set_option maxRecDepth 100000
def RX8 : String := "AdjectiveCoupons$Lover"
def TX8 : u_T := fun k => match k with
  | _ => ("AdjectiveCoupons$One", "wants", "I", true)
def tyX8 : Nat → FieldType := fun k => match k with
  | _ => .int
abbrev wsX80 : List Cond := u_ws RX8 TX8 1
theorem nmX8 : ∀ a, a < 1 → ∀ b, b < 1 → a ≠ b → (TX8 a).2.1 ≠ (TX8 b).2.1 := by decide +kernel
theorem tyX8_ok : ∀ k, k < 1 → parseFieldDescriptor (TX8 k).2.2.1 = some (tyX8 k) := by decide +kernel
abbrev cX8_init : ByteArray := prog_9_method_1_code
def yX8_init : MethodName := ⟨RX8, "<init>", "(I)V"⟩
def dkwX8_init_0 : List UInt8 := [42, 27, 183, 0, 1, 177]
abbrev dktX8_init_0 : List UInt8 := dkwX8_init_0 ++ []
theorem dksX8_init_0 : cX8_init.data.toList.drop 0 = dktX8_init_0 := by decide +kernel
theorem dX8_init_0 : decode cX8_init 0 = .ok (.aload_n 0, 1) := dk_42 (dk_at dksX8_init_0 0 rfl rfl)
theorem dX8_init_1 : decode cX8_init 1 = .ok (.iload_n 1, 1) := dk_27 (dk_at dksX8_init_0 1 rfl rfl)
theorem dX8_init_2 : decode cX8_init 2 = .ok (.invokespecial 1, 3) := dk_183 0 1 (dk_at dksX8_init_0 2 rfl rfl)
theorem dX8_init_5 : decode cX8_init 5 = .ok (.return_, 1) := dk_177 (dk_at dksX8_init_0 5 rfl rfl)
abbrev cX8_kind : ByteArray := prog_9_method_2_code
def yX8_kind : MethodName := ⟨RX8, "kind", "()I"⟩
def dkwX8_kind_0 : List UInt8 := [4, 42, 183, 0, 7, 96, 172]
abbrev dktX8_kind_0 : List UInt8 := dkwX8_kind_0 ++ []
theorem dksX8_kind_0 : cX8_kind.data.toList.drop 0 = dktX8_kind_0 := by decide +kernel
theorem dX8_kind_0 : decode cX8_kind 0 = .ok (.iconst 1, 1) := dk_4 (dk_at dksX8_kind_0 0 rfl rfl)
theorem dX8_kind_1 : decode cX8_kind 1 = .ok (.aload_n 0, 1) := dk_42 (dk_at dksX8_kind_0 1 rfl rfl)
theorem dX8_kind_2 : decode cX8_kind 2 = .ok (.invokespecial 7, 3) := dk_183 0 7 (dk_at dksX8_kind_0 2 rfl rfl)
theorem dX8_kind_5 : decode cX8_kind 5 = .ok (.iadd, 1) := dk_96 (dk_at dksX8_kind_0 5 rfl rfl)
theorem dX8_kind_6 : decode cX8_kind 6 = .ok (.ireturn, 1) := dk_172 (dk_at dksX8_kind_0 6 rfl rfl)
abbrev cX8_hoards : ByteArray := prog_9_method_3_code
def yX8_hoards : MethodName := ⟨RX8, "hoards", "()Z"⟩
def dkwX8_hoards_0 : List UInt8 := [42, 183, 0, 11, 154, 0, 7, 4, 167, 0, 4, 3, 172]
abbrev dktX8_hoards_0 : List UInt8 := dkwX8_hoards_0 ++ []
theorem dksX8_hoards_0 : cX8_hoards.data.toList.drop 0 = dktX8_hoards_0 := by decide +kernel
theorem dX8_hoards_0 : decode cX8_hoards 0 = .ok (.aload_n 0, 1) := dk_42 (dk_at dksX8_hoards_0 0 rfl rfl)
theorem dX8_hoards_1 : decode cX8_hoards 1 = .ok (.invokespecial 11, 3) := dk_183 0 11 (dk_at dksX8_hoards_0 1 rfl rfl)
theorem dX8_hoards_4 : decode cX8_hoards 4 = .ok (.ifCond .ne 7, 3) := dk_154 0 7 (dk_at dksX8_hoards_0 4 rfl rfl)
theorem dX8_hoards_7 : decode cX8_hoards 7 = .ok (.iconst 1, 1) := dk_4 (dk_at dksX8_hoards_0 7 rfl rfl)
theorem dX8_hoards_8 : decode cX8_hoards 8 = .ok (.goto 4, 3) := dk_167 0 4 (dk_at dksX8_hoards_0 8 rfl rfl)
theorem dX8_hoards_11 : decode cX8_hoards 11 = .ok (.iconst 0, 1) := dk_3 (dk_at dksX8_hoards_0 11 rfl rfl)
theorem dX8_hoards_12 : decode cX8_hoards 12 = .ok (.ireturn, 1) := dk_172 (dk_at dksX8_hoards_0 12 rfl rfl)
theorem q103 : (Jvm.Cond.initialized "AdjectiveCoupons$Lover") ∈ lw_all := lw_g (lw_at lw_m1 26 rfl) rfl
theorem q705 : (Jvm.Cond.instantiable "AdjectiveCoupons$Lover" (1 : Nat)) ∈ lw_all := lw_g (lw_at lw_m3 148 rfl) rfl
theorem q707 : (Jvm.Cond.instanceMethod ({ cls := "AdjectiveCoupons$Lover", name := "<init>", desc := "(I)V" } : Jvm.MethodName)) ∈ lw_all := lw_g (lw_at lw_m3 150 rfl) rfl
theorem q708 : (Jvm.Cond.code ({ cls := "AdjectiveCoupons$Lover", name := "<init>", desc := "(I)V" } : Jvm.MethodName) prog_9_method_1_code (2 : Nat) (Option.none : Option Jvm.ClassFile.FieldType)) ∈ lw_all := lw_g (lw_at lw_m3 151 rfl) rfl
theorem q709 : (Jvm.Cond.methodLink "AdjectiveCoupons$Lover" (1 : Nat) ({ cls := "AdjectiveCoupons$Citizen", name := "<init>", desc := "(I)V" } : Jvm.MethodName)) ∈ lw_all := lw_g (lw_at lw_m3 152 rfl) rfl
theorem q710 : (Jvm.Cond.laysFinal "AdjectiveCoupons$Lover" "AdjectiveCoupons$One" "wants" "I") ∈ lw_all := lw_g (lw_at lw_m3 153 rfl) rfl
theorem q711 : (Jvm.Cond.superclass "AdjectiveCoupons$Lover" "AdjectiveCoupons$Citizen") ∈ lw_all := lw_g (lw_at lw_m3 154 rfl) rfl
theorem q799 : (Jvm.Cond.selects "AdjectiveCoupons$Lover" ({ cls := "AdjectiveCoupons$Buyer", name := "kind", desc := "()I" } : Jvm.MethodName) ({ cls := "AdjectiveCoupons$Lover", name := "kind", desc := "()I" } : Jvm.MethodName)) ∈ lw_all := lw_g (lw_at lw_m4 2 rfl) rfl
theorem q800 : (Jvm.Cond.instanceMethod ({ cls := "AdjectiveCoupons$Lover", name := "kind", desc := "()I" } : Jvm.MethodName)) ∈ lw_all := lw_g (lw_at lw_m4 3 rfl) rfl
theorem q801 : (Jvm.Cond.code ({ cls := "AdjectiveCoupons$Lover", name := "kind", desc := "()I" } : Jvm.MethodName) prog_9_method_2_code (1 : Nat) (Option.some Jvm.ClassFile.FieldType.int)) ∈ lw_all := lw_g (lw_at lw_m4 4 rfl) rfl
theorem q802 : (Jvm.Cond.methodLink "AdjectiveCoupons$Lover" (7 : Nat) ({ cls := "AdjectiveCoupons$Citizen", name := "kind", desc := "()I" } : Jvm.MethodName)) ∈ lw_all := lw_g (lw_at lw_m4 5 rfl) rfl
theorem q903 : (Jvm.Cond.castable "AdjectiveCoupons$Lover" "AdjectiveCoupons$Buyer") ∈ lw_tbl := lw_at lw_m4 106 rfl
theorem q904 : (Jvm.Cond.unhidden "AdjectiveCoupons$Lover" "off" "([I[Z)I") ∈ lw_tbl := lw_at lw_m4 107 rfl
theorem q974 : (Jvm.Cond.selects "AdjectiveCoupons$Lover" ({ cls := "AdjectiveCoupons$Buyer", name := "hoards", desc := "()Z" } : Jvm.MethodName) ({ cls := "AdjectiveCoupons$Lover", name := "hoards", desc := "()Z" } : Jvm.MethodName)) ∈ lw_all := lw_g (lw_at lw_m4 177 rfl) rfl
theorem q975 : (Jvm.Cond.instanceMethod ({ cls := "AdjectiveCoupons$Lover", name := "hoards", desc := "()Z" } : Jvm.MethodName)) ∈ lw_all := lw_g (lw_at lw_m4 178 rfl) rfl
theorem q976 : (Jvm.Cond.code ({ cls := "AdjectiveCoupons$Lover", name := "hoards", desc := "()Z" } : Jvm.MethodName) prog_9_method_3_code (1 : Nat) (Option.some Jvm.ClassFile.FieldType.boolean)) ∈ lw_all := lw_g (lw_at lw_m4 179 rfl) rfl
theorem q1639 : (Jvm.Cond.castable "AdjectiveCoupons$Lover" "AdjectiveCoupons$One") ∈ lw_tbl := lw_at lw_m7 122 rfl
theorem q1641 : (Jvm.Cond.castable "AdjectiveCoupons$Lover" "AdjectiveCoupons$Citizen") ∈ lw_tbl := lw_at lw_m7 124 rfl
theorem q1658 : (Jvm.Cond.castable "AdjectiveCoupons$Lover" "java/lang/Object") ∈ lw_tbl := lw_at lw_m7 141 rfl
theorem in_X8 : ∀ w ∈ wsX80, w ∈ lw_all := lw_in wsX80 [710] (by decide +kernel) (by decide +kernel)
/-! AdjectiveCoupons$Critic -/
set_option maxRecDepth 100000
def RX9 : String := "AdjectiveCoupons$Critic"
def TX9 : u_T := fun k => match k with
  | _ => ("AdjectiveCoupons$One", "wants", "I", true)
def tyX9 : Nat → FieldType := fun k => match k with
  | _ => .int
abbrev wsX90 : List Cond := u_ws RX9 TX9 1
theorem nmX9 : ∀ a, a < 1 → ∀ b, b < 1 → a ≠ b → (TX9 a).2.1 ≠ (TX9 b).2.1 := by decide +kernel
theorem tyX9_ok : ∀ k, k < 1 → parseFieldDescriptor (TX9 k).2.2.1 = some (tyX9 k) := by decide +kernel
abbrev cX9_init : ByteArray := prog_5_method_1_code
def yX9_init : MethodName := ⟨RX9, "<init>", "(I)V"⟩
def dkwX9_init_0 : List UInt8 := [42, 27, 183, 0, 1, 177]
abbrev dktX9_init_0 : List UInt8 := dkwX9_init_0 ++ []
theorem dksX9_init_0 : cX9_init.data.toList.drop 0 = dktX9_init_0 := by decide +kernel
theorem dX9_init_0 : decode cX9_init 0 = .ok (.aload_n 0, 1) := dk_42 (dk_at dksX9_init_0 0 rfl rfl)
theorem dX9_init_1 : decode cX9_init 1 = .ok (.iload_n 1, 1) := dk_27 (dk_at dksX9_init_0 1 rfl rfl)
theorem dX9_init_2 : decode cX9_init 2 = .ok (.invokespecial 1, 3) := dk_183 0 1 (dk_at dksX9_init_0 2 rfl rfl)
theorem dX9_init_5 : decode cX9_init 5 = .ok (.return_, 1) := dk_177 (dk_at dksX9_init_0 5 rfl rfl)
abbrev cX9_kind : ByteArray := prog_5_method_2_code
def yX9_kind : MethodName := ⟨RX9, "kind", "()I"⟩
theorem dX9_kind_0 : decode cX9_kind 0 = .ok (.iconst 2, 1) := by decide +kernel
theorem dX9_kind_1 : decode cX9_kind 1 = .ok (.ireturn, 1) := by decide +kernel
abbrev cX9_off : ByteArray := prog_5_method_3_code
def yX9_off : MethodName := ⟨RX9, "off", "([I[Z)I"⟩
def dkwX9_off_1 : List UInt8 := [158, 0, 7, 4, 167, 0, 4, 3, 96, 62, 132, 4, 1, 167, 255, 224, 29, 172]
abbrev dktX9_off_1 : List UInt8 := dkwX9_off_1 ++ []
def dkwX9_off_0 : List UInt8 := [3, 62, 3, 54, 4, 21, 4, 43, 190, 162, 0, 31, 29, 44, 21, 4, 51, 153, 0, 14, 43, 21, 4, 46]
abbrev dktX9_off_0 : List UInt8 := dkwX9_off_0 ++ dktX9_off_1
theorem dksX9_off_0 : cX9_off.data.toList.drop 0 = dktX9_off_0 := by decide +kernel
theorem dksX9_off_1 : cX9_off.data.toList.drop 24 = dktX9_off_1 := dk_seg dksX9_off_0 24 rfl rfl
theorem dX9_off_0 : decode cX9_off 0 = .ok (.iconst 0, 1) := dk_3 (dk_at dksX9_off_0 0 rfl rfl)
theorem dX9_off_1 : decode cX9_off 1 = .ok (.istore_n 3, 1) := dk_62 (dk_at dksX9_off_0 1 rfl rfl)
theorem dX9_off_2 : decode cX9_off 2 = .ok (.iconst 0, 1) := dk_3 (dk_at dksX9_off_0 2 rfl rfl)
theorem dX9_off_3 : decode cX9_off 3 = .ok (.istore 4, 2) := dk_54 4 (dk_at dksX9_off_0 3 rfl rfl)
theorem dX9_off_5 : decode cX9_off 5 = .ok (.iload 4, 2) := dk_21 4 (dk_at dksX9_off_0 5 rfl rfl)
theorem dX9_off_7 : decode cX9_off 7 = .ok (.aload_n 1, 1) := dk_43 (dk_at dksX9_off_0 7 rfl rfl)
theorem dX9_off_8 : decode cX9_off 8 = .ok (.arraylength, 1) := dk_190 (dk_at dksX9_off_0 8 rfl rfl)
theorem dX9_off_9 : decode cX9_off 9 = .ok (.if_icmp .ge 31, 3) := dk_162 0 31 (dk_at dksX9_off_0 9 rfl rfl)
theorem dX9_off_12 : decode cX9_off 12 = .ok (.iload_n 3, 1) := dk_29 (dk_at dksX9_off_0 12 rfl rfl)
theorem dX9_off_13 : decode cX9_off 13 = .ok (.aload_n 2, 1) := dk_44 (dk_at dksX9_off_0 13 rfl rfl)
theorem dX9_off_14 : decode cX9_off 14 = .ok (.iload 4, 2) := dk_21 4 (dk_at dksX9_off_0 14 rfl rfl)
theorem dX9_off_16 : decode cX9_off 16 = .ok (.baload, 1) := dk_51 (dk_at dksX9_off_0 16 rfl rfl)
theorem dX9_off_17 : decode cX9_off 17 = .ok (.ifCond .eq 14, 3) := dk_153 0 14 (dk_at dksX9_off_0 17 rfl rfl)
theorem dX9_off_20 : decode cX9_off 20 = .ok (.aload_n 1, 1) := dk_43 (dk_at dksX9_off_0 20 rfl rfl)
theorem dX9_off_21 : decode cX9_off 21 = .ok (.iload 4, 2) := dk_21 4 (dk_at dksX9_off_0 21 rfl rfl)
theorem dX9_off_23 : decode cX9_off 23 = .ok (.iaload, 1) := dk_46 (dk_at dksX9_off_0 23 rfl rfl)
theorem dX9_off_24 : decode cX9_off 24 = .ok (.ifCond .le 7, 3) := dk_158 0 7 (dk_at dksX9_off_1 0 rfl rfl)
theorem dX9_off_27 : decode cX9_off 27 = .ok (.iconst 1, 1) := dk_4 (dk_at dksX9_off_1 3 rfl rfl)
theorem dX9_off_28 : decode cX9_off 28 = .ok (.goto 4, 3) := dk_167 0 4 (dk_at dksX9_off_1 4 rfl rfl)
theorem dX9_off_31 : decode cX9_off 31 = .ok (.iconst 0, 1) := dk_3 (dk_at dksX9_off_1 7 rfl rfl)
theorem dX9_off_32 : decode cX9_off 32 = .ok (.iadd, 1) := dk_96 (dk_at dksX9_off_1 8 rfl rfl)
theorem dX9_off_33 : decode cX9_off 33 = .ok (.istore_n 3, 1) := dk_62 (dk_at dksX9_off_1 9 rfl rfl)
theorem dX9_off_34 : decode cX9_off 34 = .ok (.iinc 4 1, 3) := dk_132 4 1 (dk_at dksX9_off_1 10 rfl rfl)
theorem dX9_off_37 : decode cX9_off 37 = .ok (.goto (-32), 3) := dk_167 255 224 (dk_at dksX9_off_1 13 rfl rfl)
theorem dX9_off_40 : decode cX9_off 40 = .ok (.iload_n 3, 1) := dk_29 (dk_at dksX9_off_1 16 rfl rfl)
theorem dX9_off_41 : decode cX9_off 41 = .ok (.ireturn, 1) := dk_172 (dk_at dksX9_off_1 17 rfl rfl)
theorem q104 : (Jvm.Cond.initialized "AdjectiveCoupons$Critic") ∈ lw_all := lw_g (lw_at lw_m1 27 rfl) rfl
theorem q713 : (Jvm.Cond.instantiable "AdjectiveCoupons$Critic" (1 : Nat)) ∈ lw_all := lw_g (lw_at lw_m3 156 rfl) rfl
theorem q715 : (Jvm.Cond.instanceMethod ({ cls := "AdjectiveCoupons$Critic", name := "<init>", desc := "(I)V" } : Jvm.MethodName)) ∈ lw_all := lw_g (lw_at lw_m3 158 rfl) rfl
theorem q716 : (Jvm.Cond.code ({ cls := "AdjectiveCoupons$Critic", name := "<init>", desc := "(I)V" } : Jvm.MethodName) prog_5_method_1_code (2 : Nat) (Option.none : Option Jvm.ClassFile.FieldType)) ∈ lw_all := lw_g (lw_at lw_m3 159 rfl) rfl
theorem q717 : (Jvm.Cond.methodLink "AdjectiveCoupons$Critic" (1 : Nat) ({ cls := "AdjectiveCoupons$One", name := "<init>", desc := "(I)V" } : Jvm.MethodName)) ∈ lw_all := lw_g (lw_at lw_m3 160 rfl) rfl
theorem q718 : (Jvm.Cond.laysFinal "AdjectiveCoupons$Critic" "AdjectiveCoupons$One" "wants" "I") ∈ lw_all := lw_g (lw_at lw_m3 161 rfl) rfl
theorem q719 : (Jvm.Cond.superclass "AdjectiveCoupons$Critic" "AdjectiveCoupons$One") ∈ lw_all := lw_g (lw_at lw_m3 162 rfl) rfl
theorem q796 : (Jvm.Cond.selects "AdjectiveCoupons$Critic" ({ cls := "AdjectiveCoupons$Buyer", name := "kind", desc := "()I" } : Jvm.MethodName) ({ cls := "AdjectiveCoupons$Critic", name := "kind", desc := "()I" } : Jvm.MethodName)) ∈ lw_all := lw_g (lw_at lw_m3 239 rfl) rfl
theorem q797 : (Jvm.Cond.instanceMethod ({ cls := "AdjectiveCoupons$Critic", name := "kind", desc := "()I" } : Jvm.MethodName)) ∈ lw_all := lw_g (lw_at lw_m4 0 rfl) rfl
theorem q798 : (Jvm.Cond.code ({ cls := "AdjectiveCoupons$Critic", name := "kind", desc := "()I" } : Jvm.MethodName) prog_5_method_2_code (1 : Nat) (Option.some Jvm.ClassFile.FieldType.int)) ∈ lw_all := lw_g (lw_at lw_m4 1 rfl) rfl
theorem q897 : (Jvm.Cond.castable "AdjectiveCoupons$Critic" "AdjectiveCoupons$Buyer") ∈ lw_tbl := lw_at lw_m4 100 rfl
theorem q898 : (Jvm.Cond.selects "AdjectiveCoupons$Critic" ({ cls := "AdjectiveCoupons$Buyer", name := "off", desc := "([I[Z)I" } : Jvm.MethodName) ({ cls := "AdjectiveCoupons$Critic", name := "off", desc := "([I[Z)I" } : Jvm.MethodName)) ∈ lw_all := lw_g (lw_at lw_m4 101 rfl) rfl
theorem q899 : (Jvm.Cond.unhidden "AdjectiveCoupons$Critic" "off" "([I[Z)I") ∈ lw_tbl := lw_at lw_m4 102 rfl
theorem q900 : (Jvm.Cond.instanceMethod ({ cls := "AdjectiveCoupons$Critic", name := "off", desc := "([I[Z)I" } : Jvm.MethodName)) ∈ lw_all := lw_g (lw_at lw_m4 103 rfl) rfl
theorem q901 : (Jvm.Cond.publicMethod ({ cls := "AdjectiveCoupons$Critic", name := "off", desc := "([I[Z)I" } : Jvm.MethodName)) ∈ lw_tbl := lw_at lw_m4 104 rfl
theorem q902 : (Jvm.Cond.code ({ cls := "AdjectiveCoupons$Critic", name := "off", desc := "([I[Z)I" } : Jvm.MethodName) prog_5_method_3_code (5 : Nat) (Option.some Jvm.ClassFile.FieldType.int)) ∈ lw_all := lw_g (lw_at lw_m4 105 rfl) rfl
theorem q973 : (Jvm.Cond.unhidden "AdjectiveCoupons$Critic" "hoards" "()Z") ∈ lw_tbl := lw_at lw_m4 176 rfl
theorem q1634 : (Jvm.Cond.sameMethod "AdjectiveCoupons$Critic" "AdjectiveCoupons$Critic" "kind" "()I") ∈ lw_all := lw_g (lw_at lw_m7 117 rfl) rfl
theorem q1636 : (Jvm.Cond.sameMethod "AdjectiveCoupons$Critic" "AdjectiveCoupons$Critic" "off" "([I[Z)I") ∈ lw_all := lw_g (lw_at lw_m7 119 rfl) rfl
theorem q1638 : (Jvm.Cond.castable "AdjectiveCoupons$Critic" "AdjectiveCoupons$One") ∈ lw_tbl := lw_at lw_m7 121 rfl
theorem q1659 : (Jvm.Cond.castable "AdjectiveCoupons$Critic" "java/lang/Object") ∈ lw_tbl := lw_at lw_m7 142 rfl
theorem in_X9 : ∀ w ∈ wsX90, w ∈ lw_all := lw_in wsX90 [718] (by decide +kernel) (by decide +kernel)
