-- ===== PART A: goes FIRST, ahead of the names: the tables' words, and 'selects' of the private methods out of them =====
/-- a private method of a class that the tables say can be made, by its rows of tables_1 -/
def lw_okq (q : MethodName × Nat) : Prop := (q.1.cls ≠ "java/lang/invoke/MethodHandle" ∧ q.1.cls ≠ "java/lang/invoke/VarHandle") ∧ Cond.instantiable q.1.cls q.2 ∈ tables_1 ∧ Cond.privateMethod q.1 ∈ tables_1 ∧ Cond.instanceMethod q.1 ∈ tables_1
set_option maxRecDepth 100000
theorem lw_t1 {w : Cond} (h : w ∈ tables_1_1) : w ∈ tables_1 := List.mem_append_left _ h
theorem lw_t2 {w : Cond} (h : w ∈ tables_1_2) : w ∈ tables_1 := List.mem_append_right _ (List.mem_append_left _ h)
theorem lw_t3 {w : Cond} (h : w ∈ tables_1_3) : w ∈ tables_1 := List.mem_append_right _ (List.mem_append_right _ (List.mem_append_left _ h))
theorem lw_t4 {w : Cond} (h : w ∈ tables_1_4) : w ∈ tables_1 := List.mem_append_right _ (List.mem_append_right _ (List.mem_append_right _ (List.mem_append_left _ h)))
theorem lw_t5 {w : Cond} (h : w ∈ tables_1_5) : w ∈ tables_1 := List.mem_append_right _ (List.mem_append_right _ (List.mem_append_right _ (List.mem_append_right _ (List.mem_append_left _ h))))
theorem lw_t6 {w : Cond} (h : w ∈ tables_1_6) : w ∈ tables_1 := List.mem_append_right _ (List.mem_append_right _ (List.mem_append_right _ (List.mem_append_right _ (List.mem_append_right _ (List.mem_append_left _ h)))))
theorem lw_t7 {w : Cond} (h : w ∈ tables_1_7) : w ∈ tables_1 := List.mem_append_right _ (List.mem_append_right _ (List.mem_append_right _ (List.mem_append_right _ (List.mem_append_right _ (List.mem_append_right _ h)))))
theorem lw_p0 : lw_okq (⟨"AdjectiveCoupons", "begin", "()V"⟩, 24) := ⟨⟨by decide +kernel, by decide +kernel⟩, lw_t1 (List.mem_of_getElem? (i := 33) rfl), lw_t1 (List.mem_of_getElem? (i := 83) rfl), lw_t1 (List.mem_of_getElem? (i := 84) rfl)⟩
theorem lw_p1 : lw_okq (⟨"AdjectiveCoupons$Reader", "clause", "()[I"⟩, 9) := ⟨⟨by decide +kernel, by decide +kernel⟩, lw_t1 (List.mem_of_getElem? (i := 187) rfl), lw_t1 (List.mem_of_getElem? (i := 229) rfl), lw_t1 (List.mem_of_getElem? (i := 230) rfl)⟩
theorem lw_p2 : lw_okq (⟨"AdjectiveCoupons$Reader", "take", "()V"⟩, 9) := ⟨⟨by decide +kernel, by decide +kernel⟩, lw_t1 (List.mem_of_getElem? (i := 187) rfl), lw_t1 (List.mem_of_getElem? (i := 233) rfl), lw_t1 (List.mem_of_getElem? (i := 234) rfl)⟩
theorem lw_p3 : lw_okq (⟨"AdjectiveCoupons$Reader", "kindOf", "(I)I"⟩, 9) := ⟨⟨by decide +kernel, by decide +kernel⟩, lw_t1 (List.mem_of_getElem? (i := 187) rfl), lw_t1 (List.mem_of_getElem? (i := 237) rfl), lw_t1 (List.mem_of_getElem? (i := 238) rfl)⟩
theorem lw_p4 : lw_okq (⟨"AdjectiveCoupons$Reader", "want", "(Z)V"⟩, 9) := ⟨⟨by decide +kernel, by decide +kernel⟩, lw_t1 (List.mem_of_getElem? (i := 187) rfl), lw_t2 (List.mem_of_getElem? (i := 203) rfl), lw_t2 (List.mem_of_getElem? (i := 204) rfl)⟩
theorem lw_p5 : lw_okq (⟨"java/lang/NullPointerException", "getExtendedNPEMessage", "()Ljava/lang/String;"⟩, 8) := ⟨⟨by decide +kernel, by decide +kernel⟩, lw_t3 (List.mem_of_getElem? (i := 4) rfl), lw_t3 (List.mem_of_getElem? (i := 2) rfl), lw_t3 (List.mem_of_getElem? (i := 3) rfl)⟩
theorem lw_p6 : lw_okq (⟨"java/lang/Throwable", "fillInStackTrace", "(I)Ljava/lang/Throwable;"⟩, 6) := ⟨⟨by decide +kernel, by decide +kernel⟩, lw_t3 (List.mem_of_getElem? (i := 16) rfl), lw_t3 (List.mem_of_getElem? (i := 14) rfl), lw_t3 (List.mem_of_getElem? (i := 15) rfl)⟩
theorem lw_p7 : lw_okq (⟨"AdjectiveCoupons$Reader", "number", "(I)I"⟩, 9) := ⟨⟨by decide +kernel, by decide +kernel⟩, lw_t1 (List.mem_of_getElem? (i := 187) rfl), lw_t3 (List.mem_of_getElem? (i := 45) rfl), lw_t3 (List.mem_of_getElem? (i := 46) rfl)⟩
theorem lw_p8 : lw_okq (⟨"AdjectiveCoupons", "tell", "([I)V"⟩, 24) := ⟨⟨by decide +kernel, by decide +kernel⟩, lw_t1 (List.mem_of_getElem? (i := 33) rfl), lw_t3 (List.mem_of_getElem? (i := 110) rfl), lw_t3 (List.mem_of_getElem? (i := 111) rfl)⟩
theorem lw_p9 : lw_okq (⟨"AdjectiveCoupons", "isWord", "(I)Z"⟩, 24) := ⟨⟨by decide +kernel, by decide +kernel⟩, lw_t1 (List.mem_of_getElem? (i := 33) rfl), lw_t3 (List.mem_of_getElem? (i := 187) rfl), lw_t3 (List.mem_of_getElem? (i := 188) rfl)⟩
theorem lw_p10 : lw_okq (⟨"AdjectiveCoupons", "kindOf", "(II)LAdjectiveCoupons$Kind;"⟩, 24) := ⟨⟨by decide +kernel, by decide +kernel⟩, lw_t1 (List.mem_of_getElem? (i := 33) rfl), lw_t3 (List.mem_of_getElem? (i := 191) rfl), lw_t3 (List.mem_of_getElem? (i := 192) rfl)⟩
theorem lw_p11 : lw_okq (⟨"AdjectiveCoupons", "word", "(I)LAdjectiveCoupons$Word;"⟩, 24) := ⟨⟨by decide +kernel, by decide +kernel⟩, lw_t1 (List.mem_of_getElem? (i := 33) rfl), lw_t3 (List.mem_of_getElem? (i := 195) rfl), lw_t3 (List.mem_of_getElem? (i := 196) rfl)⟩
theorem lw_p12 : lw_okq (⟨"AdjectiveCoupons", "isOne", "(I)Z"⟩, 24) := ⟨⟨by decide +kernel, by decide +kernel⟩, lw_t1 (List.mem_of_getElem? (i := 33) rfl), lw_t3 (List.mem_of_getElem? (i := 226) rfl), lw_t3 (List.mem_of_getElem? (i := 227) rfl)⟩
theorem lw_p13 : lw_okq (⟨"AdjectiveCoupons", "one", "(I)LAdjectiveCoupons$One;"⟩, 24) := ⟨⟨by decide +kernel, by decide +kernel⟩, lw_t1 (List.mem_of_getElem? (i := 33) rfl), lw_t3 (List.mem_of_getElem? (i := 230) rfl), lw_t3 (List.mem_of_getElem? (i := 231) rfl)⟩
theorem lw_p14 : lw_okq (⟨"AdjectiveCoupons", "costOf", "(LAdjectiveCoupons$Buyer;[III)I"⟩, 24) := ⟨⟨by decide +kernel, by decide +kernel⟩, lw_t1 (List.mem_of_getElem? (i := 33) rfl), lw_t4 (List.mem_of_getElem? (i := 47) rfl), lw_t4 (List.mem_of_getElem? (i := 48) rfl)⟩
theorem lw_p15 : lw_okq (⟨"AdjectiveCoupons", "costAt", "([IIII)I"⟩, 24) := ⟨⟨by decide +kernel, by decide +kernel⟩, lw_t1 (List.mem_of_getElem? (i := 33) rfl), lw_t4 (List.mem_of_getElem? (i := 54) rfl), lw_t4 (List.mem_of_getElem? (i := 55) rfl)⟩
def lw_privs_1 : List (MethodName × Nat) := [(⟨"AdjectiveCoupons", "begin", "()V"⟩, 24), (⟨"AdjectiveCoupons$Reader", "clause", "()[I"⟩, 9), (⟨"AdjectiveCoupons$Reader", "take", "()V"⟩, 9), (⟨"AdjectiveCoupons$Reader", "kindOf", "(I)I"⟩, 9), (⟨"AdjectiveCoupons$Reader", "want", "(Z)V"⟩, 9), (⟨"java/lang/NullPointerException", "getExtendedNPEMessage", "()Ljava/lang/String;"⟩, 8), (⟨"java/lang/Throwable", "fillInStackTrace", "(I)Ljava/lang/Throwable;"⟩, 6), (⟨"AdjectiveCoupons$Reader", "number", "(I)I"⟩, 9), (⟨"AdjectiveCoupons", "tell", "([I)V"⟩, 24), (⟨"AdjectiveCoupons", "isWord", "(I)Z"⟩, 24), (⟨"AdjectiveCoupons", "kindOf", "(II)LAdjectiveCoupons$Kind;"⟩, 24), (⟨"AdjectiveCoupons", "word", "(I)LAdjectiveCoupons$Word;"⟩, 24), (⟨"AdjectiveCoupons", "isOne", "(I)Z"⟩, 24), (⟨"AdjectiveCoupons", "one", "(I)LAdjectiveCoupons$One;"⟩, 24), (⟨"AdjectiveCoupons", "costOf", "(LAdjectiveCoupons$Buyer;[III)I"⟩, 24), (⟨"AdjectiveCoupons", "costAt", "([IIII)I"⟩, 24)]
theorem lw_r1 : ∀ q ∈ lw_privs_1, lw_okq q := List.forall_mem_cons.mpr ⟨lw_p0, List.forall_mem_cons.mpr ⟨lw_p1, List.forall_mem_cons.mpr ⟨lw_p2, List.forall_mem_cons.mpr ⟨lw_p3, List.forall_mem_cons.mpr ⟨lw_p4, List.forall_mem_cons.mpr ⟨lw_p5, List.forall_mem_cons.mpr ⟨lw_p6, List.forall_mem_cons.mpr ⟨lw_p7, List.forall_mem_cons.mpr ⟨lw_p8, List.forall_mem_cons.mpr ⟨lw_p9, List.forall_mem_cons.mpr ⟨lw_p10, List.forall_mem_cons.mpr ⟨lw_p11, List.forall_mem_cons.mpr ⟨lw_p12, List.forall_mem_cons.mpr ⟨lw_p13, List.forall_mem_cons.mpr ⟨lw_p14, List.forall_mem_cons.mpr ⟨lw_p15, fun _ h => absurd h List.not_mem_nil⟩⟩⟩⟩⟩⟩⟩⟩⟩⟩⟩⟩⟩⟩⟩⟩
theorem lw_p16 : lw_okq (⟨"AdjectiveCoupons", "isAdjective", "([III)Z"⟩, 24) := ⟨⟨by decide +kernel, by decide +kernel⟩, lw_t1 (List.mem_of_getElem? (i := 33) rfl), lw_t4 (List.mem_of_getElem? (i := 77) rfl), lw_t4 (List.mem_of_getElem? (i := 78) rfl)⟩
theorem lw_p17 : lw_okq (⟨"AdjectiveCoupons", "isGood", "([II)Z"⟩, 24) := ⟨⟨by decide +kernel, by decide +kernel⟩, lw_t1 (List.mem_of_getElem? (i := 33) rfl), lw_t4 (List.mem_of_getElem? (i := 137) rfl), lw_t4 (List.mem_of_getElem? (i := 138) rfl)⟩
theorem lw_p18 : lw_okq (⟨"AdjectiveCoupons", "isNoun", "(I)Z"⟩, 24) := ⟨⟨by decide +kernel, by decide +kernel⟩, lw_t1 (List.mem_of_getElem? (i := 33) rfl), lw_t4 (List.mem_of_getElem? (i := 141) rfl), lw_t4 (List.mem_of_getElem? (i := 142) rfl)⟩
theorem lw_p19 : lw_okq (⟨"AdjectiveCoupons", "holesIn", "()I"⟩, 24) := ⟨⟨by decide +kernel, by decide +kernel⟩, lw_t1 (List.mem_of_getElem? (i := 33) rfl), lw_t4 (List.mem_of_getElem? (i := 149) rfl), lw_t4 (List.mem_of_getElem? (i := 150) rfl)⟩
theorem lw_p20 : lw_okq (⟨"AdjectiveCoupons", "note", "()V"⟩, 24) := ⟨⟨by decide +kernel, by decide +kernel⟩, lw_t1 (List.mem_of_getElem? (i := 33) rfl), lw_t4 (List.mem_of_getElem? (i := 153) rfl), lw_t4 (List.mem_of_getElem? (i := 154) rfl)⟩
theorem lw_p21 : lw_okq (⟨"AdjectiveCoupons", "worthOf", "([II)I"⟩, 24) := ⟨⟨by decide +kernel, by decide +kernel⟩, lw_t1 (List.mem_of_getElem? (i := 33) rfl), lw_t4 (List.mem_of_getElem? (i := 163) rfl), lw_t4 (List.mem_of_getElem? (i := 164) rfl)⟩
theorem lw_p22 : lw_okq (⟨"AdjectiveCoupons", "behind", "(II)I"⟩, 24) := ⟨⟨by decide +kernel, by decide +kernel⟩, lw_t1 (List.mem_of_getElem? (i := 33) rfl), lw_t4 (List.mem_of_getElem? (i := 171) rfl), lw_t4 (List.mem_of_getElem? (i := 172) rfl)⟩
theorem lw_p23 : lw_okq (⟨"AdjectiveCoupons", "areTwo", "(II)Z"⟩, 24) := ⟨⟨by decide +kernel, by decide +kernel⟩, lw_t1 (List.mem_of_getElem? (i := 33) rfl), lw_t4 (List.mem_of_getElem? (i := 190) rfl), lw_t4 (List.mem_of_getElem? (i := 191) rfl)⟩
theorem lw_p24 : lw_okq (⟨"AdjectiveCoupons", "isOrdered", "()Z"⟩, 24) := ⟨⟨by decide +kernel, by decide +kernel⟩, lw_t1 (List.mem_of_getElem? (i := 33) rfl), lw_t5 (List.mem_of_getElem? (i := 5) rfl), lw_t5 (List.mem_of_getElem? (i := 6) rfl)⟩
theorem lw_p25 : lw_okq (⟨"AdjectiveCoupons", "layOrders", "(II)V"⟩, 24) := ⟨⟨by decide +kernel, by decide +kernel⟩, lw_t1 (List.mem_of_getElem? (i := 33) rfl), lw_t5 (List.mem_of_getElem? (i := 9) rfl), lw_t5 (List.mem_of_getElem? (i := 10) rfl)⟩
theorem lw_p26 : lw_okq (⟨"AdjectiveCoupons", "without", "(I)I"⟩, 24) := ⟨⟨by decide +kernel, by decide +kernel⟩, lw_t1 (List.mem_of_getElem? (i := 33) rfl), lw_t5 (List.mem_of_getElem? (i := 30) rfl), lw_t5 (List.mem_of_getElem? (i := 31) rfl)⟩
theorem lw_p27 : lw_okq (⟨"AdjectiveCoupons", "fill", "(I)V"⟩, 24) := ⟨⟨by decide +kernel, by decide +kernel⟩, lw_t1 (List.mem_of_getElem? (i := 33) rfl), lw_t5 (List.mem_of_getElem? (i := 38) rfl), lw_t5 (List.mem_of_getElem? (i := 39) rfl)⟩
theorem lw_p28 : lw_okq (⟨"AdjectiveCoupons", "worthOfAll", "(I)I"⟩, 24) := ⟨⟨by decide +kernel, by decide +kernel⟩, lw_t1 (List.mem_of_getElem? (i := 33) rfl), lw_t5 (List.mem_of_getElem? (i := 61) rfl), lw_t5 (List.mem_of_getElem? (i := 62) rfl)⟩
theorem lw_p29 : lw_okq (⟨"AdjectiveCoupons", "canPay", "(II)Z"⟩, 24) := ⟨⟨by decide +kernel, by decide +kernel⟩, lw_t1 (List.mem_of_getElem? (i := 33) rfl), lw_t5 (List.mem_of_getElem? (i := 69) rfl), lw_t5 (List.mem_of_getElem? (i := 70) rfl)⟩
theorem lw_p30 : lw_okq (⟨"AdjectiveCoupons", "likenessOf", "(I)I"⟩, 24) := ⟨⟨by decide +kernel, by decide +kernel⟩, lw_t1 (List.mem_of_getElem? (i := 33) rfl), lw_t5 (List.mem_of_getElem? (i := 77) rfl), lw_t5 (List.mem_of_getElem? (i := 78) rfl)⟩
theorem lw_p31 : lw_okq (⟨"AdjectiveCoupons", "isLeft", "(II)Z"⟩, 24) := ⟨⟨by decide +kernel, by decide +kernel⟩, lw_t1 (List.mem_of_getElem? (i := 33) rfl), lw_t5 (List.mem_of_getElem? (i := 90) rfl), lw_t5 (List.mem_of_getElem? (i := 91) rfl)⟩
def lw_privs_2 : List (MethodName × Nat) := [(⟨"AdjectiveCoupons", "isAdjective", "([III)Z"⟩, 24), (⟨"AdjectiveCoupons", "isGood", "([II)Z"⟩, 24), (⟨"AdjectiveCoupons", "isNoun", "(I)Z"⟩, 24), (⟨"AdjectiveCoupons", "holesIn", "()I"⟩, 24), (⟨"AdjectiveCoupons", "note", "()V"⟩, 24), (⟨"AdjectiveCoupons", "worthOf", "([II)I"⟩, 24), (⟨"AdjectiveCoupons", "behind", "(II)I"⟩, 24), (⟨"AdjectiveCoupons", "areTwo", "(II)Z"⟩, 24), (⟨"AdjectiveCoupons", "isOrdered", "()Z"⟩, 24), (⟨"AdjectiveCoupons", "layOrders", "(II)V"⟩, 24), (⟨"AdjectiveCoupons", "without", "(I)I"⟩, 24), (⟨"AdjectiveCoupons", "fill", "(I)V"⟩, 24), (⟨"AdjectiveCoupons", "worthOfAll", "(I)I"⟩, 24), (⟨"AdjectiveCoupons", "canPay", "(II)Z"⟩, 24), (⟨"AdjectiveCoupons", "likenessOf", "(I)I"⟩, 24), (⟨"AdjectiveCoupons", "isLeft", "(II)Z"⟩, 24)]
theorem lw_r2 : ∀ q ∈ lw_privs_2, lw_okq q := List.forall_mem_cons.mpr ⟨lw_p16, List.forall_mem_cons.mpr ⟨lw_p17, List.forall_mem_cons.mpr ⟨lw_p18, List.forall_mem_cons.mpr ⟨lw_p19, List.forall_mem_cons.mpr ⟨lw_p20, List.forall_mem_cons.mpr ⟨lw_p21, List.forall_mem_cons.mpr ⟨lw_p22, List.forall_mem_cons.mpr ⟨lw_p23, List.forall_mem_cons.mpr ⟨lw_p24, List.forall_mem_cons.mpr ⟨lw_p25, List.forall_mem_cons.mpr ⟨lw_p26, List.forall_mem_cons.mpr ⟨lw_p27, List.forall_mem_cons.mpr ⟨lw_p28, List.forall_mem_cons.mpr ⟨lw_p29, List.forall_mem_cons.mpr ⟨lw_p30, List.forall_mem_cons.mpr ⟨lw_p31, fun _ h => absurd h List.not_mem_nil⟩⟩⟩⟩⟩⟩⟩⟩⟩⟩⟩⟩⟩⟩⟩⟩
theorem lw_p32 : lw_okq (⟨"AdjectiveCoupons", "partsOf", "(I)I"⟩, 24) := ⟨⟨by decide +kernel, by decide +kernel⟩, lw_t1 (List.mem_of_getElem? (i := 33) rfl), lw_t5 (List.mem_of_getElem? (i := 106) rfl), lw_t5 (List.mem_of_getElem? (i := 107) rfl)⟩
theorem lw_p33 : lw_okq (⟨"AdjectiveCouponsModel", "token", "()V"⟩, 35) := ⟨⟨by decide +kernel, by decide +kernel⟩, lw_t5 (List.mem_of_getElem? (i := 114) rfl), lw_t6 (List.mem_of_getElem? (i := 2) rfl), lw_t6 (List.mem_of_getElem? (i := 3) rfl)⟩
theorem lw_p34 : lw_okq (⟨"AdjectiveCouponsModel", "readsClause", "()Z"⟩, 35) := ⟨⟨by decide +kernel, by decide +kernel⟩, lw_t5 (List.mem_of_getElem? (i := 114) rfl), lw_t6 (List.mem_of_getElem? (i := 9) rfl), lw_t6 (List.mem_of_getElem? (i := 10) rfl)⟩
theorem lw_p35 : lw_okq (⟨"AdjectiveCouponsModel", "wordOf", "()I"⟩, 35) := ⟨⟨by decide +kernel, by decide +kernel⟩, lw_t5 (List.mem_of_getElem? (i := 114) rfl), lw_t6 (List.mem_of_getElem? (i := 13) rfl), lw_t6 (List.mem_of_getElem? (i := 14) rfl)⟩
theorem lw_p36 : lw_okq (⟨"AdjectiveCouponsModel", "kindWord", "()I"⟩, 35) := ⟨⟨by decide +kernel, by decide +kernel⟩, lw_t5 (List.mem_of_getElem? (i := 114) rfl), lw_t6 (List.mem_of_getElem? (i := 17) rfl), lw_t6 (List.mem_of_getElem? (i := 18) rfl)⟩
theorem lw_p37 : lw_okq (⟨"AdjectiveCouponsModel", "isWord", "(III)Z"⟩, 35) := ⟨⟨by decide +kernel, by decide +kernel⟩, lw_t5 (List.mem_of_getElem? (i := 114) rfl), lw_t6 (List.mem_of_getElem? (i := 22) rfl), lw_t6 (List.mem_of_getElem? (i := 23) rfl)⟩
theorem lw_p38 : lw_okq (⟨"AdjectiveCouponsModel", "folkWord", "()I"⟩, 35) := ⟨⟨by decide +kernel, by decide +kernel⟩, lw_t5 (List.mem_of_getElem? (i := 114) rfl), lw_t6 (List.mem_of_getElem? (i := 30) rfl), lw_t6 (List.mem_of_getElem? (i := 31) rfl)⟩
theorem lw_p39 : lw_okq (⟨"AdjectiveCouponsModel", "readsRest", "(I)Z"⟩, 35) := ⟨⟨by decide +kernel, by decide +kernel⟩, lw_t5 (List.mem_of_getElem? (i := 114) rfl), lw_t6 (List.mem_of_getElem? (i := 54) rfl), lw_t6 (List.mem_of_getElem? (i := 55) rfl)⟩
theorem lw_p40 : lw_okq (⟨"AdjectiveCouponsModel", "reads", "(III)Z"⟩, 35) := ⟨⟨by decide +kernel, by decide +kernel⟩, lw_t5 (List.mem_of_getElem? (i := 114) rfl), lw_t6 (List.mem_of_getElem? (i := 58) rfl), lw_t6 (List.mem_of_getElem? (i := 59) rfl)⟩
theorem lw_p41 : lw_okq (⟨"AdjectiveCouponsModel", "tell", "(I)V"⟩, 35) := ⟨⟨by decide +kernel, by decide +kernel⟩, lw_t5 (List.mem_of_getElem? (i := 114) rfl), lw_t6 (List.mem_of_getElem? (i := 67) rfl), lw_t6 (List.mem_of_getElem? (i := 68) rfl)⟩
theorem lw_p42 : lw_okq (⟨"AdjectiveCouponsModel", "addWord", "(II)V"⟩, 35) := ⟨⟨by decide +kernel, by decide +kernel⟩, lw_t5 (List.mem_of_getElem? (i := 114) rfl), lw_t6 (List.mem_of_getElem? (i := 71) rfl), lw_t6 (List.mem_of_getElem? (i := 72) rfl)⟩
theorem lw_p43 : lw_okq (⟨"AdjectiveCouponsModel", "addOne", "(II)V"⟩, 35) := ⟨⟨by decide +kernel, by decide +kernel⟩, lw_t5 (List.mem_of_getElem? (i := 114) rfl), lw_t6 (List.mem_of_getElem? (i := 75) rfl), lw_t6 (List.mem_of_getElem? (i := 76) rfl)⟩
theorem lw_p44 : lw_okq (⟨"AdjectiveCouponsModel", "addChange", "(I)V"⟩, 35) := ⟨⟨by decide +kernel, by decide +kernel⟩, lw_t5 (List.mem_of_getElem? (i := 114) rfl), lw_t6 (List.mem_of_getElem? (i := 79) rfl), lw_t6 (List.mem_of_getElem? (i := 80) rfl)⟩
theorem lw_p45 : lw_okq (⟨"AdjectiveCouponsModel", "clear", "()V"⟩, 35) := ⟨⟨by decide +kernel, by decide +kernel⟩, lw_t5 (List.mem_of_getElem? (i := 114) rfl), lw_t6 (List.mem_of_getElem? (i := 83) rfl), lw_t6 (List.mem_of_getElem? (i := 84) rfl)⟩
theorem lw_p46 : lw_okq (⟨"AdjectiveCouponsModel", "isWordThere", "(I)Z"⟩, 35) := ⟨⟨by decide +kernel, by decide +kernel⟩, lw_t5 (List.mem_of_getElem? (i := 114) rfl), lw_t6 (List.mem_of_getElem? (i := 91) rfl), lw_t6 (List.mem_of_getElem? (i := 92) rfl)⟩
theorem lw_p47 : lw_okq (⟨"AdjectiveCouponsModel", "kindIn", "(II)I"⟩, 35) := ⟨⟨by decide +kernel, by decide +kernel⟩, lw_t5 (List.mem_of_getElem? (i := 114) rfl), lw_t6 (List.mem_of_getElem? (i := 95) rfl), lw_t6 (List.mem_of_getElem? (i := 96) rfl)⟩
def lw_privs_3 : List (MethodName × Nat) := [(⟨"AdjectiveCoupons", "partsOf", "(I)I"⟩, 24), (⟨"AdjectiveCouponsModel", "token", "()V"⟩, 35), (⟨"AdjectiveCouponsModel", "readsClause", "()Z"⟩, 35), (⟨"AdjectiveCouponsModel", "wordOf", "()I"⟩, 35), (⟨"AdjectiveCouponsModel", "kindWord", "()I"⟩, 35), (⟨"AdjectiveCouponsModel", "isWord", "(III)Z"⟩, 35), (⟨"AdjectiveCouponsModel", "folkWord", "()I"⟩, 35), (⟨"AdjectiveCouponsModel", "readsRest", "(I)Z"⟩, 35), (⟨"AdjectiveCouponsModel", "reads", "(III)Z"⟩, 35), (⟨"AdjectiveCouponsModel", "tell", "(I)V"⟩, 35), (⟨"AdjectiveCouponsModel", "addWord", "(II)V"⟩, 35), (⟨"AdjectiveCouponsModel", "addOne", "(II)V"⟩, 35), (⟨"AdjectiveCouponsModel", "addChange", "(I)V"⟩, 35), (⟨"AdjectiveCouponsModel", "clear", "()V"⟩, 35), (⟨"AdjectiveCouponsModel", "isWordThere", "(I)Z"⟩, 35), (⟨"AdjectiveCouponsModel", "kindIn", "(II)I"⟩, 35)]
theorem lw_r3 : ∀ q ∈ lw_privs_3, lw_okq q := List.forall_mem_cons.mpr ⟨lw_p32, List.forall_mem_cons.mpr ⟨lw_p33, List.forall_mem_cons.mpr ⟨lw_p34, List.forall_mem_cons.mpr ⟨lw_p35, List.forall_mem_cons.mpr ⟨lw_p36, List.forall_mem_cons.mpr ⟨lw_p37, List.forall_mem_cons.mpr ⟨lw_p38, List.forall_mem_cons.mpr ⟨lw_p39, List.forall_mem_cons.mpr ⟨lw_p40, List.forall_mem_cons.mpr ⟨lw_p41, List.forall_mem_cons.mpr ⟨lw_p42, List.forall_mem_cons.mpr ⟨lw_p43, List.forall_mem_cons.mpr ⟨lw_p44, List.forall_mem_cons.mpr ⟨lw_p45, List.forall_mem_cons.mpr ⟨lw_p46, List.forall_mem_cons.mpr ⟨lw_p47, fun _ h => absurd h List.not_mem_nil⟩⟩⟩⟩⟩⟩⟩⟩⟩⟩⟩⟩⟩⟩⟩⟩
theorem lw_p48 : lw_okq (⟨"AdjectiveCouponsModel", "isOne", "(I)Z"⟩, 35) := ⟨⟨by decide +kernel, by decide +kernel⟩, lw_t5 (List.mem_of_getElem? (i := 114) rfl), lw_t6 (List.mem_of_getElem? (i := 103) rfl), lw_t6 (List.mem_of_getElem? (i := 104) rfl)⟩
theorem lw_p49 : lw_okq (⟨"AdjectiveCouponsModel", "saidBy", "(I)I"⟩, 35) := ⟨⟨by decide +kernel, by decide +kernel⟩, lw_t5 (List.mem_of_getElem? (i := 114) rfl), lw_t6 (List.mem_of_getElem? (i := 107) rfl), lw_t6 (List.mem_of_getElem? (i := 108) rfl)⟩
theorem lw_p50 : lw_okq (⟨"AdjectiveCouponsModel", "layLine", "()V"⟩, 35) := ⟨⟨by decide +kernel, by decide +kernel⟩, lw_t5 (List.mem_of_getElem? (i := 114) rfl), lw_t6 (List.mem_of_getElem? (i := 116) rfl), lw_t6 (List.mem_of_getElem? (i := 117) rfl)⟩
theorem lw_p51 : lw_okq (⟨"AdjectiveCouponsModel", "costTo", "(II)I"⟩, 35) := ⟨⟨by decide +kernel, by decide +kernel⟩, lw_t5 (List.mem_of_getElem? (i := 114) rfl), lw_t6 (List.mem_of_getElem? (i := 120) rfl), lw_t6 (List.mem_of_getElem? (i := 121) rfl)⟩
theorem lw_p52 : lw_okq (⟨"AdjectiveCouponsModel", "layKinds", "(I)V"⟩, 35) := ⟨⟨by decide +kernel, by decide +kernel⟩, lw_t5 (List.mem_of_getElem? (i := 114) rfl), lw_t6 (List.mem_of_getElem? (i := 124) rfl), lw_t6 (List.mem_of_getElem? (i := 125) rfl)⟩
theorem lw_p53 : lw_okq (⟨"AdjectiveCouponsModel", "costAt", "(I)I"⟩, 35) := ⟨⟨by decide +kernel, by decide +kernel⟩, lw_t5 (List.mem_of_getElem? (i := 114) rfl), lw_t6 (List.mem_of_getElem? (i := 128) rfl), lw_t6 (List.mem_of_getElem? (i := 129) rfl)⟩
theorem lw_p54 : lw_okq (⟨"AdjectiveCouponsModel", "isAdjective", "(I)Z"⟩, 35) := ⟨⟨by decide +kernel, by decide +kernel⟩, lw_t5 (List.mem_of_getElem? (i := 114) rfl), lw_t6 (List.mem_of_getElem? (i := 135) rfl), lw_t6 (List.mem_of_getElem? (i := 136) rfl)⟩
theorem lw_p55 : lw_okq (⟨"AdjectiveCouponsModel", "wasAhead", "(I)Z"⟩, 35) := ⟨⟨by decide +kernel, by decide +kernel⟩, lw_t5 (List.mem_of_getElem? (i := 114) rfl), lw_t6 (List.mem_of_getElem? (i := 140) rfl), lw_t6 (List.mem_of_getElem? (i := 141) rfl)⟩
theorem lw_p56 : lw_okq (⟨"AdjectiveCouponsModel", "isGood", "()Z"⟩, 35) := ⟨⟨by decide +kernel, by decide +kernel⟩, lw_t5 (List.mem_of_getElem? (i := 114) rfl), lw_t6 (List.mem_of_getElem? (i := 165) rfl), lw_t6 (List.mem_of_getElem? (i := 166) rfl)⟩
theorem lw_p57 : lw_okq (⟨"AdjectiveCouponsModel", "hasHole", "()Z"⟩, 35) := ⟨⟨by decide +kernel, by decide +kernel⟩, lw_t5 (List.mem_of_getElem? (i := 114) rfl), lw_t6 (List.mem_of_getElem? (i := 169) rfl), lw_t6 (List.mem_of_getElem? (i := 170) rfl)⟩
theorem lw_p58 : lw_okq (⟨"AdjectiveCouponsModel", "keepPast", "()V"⟩, 35) := ⟨⟨by decide +kernel, by decide +kernel⟩, lw_t5 (List.mem_of_getElem? (i := 114) rfl), lw_t6 (List.mem_of_getElem? (i := 177) rfl), lw_t6 (List.mem_of_getElem? (i := 178) rfl)⟩
theorem lw_p59 : lw_okq (⟨"AdjectiveCouponsModel", "copy", "(II)V"⟩, 35) := ⟨⟨by decide +kernel, by decide +kernel⟩, lw_t5 (List.mem_of_getElem? (i := 114) rfl), lw_t6 (List.mem_of_getElem? (i := 181) rfl), lw_t6 (List.mem_of_getElem? (i := 182) rfl)⟩
theorem lw_p60 : lw_okq (⟨"AdjectiveCouponsModel", "worthOf", "()I"⟩, 35) := ⟨⟨by decide +kernel, by decide +kernel⟩, lw_t5 (List.mem_of_getElem? (i := 114) rfl), lw_t6 (List.mem_of_getElem? (i := 185) rfl), lw_t6 (List.mem_of_getElem? (i := 186) rfl)⟩
theorem lw_p61 : lw_okq (⟨"AdjectiveCouponsModel", "rationed", "(II)I"⟩, 35) := ⟨⟨by decide +kernel, by decide +kernel⟩, lw_t5 (List.mem_of_getElem? (i := 114) rfl), lw_t6 (List.mem_of_getElem? (i := 193) rfl), lw_t6 (List.mem_of_getElem? (i := 194) rfl)⟩
theorem lw_p62 : lw_okq (⟨"AdjectiveCouponsModel", "areTwo", "(II)Z"⟩, 35) := ⟨⟨by decide +kernel, by decide +kernel⟩, lw_t5 (List.mem_of_getElem? (i := 114) rfl), lw_t6 (List.mem_of_getElem? (i := 201) rfl), lw_t6 (List.mem_of_getElem? (i := 202) rfl)⟩
theorem lw_p63 : lw_okq (⟨"AdjectiveCouponsModel", "canBeOrdered", "()Z"⟩, 35) := ⟨⟨by decide +kernel, by decide +kernel⟩, lw_t5 (List.mem_of_getElem? (i := 114) rfl), lw_t6 (List.mem_of_getElem? (i := 231) rfl), lw_t6 (List.mem_of_getElem? (i := 232) rfl)⟩
def lw_privs_4 : List (MethodName × Nat) := [(⟨"AdjectiveCouponsModel", "isOne", "(I)Z"⟩, 35), (⟨"AdjectiveCouponsModel", "saidBy", "(I)I"⟩, 35), (⟨"AdjectiveCouponsModel", "layLine", "()V"⟩, 35), (⟨"AdjectiveCouponsModel", "costTo", "(II)I"⟩, 35), (⟨"AdjectiveCouponsModel", "layKinds", "(I)V"⟩, 35), (⟨"AdjectiveCouponsModel", "costAt", "(I)I"⟩, 35), (⟨"AdjectiveCouponsModel", "isAdjective", "(I)Z"⟩, 35), (⟨"AdjectiveCouponsModel", "wasAhead", "(I)Z"⟩, 35), (⟨"AdjectiveCouponsModel", "isGood", "()Z"⟩, 35), (⟨"AdjectiveCouponsModel", "hasHole", "()Z"⟩, 35), (⟨"AdjectiveCouponsModel", "keepPast", "()V"⟩, 35), (⟨"AdjectiveCouponsModel", "copy", "(II)V"⟩, 35), (⟨"AdjectiveCouponsModel", "worthOf", "()I"⟩, 35), (⟨"AdjectiveCouponsModel", "rationed", "(II)I"⟩, 35), (⟨"AdjectiveCouponsModel", "areTwo", "(II)Z"⟩, 35), (⟨"AdjectiveCouponsModel", "canBeOrdered", "()Z"⟩, 35)]
theorem lw_r4 : ∀ q ∈ lw_privs_4, lw_okq q := List.forall_mem_cons.mpr ⟨lw_p48, List.forall_mem_cons.mpr ⟨lw_p49, List.forall_mem_cons.mpr ⟨lw_p50, List.forall_mem_cons.mpr ⟨lw_p51, List.forall_mem_cons.mpr ⟨lw_p52, List.forall_mem_cons.mpr ⟨lw_p53, List.forall_mem_cons.mpr ⟨lw_p54, List.forall_mem_cons.mpr ⟨lw_p55, List.forall_mem_cons.mpr ⟨lw_p56, List.forall_mem_cons.mpr ⟨lw_p57, List.forall_mem_cons.mpr ⟨lw_p58, List.forall_mem_cons.mpr ⟨lw_p59, List.forall_mem_cons.mpr ⟨lw_p60, List.forall_mem_cons.mpr ⟨lw_p61, List.forall_mem_cons.mpr ⟨lw_p62, List.forall_mem_cons.mpr ⟨lw_p63, fun _ h => absurd h List.not_mem_nil⟩⟩⟩⟩⟩⟩⟩⟩⟩⟩⟩⟩⟩⟩⟩⟩
theorem lw_p64 : lw_okq (⟨"AdjectiveCouponsModel", "layOrders", "()V"⟩, 35) := ⟨⟨by decide +kernel, by decide +kernel⟩, lw_t5 (List.mem_of_getElem? (i := 114) rfl), lw_t6 (List.mem_of_getElem? (i := 235) rfl), lw_t6 (List.mem_of_getElem? (i := 236) rfl)⟩
theorem lw_p65 : lw_okq (⟨"AdjectiveCouponsModel", "layOrder", "(I)V"⟩, 35) := ⟨⟨by decide +kernel, by decide +kernel⟩, lw_t5 (List.mem_of_getElem? (i := 114) rfl), lw_t7 (List.mem_of_getElem? (i := 2) rfl), lw_t7 (List.mem_of_getElem? (i := 3) rfl)⟩
theorem lw_p66 : lw_okq (⟨"AdjectiveCouponsModel", "citizenCost", "()I"⟩, 35) := ⟨⟨by decide +kernel, by decide +kernel⟩, lw_t5 (List.mem_of_getElem? (i := 114) rfl), lw_t7 (List.mem_of_getElem? (i := 6) rfl), lw_t7 (List.mem_of_getElem? (i := 7) rfl)⟩
theorem lw_p67 : lw_okq (⟨"AdjectiveCouponsModel", "isAheadOfBest", "()Z"⟩, 35) := ⟨⟨by decide +kernel, by decide +kernel⟩, lw_t5 (List.mem_of_getElem? (i := 114) rfl), lw_t7 (List.mem_of_getElem? (i := 10) rfl), lw_t7 (List.mem_of_getElem? (i := 11) rfl)⟩
theorem lw_p68 : lw_okq (⟨"AdjectiveCouponsModel", "areWords", "(I)Z"⟩, 35) := ⟨⟨by decide +kernel, by decide +kernel⟩, lw_t5 (List.mem_of_getElem? (i := 114) rfl), lw_t7 (List.mem_of_getElem? (i := 22) rfl), lw_t7 (List.mem_of_getElem? (i := 23) rfl)⟩
theorem lw_p69 : lw_okq (⟨"AdjectiveCouponsModel", "layWithout", "(I)V"⟩, 35) := ⟨⟨by decide +kernel, by decide +kernel⟩, lw_t5 (List.mem_of_getElem? (i := 114) rfl), lw_t7 (List.mem_of_getElem? (i := 29) rfl), lw_t7 (List.mem_of_getElem? (i := 30) rfl)⟩
theorem lw_p70 : lw_okq (⟨"AdjectiveCouponsModel", "layFilled", "(I)V"⟩, 35) := ⟨⟨by decide +kernel, by decide +kernel⟩, lw_t5 (List.mem_of_getElem? (i := 114) rfl), lw_t7 (List.mem_of_getElem? (i := 37) rfl), lw_t7 (List.mem_of_getElem? (i := 38) rfl)⟩
theorem lw_p71 : lw_okq (⟨"AdjectiveCouponsModel", "layDraft", "(I)V"⟩, 35) := ⟨⟨by decide +kernel, by decide +kernel⟩, lw_t5 (List.mem_of_getElem? (i := 114) rfl), lw_t7 (List.mem_of_getElem? (i := 53) rfl), lw_t7 (List.mem_of_getElem? (i := 54) rfl)⟩
theorem lw_p72 : lw_okq (⟨"AdjectiveCouponsModel", "worthOfSet", "(I)I"⟩, 35) := ⟨⟨by decide +kernel, by decide +kernel⟩, lw_t5 (List.mem_of_getElem? (i := 114) rfl), lw_t7 (List.mem_of_getElem? (i := 61) rfl), lw_t7 (List.mem_of_getElem? (i := 62) rfl)⟩
theorem lw_p73 : lw_okq (⟨"AdjectiveCouponsModel", "canPay", "(II)Z"⟩, 35) := ⟨⟨by decide +kernel, by decide +kernel⟩, lw_t5 (List.mem_of_getElem? (i := 114) rfl), lw_t7 (List.mem_of_getElem? (i := 69) rfl), lw_t7 (List.mem_of_getElem? (i := 70) rfl)⟩
theorem lw_p74 : lw_okq (⟨"AdjectiveCouponsModel", "likenessOf", "(I)I"⟩, 35) := ⟨⟨by decide +kernel, by decide +kernel⟩, lw_t5 (List.mem_of_getElem? (i := 114) rfl), lw_t7 (List.mem_of_getElem? (i := 77) rfl), lw_t7 (List.mem_of_getElem? (i := 78) rfl)⟩
theorem lw_p75 : lw_okq (⟨"AdjectiveCouponsModel", "netOf", "(I)I"⟩, 35) := ⟨⟨by decide +kernel, by decide +kernel⟩, lw_t5 (List.mem_of_getElem? (i := 114) rfl), lw_t7 (List.mem_of_getElem? (i := 94) rfl), lw_t7 (List.mem_of_getElem? (i := 95) rfl)⟩
theorem lw_p76 : lw_okq (⟨"AdjectiveCouponsModel", "netOfSet", "(I)I"⟩, 35) := ⟨⟨by decide +kernel, by decide +kernel⟩, lw_t5 (List.mem_of_getElem? (i := 114) rfl), lw_t7 (List.mem_of_getElem? (i := 102) rfl), lw_t7 (List.mem_of_getElem? (i := 103) rfl)⟩
def lw_privs_5 : List (MethodName × Nat) := [(⟨"AdjectiveCouponsModel", "layOrders", "()V"⟩, 35), (⟨"AdjectiveCouponsModel", "layOrder", "(I)V"⟩, 35), (⟨"AdjectiveCouponsModel", "citizenCost", "()I"⟩, 35), (⟨"AdjectiveCouponsModel", "isAheadOfBest", "()Z"⟩, 35), (⟨"AdjectiveCouponsModel", "areWords", "(I)Z"⟩, 35), (⟨"AdjectiveCouponsModel", "layWithout", "(I)V"⟩, 35), (⟨"AdjectiveCouponsModel", "layFilled", "(I)V"⟩, 35), (⟨"AdjectiveCouponsModel", "layDraft", "(I)V"⟩, 35), (⟨"AdjectiveCouponsModel", "worthOfSet", "(I)I"⟩, 35), (⟨"AdjectiveCouponsModel", "canPay", "(II)Z"⟩, 35), (⟨"AdjectiveCouponsModel", "likenessOf", "(I)I"⟩, 35), (⟨"AdjectiveCouponsModel", "netOf", "(I)I"⟩, 35), (⟨"AdjectiveCouponsModel", "netOfSet", "(I)I"⟩, 35)]
theorem lw_r5 : ∀ q ∈ lw_privs_5, lw_okq q := List.forall_mem_cons.mpr ⟨lw_p64, List.forall_mem_cons.mpr ⟨lw_p65, List.forall_mem_cons.mpr ⟨lw_p66, List.forall_mem_cons.mpr ⟨lw_p67, List.forall_mem_cons.mpr ⟨lw_p68, List.forall_mem_cons.mpr ⟨lw_p69, List.forall_mem_cons.mpr ⟨lw_p70, List.forall_mem_cons.mpr ⟨lw_p71, List.forall_mem_cons.mpr ⟨lw_p72, List.forall_mem_cons.mpr ⟨lw_p73, List.forall_mem_cons.mpr ⟨lw_p74, List.forall_mem_cons.mpr ⟨lw_p75, List.forall_mem_cons.mpr ⟨lw_p76, fun _ h => absurd h List.not_mem_nil⟩⟩⟩⟩⟩⟩⟩⟩⟩⟩⟩⟩⟩
def lw_privs : List (MethodName × Nat) := lw_privs_1 ++ (lw_privs_2 ++ (lw_privs_3 ++ (lw_privs_4 ++ (lw_privs_5))))
def lw_tbl : List Cond := k2_sels lw_privs ++ tables_1
theorem lw_privs_ok : ∀ q ∈ lw_privs, lw_okq q := by
  show ∀ q ∈ lw_privs_1 ++ (lw_privs_2 ++ (lw_privs_3 ++ (lw_privs_4 ++ (lw_privs_5)))), lw_okq q
  exact List.forall_mem_append.mpr ⟨lw_r1, List.forall_mem_append.mpr ⟨lw_r2, List.forall_mem_append.mpr ⟨lw_r3, List.forall_mem_append.mpr ⟨lw_r4, lw_r5⟩⟩⟩⟩
-- ===== ONE list of words for every method: the tables' words that hold all through a run =====
def lw_all : List Cond := lw_tbl.filter goodWord
/-- a word of the tables by its place: claim/WORDS.tsv -/
theorem lw_w {w : Cond} (i : Nat) (h : lw_tbl[i]? = some w) (g : goodWord w = true) : w ∈ lw_all := List.mem_filter.mpr ⟨List.mem_of_getElem? h, g⟩
theorem lw_all_tbl {w : Cond} (h : w ∈ lw_all) : w ∈ lw_tbl := (List.mem_filter.mp h).1
theorem lw_self : GoodIn lw_all lw_all := fun w h => ⟨h, good_of_word (List.mem_filter.mp h).2⟩
/-- a class's field words, by their places -/
theorem lw_in (ws : List Cond) (ps : List Nat) (hp : ws = ps.filterMap (fun i => lw_tbl[i]?)) (hg : ws.all goodWord = true) : ∀ w ∈ ws, w ∈ lw_all := by
  intro w h
  have h1 := List.all_eq_true.mp hg w h
  rw [hp] at h
  obtain ⟨i, -, hi⟩ := List.mem_filterMap.mp h
  exact lw_w i hi h1
/-- the words of a contract for the method y with code b, L locals, answer r -/
abbrev ws_ (y : MethodName) (b : ByteArray) (L : Nat) (r : Option FieldType) : List Cond := Cond.code y b L r :: lw_all
theorem lw_meth {y : MethodName} {b : ByteArray} {L : Nat} {r : Option FieldType} (h : Cond.code y b L r ∈ lw_all) : GoodIn lw_all (ws_ y b L r) := by
  intro w hw
  rcases List.mem_cons.mp hw with e | e
  · rw [e]
    exact lw_self _ h
  · exact lw_self _ e
theorem lw_app {a c : List Cond} (ha : ∀ w ∈ a, w ∈ lw_all) (hc : GoodIn lw_all c) : GoodIn lw_all (a ++ c) := by
  intro w hw
  rcases List.mem_append.mp hw with e | e
  · exact lw_self w (ha w e)
  · exact hc w e
/-- what a call through an object asks: cwV n hts (lw_V ..) -/
theorem lw_V {own : String} {idx : Nat} {C : String} {y : MethodName} {b : ByteArray} {L : Nat} {r : Option FieldType} (h1 : Cond.methodLink own idx y ∈ lw_all) (h2 : Cond.instanceMethod y ∈ lw_all) (h3 : Cond.selects C y y ∈ lw_all) (h4 : Cond.initialized C ∈ lw_all) (h5 : Cond.code y b L r ∈ lw_all) : GoodIn lw_all (wsV own idx C y (ws_ y b L r)) := by
  refine lw_app ?_ (lw_meth h5)
  intro w hw
  simp only [List.mem_cons, List.not_mem_nil, or_false] at hw
  rcases hw with e | e | e | e
  · rw [e]; exact h1
  · rw [e]; exact h2
  · rw [e]; exact h3
  · rw [e]; exact h4
/-- what a static call asks: va_cwS n hts (lw_S ..) -/
theorem lw_S {own : String} {idx : Nat} {y : MethodName} {b : ByteArray} {L : Nat} {r : Option FieldType} (h1 : Cond.methodLink own idx y ∈ lw_all) (h2 : Cond.static y ∈ lw_all) (h3 : Cond.initialized y.cls ∈ lw_all) (h4 : Cond.code y b L r ∈ lw_all) : GoodIn lw_all (va_wsS own idx y (ws_ y b L r)) := by
  refine lw_app ?_ (lw_meth h4)
  intro w hw
  simp only [List.mem_cons, List.not_mem_nil, or_false] at hw
  rcases hw with e | e | e
  · rw [e]; exact h1
  · rw [e]; exact h2
  · rw [e]; exact h3
/-- the words of a contract for a method WITH HANDLERS (hh: its table) -/
abbrev wsW_ (y : MethodName) (b : ByteArray) (L : Nat) (r : Option FieldType) (hh : List (Nat × Nat × Nat × Nat)) : List Cond := Cond.codeWith y b L r hh :: lw_all
theorem lw_methW {y : MethodName} {b : ByteArray} {L : Nat} {r : Option FieldType} {hh : List (Nat × Nat × Nat × Nat)} (h : Cond.codeWith y b L r hh ∈ lw_all) : GoodIn lw_all (wsW_ y b L r hh) := by
  intro w hw
  rcases List.mem_cons.mp hw with e | e
  · rw [e]
    exact lw_self _ h
  · exact lw_self _ e
/-- any list of words by their places (lw_in), good -/
theorem lw_good {ws : List Cond} (h : ∀ w ∈ ws, w ∈ lw_all) : GoodIn lw_all ws := fun w hw => lw_self w (h w hw)
/-- what a call of a method with handlers asks: vx_cwVW n hts (lw_VW ..), vx_cwSW n hts (lw_SW ..) -/
theorem lw_VW {own : String} {idx : Nat} {C : String} {y : MethodName} {b : ByteArray} {L : Nat} {r : Option FieldType} {hh : List (Nat × Nat × Nat × Nat)} (h1 : Cond.methodLink own idx y ∈ lw_all) (h2 : Cond.instanceMethod y ∈ lw_all) (h3 : Cond.selects C y y ∈ lw_all) (h4 : Cond.initialized C ∈ lw_all) (h5 : Cond.codeWith y b L r hh ∈ lw_all) : GoodIn lw_all (wsV own idx C y (wsW_ y b L r hh)) := by
  refine lw_app ?_ (lw_methW h5)
  intro w hw
  simp only [List.mem_cons, List.not_mem_nil, or_false] at hw
  rcases hw with e | e | e | e
  · rw [e]; exact h1
  · rw [e]; exact h2
  · rw [e]; exact h3
  · rw [e]; exact h4
theorem lw_SW {own : String} {idx : Nat} {y : MethodName} {b : ByteArray} {L : Nat} {r : Option FieldType} {hh : List (Nat × Nat × Nat × Nat)} (h1 : Cond.methodLink own idx y ∈ lw_all) (h2 : Cond.static y ∈ lw_all) (h3 : Cond.initialized y.cls ∈ lw_all) (h4 : Cond.codeWith y b L r hh ∈ lw_all) : GoodIn lw_all (va_wsS own idx y (wsW_ y b L r hh)) := by
  refine lw_app ?_ (lw_methW h4)
  intro w hw
  simp only [List.mem_cons, List.not_mem_nil, or_false] at hw
  rcases hw with e | e | e
  · rw [e]; exact h1
  · rw [e]; exact h2
  · rw [e]; exact h3
/-- a word by its place in its run of the tables -/
theorem lw_at {r : List Cond} (hr : ∀ w ∈ r, w ∈ lw_tbl) {w : Cond} (i : Nat) (h : r[i]? = some w) : w ∈ lw_tbl := hr w (List.mem_of_getElem? h)
theorem lw_g {w : Cond} (h : w ∈ lw_tbl) (g : goodWord w = true) : w ∈ lw_all := List.mem_filter.mpr ⟨h, g⟩
theorem lw_ms : ∀ w ∈ k2_sels lw_privs, w ∈ lw_tbl := fun w h => show w ∈ k2_sels lw_privs ++ tables_1 from List.mem_append_left _ h
theorem lw_m1 : ∀ w ∈ tables_1_1, w ∈ lw_tbl := fun w h => show w ∈ k2_sels lw_privs ++ tables_1 from List.mem_append_right (k2_sels lw_privs) (show w ∈ tables_1 from List.mem_append_left _ h)
theorem lw_m2 : ∀ w ∈ tables_1_2, w ∈ lw_tbl := fun w h => show w ∈ k2_sels lw_privs ++ tables_1 from List.mem_append_right (k2_sels lw_privs) (show w ∈ tables_1 from List.mem_append_right _ (List.mem_append_left _ h))
theorem lw_m3 : ∀ w ∈ tables_1_3, w ∈ lw_tbl := fun w h => show w ∈ k2_sels lw_privs ++ tables_1 from List.mem_append_right (k2_sels lw_privs) (show w ∈ tables_1 from List.mem_append_right _ (List.mem_append_right _ (List.mem_append_left _ h)))
theorem lw_m4 : ∀ w ∈ tables_1_4, w ∈ lw_tbl := fun w h => show w ∈ k2_sels lw_privs ++ tables_1 from List.mem_append_right (k2_sels lw_privs) (show w ∈ tables_1 from List.mem_append_right _ (List.mem_append_right _ (List.mem_append_right _ (List.mem_append_left _ h))))
theorem lw_m5 : ∀ w ∈ tables_1_5, w ∈ lw_tbl := fun w h => show w ∈ k2_sels lw_privs ++ tables_1 from List.mem_append_right (k2_sels lw_privs) (show w ∈ tables_1 from List.mem_append_right _ (List.mem_append_right _ (List.mem_append_right _ (List.mem_append_right _ (List.mem_append_left _ h)))))
theorem lw_m6 : ∀ w ∈ tables_1_6, w ∈ lw_tbl := fun w h => show w ∈ k2_sels lw_privs ++ tables_1 from List.mem_append_right (k2_sels lw_privs) (show w ∈ tables_1 from List.mem_append_right _ (List.mem_append_right _ (List.mem_append_right _ (List.mem_append_right _ (List.mem_append_right _ (List.mem_append_left _ h))))))
theorem lw_m7 : ∀ w ∈ tables_1_7, w ∈ lw_tbl := fun w h => show w ∈ k2_sels lw_privs ++ tables_1 from List.mem_append_right (k2_sels lw_privs) (show w ∈ tables_1 from List.mem_append_right _ (List.mem_append_right _ (List.mem_append_right _ (List.mem_append_right _ (List.mem_append_right _ (List.mem_append_right _ h))))))
theorem qs0 : (Cond.selects "AdjectiveCoupons" ⟨"AdjectiveCoupons", "begin", "()V"⟩ ⟨"AdjectiveCoupons", "begin", "()V"⟩) ∈ lw_all := lw_g (lw_at lw_ms 0 rfl) rfl
theorem qs1 : (Cond.selects "AdjectiveCoupons$Reader" ⟨"AdjectiveCoupons$Reader", "clause", "()[I"⟩ ⟨"AdjectiveCoupons$Reader", "clause", "()[I"⟩) ∈ lw_all := lw_g (lw_at lw_ms 1 rfl) rfl
theorem qs2 : (Cond.selects "AdjectiveCoupons$Reader" ⟨"AdjectiveCoupons$Reader", "take", "()V"⟩ ⟨"AdjectiveCoupons$Reader", "take", "()V"⟩) ∈ lw_all := lw_g (lw_at lw_ms 2 rfl) rfl
theorem qs3 : (Cond.selects "AdjectiveCoupons$Reader" ⟨"AdjectiveCoupons$Reader", "kindOf", "(I)I"⟩ ⟨"AdjectiveCoupons$Reader", "kindOf", "(I)I"⟩) ∈ lw_all := lw_g (lw_at lw_ms 3 rfl) rfl
theorem qs4 : (Cond.selects "AdjectiveCoupons$Reader" ⟨"AdjectiveCoupons$Reader", "want", "(Z)V"⟩ ⟨"AdjectiveCoupons$Reader", "want", "(Z)V"⟩) ∈ lw_all := lw_g (lw_at lw_ms 4 rfl) rfl
theorem qs5 : (Cond.selects "java/lang/NullPointerException" ⟨"java/lang/NullPointerException", "getExtendedNPEMessage", "()Ljava/lang/String;"⟩ ⟨"java/lang/NullPointerException", "getExtendedNPEMessage", "()Ljava/lang/String;"⟩) ∈ lw_all := lw_g (lw_at lw_ms 5 rfl) rfl
theorem qs6 : (Cond.selects "java/lang/Throwable" ⟨"java/lang/Throwable", "fillInStackTrace", "(I)Ljava/lang/Throwable;"⟩ ⟨"java/lang/Throwable", "fillInStackTrace", "(I)Ljava/lang/Throwable;"⟩) ∈ lw_all := lw_g (lw_at lw_ms 6 rfl) rfl
theorem qs7 : (Cond.selects "AdjectiveCoupons$Reader" ⟨"AdjectiveCoupons$Reader", "number", "(I)I"⟩ ⟨"AdjectiveCoupons$Reader", "number", "(I)I"⟩) ∈ lw_all := lw_g (lw_at lw_ms 7 rfl) rfl
theorem qs8 : (Cond.selects "AdjectiveCoupons" ⟨"AdjectiveCoupons", "tell", "([I)V"⟩ ⟨"AdjectiveCoupons", "tell", "([I)V"⟩) ∈ lw_all := lw_g (lw_at lw_ms 8 rfl) rfl
theorem qs9 : (Cond.selects "AdjectiveCoupons" ⟨"AdjectiveCoupons", "isWord", "(I)Z"⟩ ⟨"AdjectiveCoupons", "isWord", "(I)Z"⟩) ∈ lw_all := lw_g (lw_at lw_ms 9 rfl) rfl
theorem qs10 : (Cond.selects "AdjectiveCoupons" ⟨"AdjectiveCoupons", "kindOf", "(II)LAdjectiveCoupons$Kind;"⟩ ⟨"AdjectiveCoupons", "kindOf", "(II)LAdjectiveCoupons$Kind;"⟩) ∈ lw_all := lw_g (lw_at lw_ms 10 rfl) rfl
theorem qs11 : (Cond.selects "AdjectiveCoupons" ⟨"AdjectiveCoupons", "word", "(I)LAdjectiveCoupons$Word;"⟩ ⟨"AdjectiveCoupons", "word", "(I)LAdjectiveCoupons$Word;"⟩) ∈ lw_all := lw_g (lw_at lw_ms 11 rfl) rfl
theorem qs12 : (Cond.selects "AdjectiveCoupons" ⟨"AdjectiveCoupons", "isOne", "(I)Z"⟩ ⟨"AdjectiveCoupons", "isOne", "(I)Z"⟩) ∈ lw_all := lw_g (lw_at lw_ms 12 rfl) rfl
theorem qs13 : (Cond.selects "AdjectiveCoupons" ⟨"AdjectiveCoupons", "one", "(I)LAdjectiveCoupons$One;"⟩ ⟨"AdjectiveCoupons", "one", "(I)LAdjectiveCoupons$One;"⟩) ∈ lw_all := lw_g (lw_at lw_ms 13 rfl) rfl
theorem qs14 : (Cond.selects "AdjectiveCoupons" ⟨"AdjectiveCoupons", "costOf", "(LAdjectiveCoupons$Buyer;[III)I"⟩ ⟨"AdjectiveCoupons", "costOf", "(LAdjectiveCoupons$Buyer;[III)I"⟩) ∈ lw_all := lw_g (lw_at lw_ms 14 rfl) rfl
theorem qs15 : (Cond.selects "AdjectiveCoupons" ⟨"AdjectiveCoupons", "costAt", "([IIII)I"⟩ ⟨"AdjectiveCoupons", "costAt", "([IIII)I"⟩) ∈ lw_all := lw_g (lw_at lw_ms 15 rfl) rfl
theorem qs16 : (Cond.selects "AdjectiveCoupons" ⟨"AdjectiveCoupons", "isAdjective", "([III)Z"⟩ ⟨"AdjectiveCoupons", "isAdjective", "([III)Z"⟩) ∈ lw_all := lw_g (lw_at lw_ms 16 rfl) rfl
theorem qs17 : (Cond.selects "AdjectiveCoupons" ⟨"AdjectiveCoupons", "isGood", "([II)Z"⟩ ⟨"AdjectiveCoupons", "isGood", "([II)Z"⟩) ∈ lw_all := lw_g (lw_at lw_ms 17 rfl) rfl
theorem qs18 : (Cond.selects "AdjectiveCoupons" ⟨"AdjectiveCoupons", "isNoun", "(I)Z"⟩ ⟨"AdjectiveCoupons", "isNoun", "(I)Z"⟩) ∈ lw_all := lw_g (lw_at lw_ms 18 rfl) rfl
theorem qs19 : (Cond.selects "AdjectiveCoupons" ⟨"AdjectiveCoupons", "holesIn", "()I"⟩ ⟨"AdjectiveCoupons", "holesIn", "()I"⟩) ∈ lw_all := lw_g (lw_at lw_ms 19 rfl) rfl
theorem qs20 : (Cond.selects "AdjectiveCoupons" ⟨"AdjectiveCoupons", "note", "()V"⟩ ⟨"AdjectiveCoupons", "note", "()V"⟩) ∈ lw_all := lw_g (lw_at lw_ms 20 rfl) rfl
theorem qs21 : (Cond.selects "AdjectiveCoupons" ⟨"AdjectiveCoupons", "worthOf", "([II)I"⟩ ⟨"AdjectiveCoupons", "worthOf", "([II)I"⟩) ∈ lw_all := lw_g (lw_at lw_ms 21 rfl) rfl
theorem qs22 : (Cond.selects "AdjectiveCoupons" ⟨"AdjectiveCoupons", "behind", "(II)I"⟩ ⟨"AdjectiveCoupons", "behind", "(II)I"⟩) ∈ lw_all := lw_g (lw_at lw_ms 22 rfl) rfl
theorem qs23 : (Cond.selects "AdjectiveCoupons" ⟨"AdjectiveCoupons", "areTwo", "(II)Z"⟩ ⟨"AdjectiveCoupons", "areTwo", "(II)Z"⟩) ∈ lw_all := lw_g (lw_at lw_ms 23 rfl) rfl
theorem qs24 : (Cond.selects "AdjectiveCoupons" ⟨"AdjectiveCoupons", "isOrdered", "()Z"⟩ ⟨"AdjectiveCoupons", "isOrdered", "()Z"⟩) ∈ lw_all := lw_g (lw_at lw_ms 24 rfl) rfl
theorem qs25 : (Cond.selects "AdjectiveCoupons" ⟨"AdjectiveCoupons", "layOrders", "(II)V"⟩ ⟨"AdjectiveCoupons", "layOrders", "(II)V"⟩) ∈ lw_all := lw_g (lw_at lw_ms 25 rfl) rfl
theorem qs26 : (Cond.selects "AdjectiveCoupons" ⟨"AdjectiveCoupons", "without", "(I)I"⟩ ⟨"AdjectiveCoupons", "without", "(I)I"⟩) ∈ lw_all := lw_g (lw_at lw_ms 26 rfl) rfl
theorem qs27 : (Cond.selects "AdjectiveCoupons" ⟨"AdjectiveCoupons", "fill", "(I)V"⟩ ⟨"AdjectiveCoupons", "fill", "(I)V"⟩) ∈ lw_all := lw_g (lw_at lw_ms 27 rfl) rfl
theorem qs28 : (Cond.selects "AdjectiveCoupons" ⟨"AdjectiveCoupons", "worthOfAll", "(I)I"⟩ ⟨"AdjectiveCoupons", "worthOfAll", "(I)I"⟩) ∈ lw_all := lw_g (lw_at lw_ms 28 rfl) rfl
theorem qs29 : (Cond.selects "AdjectiveCoupons" ⟨"AdjectiveCoupons", "canPay", "(II)Z"⟩ ⟨"AdjectiveCoupons", "canPay", "(II)Z"⟩) ∈ lw_all := lw_g (lw_at lw_ms 29 rfl) rfl
theorem qs30 : (Cond.selects "AdjectiveCoupons" ⟨"AdjectiveCoupons", "likenessOf", "(I)I"⟩ ⟨"AdjectiveCoupons", "likenessOf", "(I)I"⟩) ∈ lw_all := lw_g (lw_at lw_ms 30 rfl) rfl
theorem qs31 : (Cond.selects "AdjectiveCoupons" ⟨"AdjectiveCoupons", "isLeft", "(II)Z"⟩ ⟨"AdjectiveCoupons", "isLeft", "(II)Z"⟩) ∈ lw_all := lw_g (lw_at lw_ms 31 rfl) rfl
theorem qs32 : (Cond.selects "AdjectiveCoupons" ⟨"AdjectiveCoupons", "partsOf", "(I)I"⟩ ⟨"AdjectiveCoupons", "partsOf", "(I)I"⟩) ∈ lw_all := lw_g (lw_at lw_ms 32 rfl) rfl
theorem qs33 : (Cond.selects "AdjectiveCouponsModel" ⟨"AdjectiveCouponsModel", "token", "()V"⟩ ⟨"AdjectiveCouponsModel", "token", "()V"⟩) ∈ lw_all := lw_g (lw_at lw_ms 33 rfl) rfl
theorem qs34 : (Cond.selects "AdjectiveCouponsModel" ⟨"AdjectiveCouponsModel", "readsClause", "()Z"⟩ ⟨"AdjectiveCouponsModel", "readsClause", "()Z"⟩) ∈ lw_all := lw_g (lw_at lw_ms 34 rfl) rfl
theorem qs35 : (Cond.selects "AdjectiveCouponsModel" ⟨"AdjectiveCouponsModel", "wordOf", "()I"⟩ ⟨"AdjectiveCouponsModel", "wordOf", "()I"⟩) ∈ lw_all := lw_g (lw_at lw_ms 35 rfl) rfl
theorem qs36 : (Cond.selects "AdjectiveCouponsModel" ⟨"AdjectiveCouponsModel", "kindWord", "()I"⟩ ⟨"AdjectiveCouponsModel", "kindWord", "()I"⟩) ∈ lw_all := lw_g (lw_at lw_ms 36 rfl) rfl
theorem qs37 : (Cond.selects "AdjectiveCouponsModel" ⟨"AdjectiveCouponsModel", "isWord", "(III)Z"⟩ ⟨"AdjectiveCouponsModel", "isWord", "(III)Z"⟩) ∈ lw_all := lw_g (lw_at lw_ms 37 rfl) rfl
theorem qs38 : (Cond.selects "AdjectiveCouponsModel" ⟨"AdjectiveCouponsModel", "folkWord", "()I"⟩ ⟨"AdjectiveCouponsModel", "folkWord", "()I"⟩) ∈ lw_all := lw_g (lw_at lw_ms 38 rfl) rfl
theorem qs39 : (Cond.selects "AdjectiveCouponsModel" ⟨"AdjectiveCouponsModel", "readsRest", "(I)Z"⟩ ⟨"AdjectiveCouponsModel", "readsRest", "(I)Z"⟩) ∈ lw_all := lw_g (lw_at lw_ms 39 rfl) rfl
theorem qs40 : (Cond.selects "AdjectiveCouponsModel" ⟨"AdjectiveCouponsModel", "reads", "(III)Z"⟩ ⟨"AdjectiveCouponsModel", "reads", "(III)Z"⟩) ∈ lw_all := lw_g (lw_at lw_ms 40 rfl) rfl
theorem qs41 : (Cond.selects "AdjectiveCouponsModel" ⟨"AdjectiveCouponsModel", "tell", "(I)V"⟩ ⟨"AdjectiveCouponsModel", "tell", "(I)V"⟩) ∈ lw_all := lw_g (lw_at lw_ms 41 rfl) rfl
theorem qs42 : (Cond.selects "AdjectiveCouponsModel" ⟨"AdjectiveCouponsModel", "addWord", "(II)V"⟩ ⟨"AdjectiveCouponsModel", "addWord", "(II)V"⟩) ∈ lw_all := lw_g (lw_at lw_ms 42 rfl) rfl
theorem qs43 : (Cond.selects "AdjectiveCouponsModel" ⟨"AdjectiveCouponsModel", "addOne", "(II)V"⟩ ⟨"AdjectiveCouponsModel", "addOne", "(II)V"⟩) ∈ lw_all := lw_g (lw_at lw_ms 43 rfl) rfl
theorem qs44 : (Cond.selects "AdjectiveCouponsModel" ⟨"AdjectiveCouponsModel", "addChange", "(I)V"⟩ ⟨"AdjectiveCouponsModel", "addChange", "(I)V"⟩) ∈ lw_all := lw_g (lw_at lw_ms 44 rfl) rfl
theorem qs45 : (Cond.selects "AdjectiveCouponsModel" ⟨"AdjectiveCouponsModel", "clear", "()V"⟩ ⟨"AdjectiveCouponsModel", "clear", "()V"⟩) ∈ lw_all := lw_g (lw_at lw_ms 45 rfl) rfl
theorem qs46 : (Cond.selects "AdjectiveCouponsModel" ⟨"AdjectiveCouponsModel", "isWordThere", "(I)Z"⟩ ⟨"AdjectiveCouponsModel", "isWordThere", "(I)Z"⟩) ∈ lw_all := lw_g (lw_at lw_ms 46 rfl) rfl
theorem qs47 : (Cond.selects "AdjectiveCouponsModel" ⟨"AdjectiveCouponsModel", "kindIn", "(II)I"⟩ ⟨"AdjectiveCouponsModel", "kindIn", "(II)I"⟩) ∈ lw_all := lw_g (lw_at lw_ms 47 rfl) rfl
theorem qs48 : (Cond.selects "AdjectiveCouponsModel" ⟨"AdjectiveCouponsModel", "isOne", "(I)Z"⟩ ⟨"AdjectiveCouponsModel", "isOne", "(I)Z"⟩) ∈ lw_all := lw_g (lw_at lw_ms 48 rfl) rfl
theorem qs49 : (Cond.selects "AdjectiveCouponsModel" ⟨"AdjectiveCouponsModel", "saidBy", "(I)I"⟩ ⟨"AdjectiveCouponsModel", "saidBy", "(I)I"⟩) ∈ lw_all := lw_g (lw_at lw_ms 49 rfl) rfl
theorem qs50 : (Cond.selects "AdjectiveCouponsModel" ⟨"AdjectiveCouponsModel", "layLine", "()V"⟩ ⟨"AdjectiveCouponsModel", "layLine", "()V"⟩) ∈ lw_all := lw_g (lw_at lw_ms 50 rfl) rfl
theorem qs51 : (Cond.selects "AdjectiveCouponsModel" ⟨"AdjectiveCouponsModel", "costTo", "(II)I"⟩ ⟨"AdjectiveCouponsModel", "costTo", "(II)I"⟩) ∈ lw_all := lw_g (lw_at lw_ms 51 rfl) rfl
theorem qs52 : (Cond.selects "AdjectiveCouponsModel" ⟨"AdjectiveCouponsModel", "layKinds", "(I)V"⟩ ⟨"AdjectiveCouponsModel", "layKinds", "(I)V"⟩) ∈ lw_all := lw_g (lw_at lw_ms 52 rfl) rfl
theorem qs53 : (Cond.selects "AdjectiveCouponsModel" ⟨"AdjectiveCouponsModel", "costAt", "(I)I"⟩ ⟨"AdjectiveCouponsModel", "costAt", "(I)I"⟩) ∈ lw_all := lw_g (lw_at lw_ms 53 rfl) rfl
theorem qs54 : (Cond.selects "AdjectiveCouponsModel" ⟨"AdjectiveCouponsModel", "isAdjective", "(I)Z"⟩ ⟨"AdjectiveCouponsModel", "isAdjective", "(I)Z"⟩) ∈ lw_all := lw_g (lw_at lw_ms 54 rfl) rfl
theorem qs55 : (Cond.selects "AdjectiveCouponsModel" ⟨"AdjectiveCouponsModel", "wasAhead", "(I)Z"⟩ ⟨"AdjectiveCouponsModel", "wasAhead", "(I)Z"⟩) ∈ lw_all := lw_g (lw_at lw_ms 55 rfl) rfl
theorem qs56 : (Cond.selects "AdjectiveCouponsModel" ⟨"AdjectiveCouponsModel", "isGood", "()Z"⟩ ⟨"AdjectiveCouponsModel", "isGood", "()Z"⟩) ∈ lw_all := lw_g (lw_at lw_ms 56 rfl) rfl
theorem qs57 : (Cond.selects "AdjectiveCouponsModel" ⟨"AdjectiveCouponsModel", "hasHole", "()Z"⟩ ⟨"AdjectiveCouponsModel", "hasHole", "()Z"⟩) ∈ lw_all := lw_g (lw_at lw_ms 57 rfl) rfl
theorem qs58 : (Cond.selects "AdjectiveCouponsModel" ⟨"AdjectiveCouponsModel", "keepPast", "()V"⟩ ⟨"AdjectiveCouponsModel", "keepPast", "()V"⟩) ∈ lw_all := lw_g (lw_at lw_ms 58 rfl) rfl
theorem qs59 : (Cond.selects "AdjectiveCouponsModel" ⟨"AdjectiveCouponsModel", "copy", "(II)V"⟩ ⟨"AdjectiveCouponsModel", "copy", "(II)V"⟩) ∈ lw_all := lw_g (lw_at lw_ms 59 rfl) rfl
theorem qs60 : (Cond.selects "AdjectiveCouponsModel" ⟨"AdjectiveCouponsModel", "worthOf", "()I"⟩ ⟨"AdjectiveCouponsModel", "worthOf", "()I"⟩) ∈ lw_all := lw_g (lw_at lw_ms 60 rfl) rfl
theorem qs61 : (Cond.selects "AdjectiveCouponsModel" ⟨"AdjectiveCouponsModel", "rationed", "(II)I"⟩ ⟨"AdjectiveCouponsModel", "rationed", "(II)I"⟩) ∈ lw_all := lw_g (lw_at lw_ms 61 rfl) rfl
theorem qs62 : (Cond.selects "AdjectiveCouponsModel" ⟨"AdjectiveCouponsModel", "areTwo", "(II)Z"⟩ ⟨"AdjectiveCouponsModel", "areTwo", "(II)Z"⟩) ∈ lw_all := lw_g (lw_at lw_ms 62 rfl) rfl
theorem qs63 : (Cond.selects "AdjectiveCouponsModel" ⟨"AdjectiveCouponsModel", "canBeOrdered", "()Z"⟩ ⟨"AdjectiveCouponsModel", "canBeOrdered", "()Z"⟩) ∈ lw_all := lw_g (lw_at lw_ms 63 rfl) rfl
theorem qs64 : (Cond.selects "AdjectiveCouponsModel" ⟨"AdjectiveCouponsModel", "layOrders", "()V"⟩ ⟨"AdjectiveCouponsModel", "layOrders", "()V"⟩) ∈ lw_all := lw_g (lw_at lw_ms 64 rfl) rfl
theorem qs65 : (Cond.selects "AdjectiveCouponsModel" ⟨"AdjectiveCouponsModel", "layOrder", "(I)V"⟩ ⟨"AdjectiveCouponsModel", "layOrder", "(I)V"⟩) ∈ lw_all := lw_g (lw_at lw_ms 65 rfl) rfl
theorem qs66 : (Cond.selects "AdjectiveCouponsModel" ⟨"AdjectiveCouponsModel", "citizenCost", "()I"⟩ ⟨"AdjectiveCouponsModel", "citizenCost", "()I"⟩) ∈ lw_all := lw_g (lw_at lw_ms 66 rfl) rfl
theorem qs67 : (Cond.selects "AdjectiveCouponsModel" ⟨"AdjectiveCouponsModel", "isAheadOfBest", "()Z"⟩ ⟨"AdjectiveCouponsModel", "isAheadOfBest", "()Z"⟩) ∈ lw_all := lw_g (lw_at lw_ms 67 rfl) rfl
theorem qs68 : (Cond.selects "AdjectiveCouponsModel" ⟨"AdjectiveCouponsModel", "areWords", "(I)Z"⟩ ⟨"AdjectiveCouponsModel", "areWords", "(I)Z"⟩) ∈ lw_all := lw_g (lw_at lw_ms 68 rfl) rfl
theorem qs69 : (Cond.selects "AdjectiveCouponsModel" ⟨"AdjectiveCouponsModel", "layWithout", "(I)V"⟩ ⟨"AdjectiveCouponsModel", "layWithout", "(I)V"⟩) ∈ lw_all := lw_g (lw_at lw_ms 69 rfl) rfl
theorem qs70 : (Cond.selects "AdjectiveCouponsModel" ⟨"AdjectiveCouponsModel", "layFilled", "(I)V"⟩ ⟨"AdjectiveCouponsModel", "layFilled", "(I)V"⟩) ∈ lw_all := lw_g (lw_at lw_ms 70 rfl) rfl
theorem qs71 : (Cond.selects "AdjectiveCouponsModel" ⟨"AdjectiveCouponsModel", "layDraft", "(I)V"⟩ ⟨"AdjectiveCouponsModel", "layDraft", "(I)V"⟩) ∈ lw_all := lw_g (lw_at lw_ms 71 rfl) rfl
theorem qs72 : (Cond.selects "AdjectiveCouponsModel" ⟨"AdjectiveCouponsModel", "worthOfSet", "(I)I"⟩ ⟨"AdjectiveCouponsModel", "worthOfSet", "(I)I"⟩) ∈ lw_all := lw_g (lw_at lw_ms 72 rfl) rfl
theorem qs73 : (Cond.selects "AdjectiveCouponsModel" ⟨"AdjectiveCouponsModel", "canPay", "(II)Z"⟩ ⟨"AdjectiveCouponsModel", "canPay", "(II)Z"⟩) ∈ lw_all := lw_g (lw_at lw_ms 73 rfl) rfl
theorem qs74 : (Cond.selects "AdjectiveCouponsModel" ⟨"AdjectiveCouponsModel", "likenessOf", "(I)I"⟩ ⟨"AdjectiveCouponsModel", "likenessOf", "(I)I"⟩) ∈ lw_all := lw_g (lw_at lw_ms 74 rfl) rfl
theorem qs75 : (Cond.selects "AdjectiveCouponsModel" ⟨"AdjectiveCouponsModel", "netOf", "(I)I"⟩ ⟨"AdjectiveCouponsModel", "netOf", "(I)I"⟩) ∈ lw_all := lw_g (lw_at lw_ms 75 rfl) rfl
theorem qs76 : (Cond.selects "AdjectiveCouponsModel" ⟨"AdjectiveCouponsModel", "netOfSet", "(I)I"⟩ ⟨"AdjectiveCouponsModel", "netOfSet", "(I)I"⟩) ∈ lw_all := lw_g (lw_at lw_ms 76 rfl) rfl
