-- ===== PART A: goes FIRST, ahead of the names: the tables' words, and 'selects' of the private methods out of them =====
/-- a private method of a class that the tables say can be made, by its rows of tables_1 -/
def lw_okq (q : MethodName × Nat) : Prop := (q.1.cls ≠ "java/lang/invoke/MethodHandle" ∧ q.1.cls ≠ "java/lang/invoke/VarHandle") ∧ Cond.instantiable q.1.cls q.2 ∈ tables_1 ∧ Cond.privateMethod q.1 ∈ tables_1 ∧ Cond.instanceMethod q.1 ∈ tables_1
set_option maxRecDepth 100000
theorem lw_t1 {w : Cond} (h : w ∈ tables_1_1) : w ∈ tables_1 := List.mem_append_left _ h
theorem lw_t2 {w : Cond} (h : w ∈ tables_1_2) : w ∈ tables_1 := List.mem_append_right _ (List.mem_append_left _ h)
theorem lw_t3 {w : Cond} (h : w ∈ tables_1_3) : w ∈ tables_1 := List.mem_append_right _ (List.mem_append_right _ (List.mem_append_left _ h))
theorem lw_t4 {w : Cond} (h : w ∈ tables_1_4) : w ∈ tables_1 := List.mem_append_right _ (List.mem_append_right _ (List.mem_append_right _ (List.mem_append_left _ h)))
theorem lw_t5 {w : Cond} (h : w ∈ tables_1_5) : w ∈ tables_1 := List.mem_append_right _ (List.mem_append_right _ (List.mem_append_right _ (List.mem_append_right _ (List.mem_append_left _ h))))
theorem lw_t6 {w : Cond} (h : w ∈ tables_1_6) : w ∈ tables_1 := List.mem_append_right _ (List.mem_append_right _ (List.mem_append_right _ (List.mem_append_right _ (List.mem_append_right _ (List.mem_append_left _ h)))))
theorem lw_t7 {w : Cond} (h : w ∈ tables_1_7) : w ∈ tables_1 := List.mem_append_right _ (List.mem_append_right _ (List.mem_append_right _ (List.mem_append_right _ (List.mem_append_right _ (List.mem_append_right _ (List.mem_append_left _ h))))))
theorem lw_t8 {w : Cond} (h : w ∈ tables_1_8) : w ∈ tables_1 := List.mem_append_right _ (List.mem_append_right _ (List.mem_append_right _ (List.mem_append_right _ (List.mem_append_right _ (List.mem_append_right _ (List.mem_append_right _ (List.mem_append_left _ h)))))))
theorem lw_t9 {w : Cond} (h : w ∈ tables_1_9) : w ∈ tables_1 := List.mem_append_right _ (List.mem_append_right _ (List.mem_append_right _ (List.mem_append_right _ (List.mem_append_right _ (List.mem_append_right _ (List.mem_append_right _ (List.mem_append_right _ (List.mem_append_left _ h))))))))
theorem lw_t10 {w : Cond} (h : w ∈ tables_1_10) : w ∈ tables_1 := List.mem_append_right _ (List.mem_append_right _ (List.mem_append_right _ (List.mem_append_right _ (List.mem_append_right _ (List.mem_append_right _ (List.mem_append_right _ (List.mem_append_right _ (List.mem_append_right _ (List.mem_append_left _ h)))))))))
theorem lw_t11 {w : Cond} (h : w ∈ tables_1_11) : w ∈ tables_1 := List.mem_append_right _ (List.mem_append_right _ (List.mem_append_right _ (List.mem_append_right _ (List.mem_append_right _ (List.mem_append_right _ (List.mem_append_right _ (List.mem_append_right _ (List.mem_append_right _ (List.mem_append_right _ h)))))))))
theorem lw_p0 : lw_okq (⟨"java/lang/Throwable", "fillInStackTrace", "(I)Ljava/lang/Throwable;"⟩, 6) := ⟨⟨by decide +kernel, by decide +kernel⟩, lw_t2 (List.mem_of_getElem? (i := 97) rfl), lw_t2 (List.mem_of_getElem? (i := 95) rfl), lw_t2 (List.mem_of_getElem? (i := 96) rfl)⟩
theorem lw_p1 : lw_okq (⟨"Publicanry", "isWhole", "()Z"⟩, 16) := ⟨⟨by decide +kernel, by decide +kernel⟩, lw_t1 (List.mem_of_getElem? (i := 49) rfl), lw_t2 (List.mem_of_getElem? (i := 180) rfl), lw_t2 (List.mem_of_getElem? (i := 181) rfl)⟩
theorem lw_p2 : lw_okq (⟨"Publicanry", "clashes", "(LPublicanry$Lot;)Z"⟩, 16) := ⟨⟨by decide +kernel, by decide +kernel⟩, lw_t1 (List.mem_of_getElem? (i := 49) rfl), lw_t2 (List.mem_of_getElem? (i := 194) rfl), lw_t2 (List.mem_of_getElem? (i := 195) rfl)⟩
theorem lw_p3 : lw_okq (⟨"Publicanry", "told", "(I)I"⟩, 16) := ⟨⟨by decide +kernel, by decide +kernel⟩, lw_t1 (List.mem_of_getElem? (i := 49) rfl), lw_t2 (List.mem_of_getElem? (i := 216) rfl), lw_t2 (List.mem_of_getElem? (i := 217) rfl)⟩
theorem lw_p4 : lw_okq (⟨"Publicanry", "year", "()I"⟩, 16) := ⟨⟨by decide +kernel, by decide +kernel⟩, lw_t1 (List.mem_of_getElem? (i := 49) rfl), lw_t2 (List.mem_of_getElem? (i := 220) rfl), lw_t2 (List.mem_of_getElem? (i := 221) rfl)⟩
theorem lw_p5 : lw_okq (⟨"Publicanry", "houses", "()I"⟩, 16) := ⟨⟨by decide +kernel, by decide +kernel⟩, lw_t1 (List.mem_of_getElem? (i := 49) rfl), lw_t2 (List.mem_of_getElem? (i := 228) rfl), lw_t2 (List.mem_of_getElem? (i := 229) rfl)⟩
theorem lw_p6 : lw_okq (⟨"Publicanry", "oldStones", "()I"⟩, 16) := ⟨⟨by decide +kernel, by decide +kernel⟩, lw_t1 (List.mem_of_getElem? (i := 49) rfl), lw_t2 (List.mem_of_getElem? (i := 232) rfl), lw_t2 (List.mem_of_getElem? (i := 233) rfl)⟩
theorem lw_p7 : lw_okq (⟨"Publicanry", "add", "(J)V"⟩, 16) := ⟨⟨by decide +kernel, by decide +kernel⟩, lw_t1 (List.mem_of_getElem? (i := 49) rfl), lw_t3 (List.mem_of_getElem? (i := 38) rfl), lw_t3 (List.mem_of_getElem? (i := 39) rfl)⟩
theorem lw_p8 : lw_okq (⟨"Publicanry", "direct", "(LPublicanry$Duty;)I"⟩, 16) := ⟨⟨by decide +kernel, by decide +kernel⟩, lw_t1 (List.mem_of_getElem? (i := 49) rfl), lw_t3 (List.mem_of_getElem? (i := 54) rfl), lw_t3 (List.mem_of_getElem? (i := 55) rfl)⟩
theorem lw_p9 : lw_okq (⟨"Publicanry", "isLet", "(LPublicanry$Village;LPublicanry$Duty;)Z"⟩, 16) := ⟨⟨by decide +kernel, by decide +kernel⟩, lw_t1 (List.mem_of_getElem? (i := 49) rfl), lw_t3 (List.mem_of_getElem? (i := 58) rfl), lw_t3 (List.mem_of_getElem? (i := 59) rfl)⟩
theorem lw_p10 : lw_okq (⟨"Publicanry", "dueByLaw", "(LPublicanry$Village;LPublicanry$Duty;)I"⟩, 16) := ⟨⟨by decide +kernel, by decide +kernel⟩, lw_t1 (List.mem_of_getElem? (i := 49) rfl), lw_t3 (List.mem_of_getElem? (i := 65) rfl), lw_t3 (List.mem_of_getElem? (i := 66) rfl)⟩
theorem lw_p11 : lw_okq (⟨"Publicanry", "addVillage", "(LPublicanry$Village;)V"⟩, 16) := ⟨⟨by decide +kernel, by decide +kernel⟩, lw_t1 (List.mem_of_getElem? (i := 49) rfl), lw_t3 (List.mem_of_getElem? (i := 120) rfl), lw_t3 (List.mem_of_getElem? (i := 121) rfl)⟩
theorem lw_p12 : lw_okq (⟨"Publicanry", "addCompany", "(LPublicanry$Company;)V"⟩, 16) := ⟨⟨by decide +kernel, by decide +kernel⟩, lw_t1 (List.mem_of_getElem? (i := 49) rfl), lw_t3 (List.mem_of_getElem? (i := 161) rfl), lw_t3 (List.mem_of_getElem? (i := 162) rfl)⟩
theorem lw_p13 : lw_okq (⟨"Publicanry", "told", "(LPublicanry$Company;I)I"⟩, 16) := ⟨⟨by decide +kernel, by decide +kernel⟩, lw_t1 (List.mem_of_getElem? (i := 49) rfl), lw_t3 (List.mem_of_getElem? (i := 165) rfl), lw_t3 (List.mem_of_getElem? (i := 166) rfl)⟩
theorem lw_p14 : lw_okq (⟨"Publicanry", "lotsOf", "(LPublicanry$Company;)I"⟩, 16) := ⟨⟨by decide +kernel, by decide +kernel⟩, lw_t1 (List.mem_of_getElem? (i := 49) rfl), lw_t3 (List.mem_of_getElem? (i := 179) rfl), lw_t3 (List.mem_of_getElem? (i := 180) rfl)⟩
theorem lw_p15 : lw_okq (⟨"Publicanry", "bring", "(LPublicanry$Lot;I)I"⟩, 16) := ⟨⟨by decide +kernel, by decide +kernel⟩, lw_t1 (List.mem_of_getElem? (i := 49) rfl), lw_t3 (List.mem_of_getElem? (i := 205) rfl), lw_t3 (List.mem_of_getElem? (i := 206) rfl)⟩
def lw_privs_1 : List (MethodName × Nat) := [(⟨"java/lang/Throwable", "fillInStackTrace", "(I)Ljava/lang/Throwable;"⟩, 6), (⟨"Publicanry", "isWhole", "()Z"⟩, 16), (⟨"Publicanry", "clashes", "(LPublicanry$Lot;)Z"⟩, 16), (⟨"Publicanry", "told", "(I)I"⟩, 16), (⟨"Publicanry", "year", "()I"⟩, 16), (⟨"Publicanry", "houses", "()I"⟩, 16), (⟨"Publicanry", "oldStones", "()I"⟩, 16), (⟨"Publicanry", "add", "(J)V"⟩, 16), (⟨"Publicanry", "direct", "(LPublicanry$Duty;)I"⟩, 16), (⟨"Publicanry", "isLet", "(LPublicanry$Village;LPublicanry$Duty;)Z"⟩, 16), (⟨"Publicanry", "dueByLaw", "(LPublicanry$Village;LPublicanry$Duty;)I"⟩, 16), (⟨"Publicanry", "addVillage", "(LPublicanry$Village;)V"⟩, 16), (⟨"Publicanry", "addCompany", "(LPublicanry$Company;)V"⟩, 16), (⟨"Publicanry", "told", "(LPublicanry$Company;I)I"⟩, 16), (⟨"Publicanry", "lotsOf", "(LPublicanry$Company;)I"⟩, 16), (⟨"Publicanry", "bring", "(LPublicanry$Lot;I)I"⟩, 16)]
theorem lw_r1 : ∀ q ∈ lw_privs_1, lw_okq q := List.forall_mem_cons.mpr ⟨lw_p0, List.forall_mem_cons.mpr ⟨lw_p1, List.forall_mem_cons.mpr ⟨lw_p2, List.forall_mem_cons.mpr ⟨lw_p3, List.forall_mem_cons.mpr ⟨lw_p4, List.forall_mem_cons.mpr ⟨lw_p5, List.forall_mem_cons.mpr ⟨lw_p6, List.forall_mem_cons.mpr ⟨lw_p7, List.forall_mem_cons.mpr ⟨lw_p8, List.forall_mem_cons.mpr ⟨lw_p9, List.forall_mem_cons.mpr ⟨lw_p10, List.forall_mem_cons.mpr ⟨lw_p11, List.forall_mem_cons.mpr ⟨lw_p12, List.forall_mem_cons.mpr ⟨lw_p13, List.forall_mem_cons.mpr ⟨lw_p14, List.forall_mem_cons.mpr ⟨lw_p15, fun _ h => absurd h List.not_mem_nil⟩⟩⟩⟩⟩⟩⟩⟩⟩⟩⟩⟩⟩⟩⟩⟩
theorem lw_p16 : lw_okq (⟨"Publicanry", "best", "(LPublicanry$Lot;)I"⟩, 16) := ⟨⟨by decide +kernel, by decide +kernel⟩, lw_t1 (List.mem_of_getElem? (i := 49) rfl), lw_t3 (List.mem_of_getElem? (i := 209) rfl), lw_t3 (List.mem_of_getElem? (i := 210) rfl)⟩
theorem lw_p17 : lw_okq (⟨"java/util/ArrayList", "add", "(Ljava/lang/Object;[Ljava/lang/Object;I)V"⟩, 3) := ⟨⟨by decide +kernel, by decide +kernel⟩, lw_t1 (List.mem_of_getElem? (i := 57) rfl), lw_t4 (List.mem_of_getElem? (i := 57) rfl), lw_t4 (List.mem_of_getElem? (i := 58) rfl)⟩
theorem lw_p18 : lw_okq (⟨"java/util/ArrayList", "grow", "()[Ljava/lang/Object;"⟩, 3) := ⟨⟨by decide +kernel, by decide +kernel⟩, lw_t1 (List.mem_of_getElem? (i := 57) rfl), lw_t4 (List.mem_of_getElem? (i := 61) rfl), lw_t4 (List.mem_of_getElem? (i := 62) rfl)⟩
theorem lw_p19 : lw_okq (⟨"java/util/ArrayList", "grow", "(I)[Ljava/lang/Object;"⟩, 3) := ⟨⟨by decide +kernel, by decide +kernel⟩, lw_t1 (List.mem_of_getElem? (i := 57) rfl), lw_t4 (List.mem_of_getElem? (i := 65) rfl), lw_t4 (List.mem_of_getElem? (i := 66) rfl)⟩
theorem lw_p20 : lw_okq (⟨"Publicanry", "villageOf", "(I)LPublicanry$Village;"⟩, 16) := ⟨⟨by decide +kernel, by decide +kernel⟩, lw_t1 (List.mem_of_getElem? (i := 49) rfl), lw_t4 (List.mem_of_getElem? (i := 237) rfl), lw_t4 (List.mem_of_getElem? (i := 238) rfl)⟩
theorem lw_p21 : lw_okq (⟨"Publicanry", "areVillages", "(I)Z"⟩, 16) := ⟨⟨by decide +kernel, by decide +kernel⟩, lw_t1 (List.mem_of_getElem? (i := 49) rfl), lw_t5 (List.mem_of_getElem? (i := 31) rfl), lw_t5 (List.mem_of_getElem? (i := 32) rfl)⟩
theorem lw_p22 : lw_okq (⟨"Publicanry", "companyOf", "(I)LPublicanry$Company;"⟩, 16) := ⟨⟨by decide +kernel, by decide +kernel⟩, lw_t1 (List.mem_of_getElem? (i := 49) rfl), lw_t5 (List.mem_of_getElem? (i := 144) rfl), lw_t5 (List.mem_of_getElem? (i := 145) rfl)⟩
theorem lw_p23 : lw_okq (⟨"Publicanry$Company", "greatest", "([J)I"⟩, 12) := ⟨⟨by decide +kernel, by decide +kernel⟩, lw_t5 (List.mem_of_getElem? (i := 78) rfl), lw_t5 (List.mem_of_getElem? (i := 192) rfl), lw_t5 (List.mem_of_getElem? (i := 193) rfl)⟩
theorem lw_p24 : lw_okq (⟨"Publicanry", "lotOf", "(I)LPublicanry$Lot;"⟩, 16) := ⟨⟨by decide +kernel, by decide +kernel⟩, lw_t1 (List.mem_of_getElem? (i := 49) rfl), lw_t6 (List.mem_of_getElem? (i := 45) rfl), lw_t6 (List.mem_of_getElem? (i := 46) rfl)⟩
theorem lw_p25 : lw_okq (⟨"Publicanry", "winner", "(LPublicanry$Lot;)Ljava/util/Optional;"⟩, 16) := ⟨⟨by decide +kernel, by decide +kernel⟩, lw_t1 (List.mem_of_getElem? (i := 49) rfl), lw_t6 (List.mem_of_getElem? (i := 63) rfl), lw_t6 (List.mem_of_getElem? (i := 64) rfl)⟩
theorem lw_p26 : lw_okq (⟨"Publicanry", "price", "(LPublicanry$Lot;LPublicanry$Company;)I"⟩, 16) := ⟨⟨by decide +kernel, by decide +kernel⟩, lw_t1 (List.mem_of_getElem? (i := 49) rfl), lw_t6 (List.mem_of_getElem? (i := 105) rfl), lw_t6 (List.mem_of_getElem? (i := 106) rfl)⟩
theorem lw_p27 : lw_okq (⟨"Publicanry", "fallDue", "(LPublicanry$Lot;)V"⟩, 16) := ⟨⟨by decide +kernel, by decide +kernel⟩, lw_t1 (List.mem_of_getElem? (i := 49) rfl), lw_t6 (List.mem_of_getElem? (i := 111) rfl), lw_t6 (List.mem_of_getElem? (i := 112) rfl)⟩
theorem lw_p28 : lw_okq (⟨"Publicanry", "isSuable", "(Ljava/util/Optional;)Z"⟩, 16) := ⟨⟨by decide +kernel, by decide +kernel⟩, lw_t1 (List.mem_of_getElem? (i := 49) rfl), lw_t6 (List.mem_of_getElem? (i := 158) rfl), lw_t6 (List.mem_of_getElem? (i := 159) rfl)⟩
theorem lw_p29 : lw_okq (⟨"Publicanry", "part", "()I"⟩, 16) := ⟨⟨by decide +kernel, by decide +kernel⟩, lw_t1 (List.mem_of_getElem? (i := 49) rfl), lw_t6 (List.mem_of_getElem? (i := 207) rfl), lw_t6 (List.mem_of_getElem? (i := 208) rfl)⟩
theorem lw_p30 : lw_okq (⟨"Publicanry", "begin", "()V"⟩, 16) := ⟨⟨by decide +kernel, by decide +kernel⟩, lw_t1 (List.mem_of_getElem? (i := 49) rfl), lw_t6 (List.mem_of_getElem? (i := 237) rfl), lw_t6 (List.mem_of_getElem? (i := 238) rfl)⟩
theorem lw_p31 : lw_okq (⟨"Publicanry", "spring", "()V"⟩, 16) := ⟨⟨by decide +kernel, by decide +kernel⟩, lw_t1 (List.mem_of_getElem? (i := 49) rfl), lw_t7 (List.mem_of_getElem? (i := 1) rfl), lw_t7 (List.mem_of_getElem? (i := 2) rfl)⟩
def lw_privs_2 : List (MethodName × Nat) := [(⟨"Publicanry", "best", "(LPublicanry$Lot;)I"⟩, 16), (⟨"java/util/ArrayList", "add", "(Ljava/lang/Object;[Ljava/lang/Object;I)V"⟩, 3), (⟨"java/util/ArrayList", "grow", "()[Ljava/lang/Object;"⟩, 3), (⟨"java/util/ArrayList", "grow", "(I)[Ljava/lang/Object;"⟩, 3), (⟨"Publicanry", "villageOf", "(I)LPublicanry$Village;"⟩, 16), (⟨"Publicanry", "areVillages", "(I)Z"⟩, 16), (⟨"Publicanry", "companyOf", "(I)LPublicanry$Company;"⟩, 16), (⟨"Publicanry$Company", "greatest", "([J)I"⟩, 12), (⟨"Publicanry", "lotOf", "(I)LPublicanry$Lot;"⟩, 16), (⟨"Publicanry", "winner", "(LPublicanry$Lot;)Ljava/util/Optional;"⟩, 16), (⟨"Publicanry", "price", "(LPublicanry$Lot;LPublicanry$Company;)I"⟩, 16), (⟨"Publicanry", "fallDue", "(LPublicanry$Lot;)V"⟩, 16), (⟨"Publicanry", "isSuable", "(Ljava/util/Optional;)Z"⟩, 16), (⟨"Publicanry", "part", "()I"⟩, 16), (⟨"Publicanry", "begin", "()V"⟩, 16), (⟨"Publicanry", "spring", "()V"⟩, 16)]
theorem lw_r2 : ∀ q ∈ lw_privs_2, lw_okq q := List.forall_mem_cons.mpr ⟨lw_p16, List.forall_mem_cons.mpr ⟨lw_p17, List.forall_mem_cons.mpr ⟨lw_p18, List.forall_mem_cons.mpr ⟨lw_p19, List.forall_mem_cons.mpr ⟨lw_p20, List.forall_mem_cons.mpr ⟨lw_p21, List.forall_mem_cons.mpr ⟨lw_p22, List.forall_mem_cons.mpr ⟨lw_p23, List.forall_mem_cons.mpr ⟨lw_p24, List.forall_mem_cons.mpr ⟨lw_p25, List.forall_mem_cons.mpr ⟨lw_p26, List.forall_mem_cons.mpr ⟨lw_p27, List.forall_mem_cons.mpr ⟨lw_p28, List.forall_mem_cons.mpr ⟨lw_p29, List.forall_mem_cons.mpr ⟨lw_p30, List.forall_mem_cons.mpr ⟨lw_p31, fun _ h => absurd h List.not_mem_nil⟩⟩⟩⟩⟩⟩⟩⟩⟩⟩⟩⟩⟩⟩⟩⟩
theorem lw_p32 : lw_okq (⟨"Publicanry", "autumn", "(LPublicanry$Lot;)V"⟩, 16) := ⟨⟨by decide +kernel, by decide +kernel⟩, lw_t1 (List.mem_of_getElem? (i := 49) rfl), lw_t7 (List.mem_of_getElem? (i := 18) rfl), lw_t7 (List.mem_of_getElem? (i := 19) rfl)⟩
theorem lw_p33 : lw_okq (⟨"Publicanry", "collect", "(LPublicanry$Lot;LPublicanry$Village;)V"⟩, 16) := ⟨⟨by decide +kernel, by decide +kernel⟩, lw_t1 (List.mem_of_getElem? (i := 49) rfl), lw_t7 (List.mem_of_getElem? (i := 22) rfl), lw_t7 (List.mem_of_getElem? (i := 23) rfl)⟩
theorem lw_p34 : lw_okq (⟨"Publicanry", "clerks", "(LPublicanry$Duty;)V"⟩, 16) := ⟨⟨by decide +kernel, by decide +kernel⟩, lw_t1 (List.mem_of_getElem? (i := 49) rfl), lw_t7 (List.mem_of_getElem? (i := 58) rfl), lw_t7 (List.mem_of_getElem? (i := 59) rfl)⟩
theorem lw_p35 : lw_okq (⟨"Publicanry$Village", "flee", "()V"⟩, 18) := ⟨⟨by decide +kernel, by decide +kernel⟩, lw_t4 (List.mem_of_getElem? (i := 38) rfl), lw_t7 (List.mem_of_getElem? (i := 68) rfl), lw_t7 (List.mem_of_getElem? (i := 69) rfl)⟩
theorem lw_p36 : lw_okq (⟨"Publicanry", "due", "(LPublicanry$Village;LPublicanry$Duty;Z)I"⟩, 16) := ⟨⟨by decide +kernel, by decide +kernel⟩, lw_t1 (List.mem_of_getElem? (i := 49) rfl), lw_t7 (List.mem_of_getElem? (i := 92) rfl), lw_t7 (List.mem_of_getElem? (i := 93) rfl)⟩
theorem lw_p37 : lw_okq (⟨"PublicanryModel", "start", "(ZI)Z"⟩, 22) := ⟨⟨by decide +kernel, by decide +kernel⟩, lw_t8 (List.mem_of_getElem? (i := 185) rfl), lw_t9 (List.mem_of_getElem? (i := 31) rfl), lw_t9 (List.mem_of_getElem? (i := 32) rfl)⟩
theorem lw_p38 : lw_okq (⟨"PublicanryModel", "refuse", "(ZI)Z"⟩, 22) := ⟨⟨by decide +kernel, by decide +kernel⟩, lw_t8 (List.mem_of_getElem? (i := 185) rfl), lw_t9 (List.mem_of_getElem? (i := 35) rfl), lw_t9 (List.mem_of_getElem? (i := 36) rfl)⟩
theorem lw_p39 : lw_okq (⟨"PublicanryModel", "cutStone", "(I)V"⟩, 22) := ⟨⟨by decide +kernel, by decide +kernel⟩, lw_t8 (List.mem_of_getElem? (i := 185) rfl), lw_t9 (List.mem_of_getElem? (i := 105) rfl), lw_t9 (List.mem_of_getElem? (i := 106) rfl)⟩
theorem lw_p40 : lw_okq (⟨"PublicanryModel", "isNoVillage", "(I)Z"⟩, 22) := ⟨⟨by decide +kernel, by decide +kernel⟩, lw_t8 (List.mem_of_getElem? (i := 185) rfl), lw_t9 (List.mem_of_getElem? (i := 117) rfl), lw_t9 (List.mem_of_getElem? (i := 118) rfl)⟩
theorem lw_p41 : lw_okq (⟨"PublicanryModel", "treasuryPays", "(I)V"⟩, 22) := ⟨⟨by decide +kernel, by decide +kernel⟩, lw_t8 (List.mem_of_getElem? (i := 185) rfl), lw_t9 (List.mem_of_getElem? (i := 126) rfl), lw_t9 (List.mem_of_getElem? (i := 127) rfl)⟩
theorem lw_p42 : lw_okq (⟨"PublicanryModel", "isNoCompany", "(I)Z"⟩, 22) := ⟨⟨by decide +kernel, by decide +kernel⟩, lw_t8 (List.mem_of_getElem? (i := 185) rfl), lw_t9 (List.mem_of_getElem? (i := 197) rfl), lw_t9 (List.mem_of_getElem? (i := 198) rfl)⟩
theorem lw_p43 : lw_okq (⟨"PublicanryModel", "isTaken", "(II)Z"⟩, 22) := ⟨⟨by decide +kernel, by decide +kernel⟩, lw_t8 (List.mem_of_getElem? (i := 185) rfl), lw_t10 (List.mem_of_getElem? (i := 12) rfl), lw_t10 (List.mem_of_getElem? (i := 13) rfl)⟩
theorem lw_p44 : lw_okq (⟨"PublicanryModel", "isNoLot", "(I)Z"⟩, 22) := ⟨⟨by decide +kernel, by decide +kernel⟩, lw_t8 (List.mem_of_getElem? (i := 185) rfl), lw_t10 (List.mem_of_getElem? (i := 76) rfl), lw_t10 (List.mem_of_getElem? (i := 77) rfl)⟩
theorem lw_p45 : lw_okq (⟨"PublicanryModel", "free", "(I)I"⟩, 22) := ⟨⟨by decide +kernel, by decide +kernel⟩, lw_t8 (List.mem_of_getElem? (i := 185) rfl), lw_t10 (List.mem_of_getElem? (i := 80) rfl), lw_t10 (List.mem_of_getElem? (i := 81) rfl)⟩
theorem lw_p46 : lw_okq (⟨"PublicanryModel", "pledged", "(I)I"⟩, 22) := ⟨⟨by decide +kernel, by decide +kernel⟩, lw_t8 (List.mem_of_getElem? (i := 185) rfl), lw_t10 (List.mem_of_getElem? (i := 84) rfl), lw_t10 (List.mem_of_getElem? (i := 85) rfl)⟩
theorem lw_p47 : lw_okq (⟨"PublicanryModel", "best", "(LPublicanryModel$Lot;I)I"⟩, 22) := ⟨⟨by decide +kernel, by decide +kernel⟩, lw_t8 (List.mem_of_getElem? (i := 185) rfl), lw_t10 (List.mem_of_getElem? (i := 96) rfl), lw_t10 (List.mem_of_getElem? (i := 97) rfl)⟩
def lw_privs_3 : List (MethodName × Nat) := [(⟨"Publicanry", "autumn", "(LPublicanry$Lot;)V"⟩, 16), (⟨"Publicanry", "collect", "(LPublicanry$Lot;LPublicanry$Village;)V"⟩, 16), (⟨"Publicanry", "clerks", "(LPublicanry$Duty;)V"⟩, 16), (⟨"Publicanry$Village", "flee", "()V"⟩, 18), (⟨"Publicanry", "due", "(LPublicanry$Village;LPublicanry$Duty;Z)I"⟩, 16), (⟨"PublicanryModel", "start", "(ZI)Z"⟩, 22), (⟨"PublicanryModel", "refuse", "(ZI)Z"⟩, 22), (⟨"PublicanryModel", "cutStone", "(I)V"⟩, 22), (⟨"PublicanryModel", "isNoVillage", "(I)Z"⟩, 22), (⟨"PublicanryModel", "treasuryPays", "(I)V"⟩, 22), (⟨"PublicanryModel", "isNoCompany", "(I)Z"⟩, 22), (⟨"PublicanryModel", "isTaken", "(II)Z"⟩, 22), (⟨"PublicanryModel", "isNoLot", "(I)Z"⟩, 22), (⟨"PublicanryModel", "free", "(I)I"⟩, 22), (⟨"PublicanryModel", "pledged", "(I)I"⟩, 22), (⟨"PublicanryModel", "best", "(LPublicanryModel$Lot;I)I"⟩, 22)]
theorem lw_r3 : ∀ q ∈ lw_privs_3, lw_okq q := List.forall_mem_cons.mpr ⟨lw_p32, List.forall_mem_cons.mpr ⟨lw_p33, List.forall_mem_cons.mpr ⟨lw_p34, List.forall_mem_cons.mpr ⟨lw_p35, List.forall_mem_cons.mpr ⟨lw_p36, List.forall_mem_cons.mpr ⟨lw_p37, List.forall_mem_cons.mpr ⟨lw_p38, List.forall_mem_cons.mpr ⟨lw_p39, List.forall_mem_cons.mpr ⟨lw_p40, List.forall_mem_cons.mpr ⟨lw_p41, List.forall_mem_cons.mpr ⟨lw_p42, List.forall_mem_cons.mpr ⟨lw_p43, List.forall_mem_cons.mpr ⟨lw_p44, List.forall_mem_cons.mpr ⟨lw_p45, List.forall_mem_cons.mpr ⟨lw_p46, List.forall_mem_cons.mpr ⟨lw_p47, fun _ h => absurd h List.not_mem_nil⟩⟩⟩⟩⟩⟩⟩⟩⟩⟩⟩⟩⟩⟩⟩⟩
theorem lw_p48 : lw_okq (⟨"PublicanryModel", "counts", "(LPublicanryModel$Lot;I)Z"⟩, 22) := ⟨⟨by decide +kernel, by decide +kernel⟩, lw_t8 (List.mem_of_getElem? (i := 185) rfl), lw_t10 (List.mem_of_getElem? (i := 100) rfl), lw_t10 (List.mem_of_getElem? (i := 101) rfl)⟩
theorem lw_p49 : lw_okq (⟨"PublicanryModel", "fallDue", "(LPublicanryModel$Lot;)V"⟩, 22) := ⟨⟨by decide +kernel, by decide +kernel⟩, lw_t8 (List.mem_of_getElem? (i := 185) rfl), lw_t10 (List.mem_of_getElem? (i := 104) rfl), lw_t10 (List.mem_of_getElem? (i := 105) rfl)⟩
theorem lw_p50 : lw_okq (⟨"PublicanryModel", "year", "()I"⟩, 22) := ⟨⟨by decide +kernel, by decide +kernel⟩, lw_t8 (List.mem_of_getElem? (i := 185) rfl), lw_t10 (List.mem_of_getElem? (i := 127) rfl), lw_t10 (List.mem_of_getElem? (i := 128) rfl)⟩
theorem lw_p51 : lw_okq (⟨"PublicanryModel", "votesNow", "(III)I"⟩, 22) := ⟨⟨by decide +kernel, by decide +kernel⟩, lw_t8 (List.mem_of_getElem? (i := 185) rfl), lw_t10 (List.mem_of_getElem? (i := 131) rfl), lw_t10 (List.mem_of_getElem? (i := 132) rfl)⟩
theorem lw_p52 : lw_okq (⟨"PublicanryModel", "spring", "()V"⟩, 22) := ⟨⟨by decide +kernel, by decide +kernel⟩, lw_t8 (List.mem_of_getElem? (i := 185) rfl), lw_t10 (List.mem_of_getElem? (i := 169) rfl), lw_t10 (List.mem_of_getElem? (i := 170) rfl)⟩
theorem lw_p53 : lw_okq (⟨"PublicanryModel", "summer", "()V"⟩, 22) := ⟨⟨by decide +kernel, by decide +kernel⟩, lw_t8 (List.mem_of_getElem? (i := 185) rfl), lw_t10 (List.mem_of_getElem? (i := 173) rfl), lw_t10 (List.mem_of_getElem? (i := 174) rfl)⟩
theorem lw_p54 : lw_okq (⟨"PublicanryModel", "collect", "(LPublicanryModel$Lot;)V"⟩, 22) := ⟨⟨by decide +kernel, by decide +kernel⟩, lw_t8 (List.mem_of_getElem? (i := 185) rfl), lw_t10 (List.mem_of_getElem? (i := 180) rfl), lw_t10 (List.mem_of_getElem? (i := 181) rfl)⟩
theorem lw_p55 : lw_okq (⟨"PublicanryModel", "collect", "(LPublicanryModel$Lot;II)V"⟩, 22) := ⟨⟨by decide +kernel, by decide +kernel⟩, lw_t8 (List.mem_of_getElem? (i := 185) rfl), lw_t10 (List.mem_of_getElem? (i := 236) rfl), lw_t10 (List.mem_of_getElem? (i := 237) rfl)⟩
theorem lw_p56 : lw_okq (⟨"PublicanryModel", "dueNow", "(IIZ)I"⟩, 22) := ⟨⟨by decide +kernel, by decide +kernel⟩, lw_t8 (List.mem_of_getElem? (i := 185) rfl), lw_t11 (List.mem_of_getElem? (i := 0) rfl), lw_t11 (List.mem_of_getElem? (i := 1) rfl)⟩
theorem lw_p57 : lw_okq (⟨"PublicanryModel", "clerk", "(I)V"⟩, 22) := ⟨⟨by decide +kernel, by decide +kernel⟩, lw_t8 (List.mem_of_getElem? (i := 185) rfl), lw_t11 (List.mem_of_getElem? (i := 10) rfl), lw_t11 (List.mem_of_getElem? (i := 11) rfl)⟩
theorem lw_p58 : lw_okq (⟨"PublicanryModel", "isLeased", "(II)Z"⟩, 22) := ⟨⟨by decide +kernel, by decide +kernel⟩, lw_t8 (List.mem_of_getElem? (i := 185) rfl), lw_t11 (List.mem_of_getElem? (i := 14) rfl), lw_t11 (List.mem_of_getElem? (i := 15) rfl)⟩
theorem lw_p59 : lw_okq (⟨"PublicanryModel", "byClerks", "(II)I"⟩, 22) := ⟨⟨by decide +kernel, by decide +kernel⟩, lw_t8 (List.mem_of_getElem? (i := 185) rfl), lw_t11 (List.mem_of_getElem? (i := 18) rfl), lw_t11 (List.mem_of_getElem? (i := 19) rfl)⟩
theorem lw_p60 : lw_okq (⟨"PublicanryModel", "live", "(LPublicanryModel$Village;)V"⟩, 22) := ⟨⟨by decide +kernel, by decide +kernel⟩, lw_t8 (List.mem_of_getElem? (i := 185) rfl), lw_t11 (List.mem_of_getElem? (i := 22) rfl), lw_t11 (List.mem_of_getElem? (i := 23) rfl)⟩
theorem lw_p61 : lw_okq (⟨"PublicanryModel", "sell", "(LPublicanryModel$Village;)V"⟩, 22) := ⟨⟨by decide +kernel, by decide +kernel⟩, lw_t8 (List.mem_of_getElem? (i := 185) rfl), lw_t11 (List.mem_of_getElem? (i := 26) rfl), lw_t11 (List.mem_of_getElem? (i := 27) rfl)⟩
theorem lw_p62 : lw_okq (⟨"PublicanryModel", "ofVillageNow", "(LPublicanryModel$Village;I)I"⟩, 22) := ⟨⟨by decide +kernel, by decide +kernel⟩, lw_t8 (List.mem_of_getElem? (i := 185) rfl), lw_t11 (List.mem_of_getElem? (i := 38) rfl), lw_t11 (List.mem_of_getElem? (i := 39) rfl)⟩
theorem lw_p63 : lw_okq (⟨"PublicanryModel", "levyNow", "(III)I"⟩, 22) := ⟨⟨by decide +kernel, by decide +kernel⟩, lw_t8 (List.mem_of_getElem? (i := 185) rfl), lw_t11 (List.mem_of_getElem? (i := 50) rfl), lw_t11 (List.mem_of_getElem? (i := 51) rfl)⟩
def lw_privs_4 : List (MethodName × Nat) := [(⟨"PublicanryModel", "counts", "(LPublicanryModel$Lot;I)Z"⟩, 22), (⟨"PublicanryModel", "fallDue", "(LPublicanryModel$Lot;)V"⟩, 22), (⟨"PublicanryModel", "year", "()I"⟩, 22), (⟨"PublicanryModel", "votesNow", "(III)I"⟩, 22), (⟨"PublicanryModel", "spring", "()V"⟩, 22), (⟨"PublicanryModel", "summer", "()V"⟩, 22), (⟨"PublicanryModel", "collect", "(LPublicanryModel$Lot;)V"⟩, 22), (⟨"PublicanryModel", "collect", "(LPublicanryModel$Lot;II)V"⟩, 22), (⟨"PublicanryModel", "dueNow", "(IIZ)I"⟩, 22), (⟨"PublicanryModel", "clerk", "(I)V"⟩, 22), (⟨"PublicanryModel", "isLeased", "(II)Z"⟩, 22), (⟨"PublicanryModel", "byClerks", "(II)I"⟩, 22), (⟨"PublicanryModel", "live", "(LPublicanryModel$Village;)V"⟩, 22), (⟨"PublicanryModel", "sell", "(LPublicanryModel$Village;)V"⟩, 22), (⟨"PublicanryModel", "ofVillageNow", "(LPublicanryModel$Village;I)I"⟩, 22), (⟨"PublicanryModel", "levyNow", "(III)I"⟩, 22)]
theorem lw_r4 : ∀ q ∈ lw_privs_4, lw_okq q := List.forall_mem_cons.mpr ⟨lw_p48, List.forall_mem_cons.mpr ⟨lw_p49, List.forall_mem_cons.mpr ⟨lw_p50, List.forall_mem_cons.mpr ⟨lw_p51, List.forall_mem_cons.mpr ⟨lw_p52, List.forall_mem_cons.mpr ⟨lw_p53, List.forall_mem_cons.mpr ⟨lw_p54, List.forall_mem_cons.mpr ⟨lw_p55, List.forall_mem_cons.mpr ⟨lw_p56, List.forall_mem_cons.mpr ⟨lw_p57, List.forall_mem_cons.mpr ⟨lw_p58, List.forall_mem_cons.mpr ⟨lw_p59, List.forall_mem_cons.mpr ⟨lw_p60, List.forall_mem_cons.mpr ⟨lw_p61, List.forall_mem_cons.mpr ⟨lw_p62, List.forall_mem_cons.mpr ⟨lw_p63, fun _ h => absurd h List.not_mem_nil⟩⟩⟩⟩⟩⟩⟩⟩⟩⟩⟩⟩⟩⟩⟩⟩
theorem lw_p64 : lw_okq (⟨"PublicanryModel", "lawNow", "(II)I"⟩, 22) := ⟨⟨by decide +kernel, by decide +kernel⟩, lw_t8 (List.mem_of_getElem? (i := 185) rfl), lw_t11 (List.mem_of_getElem? (i := 58) rfl), lw_t11 (List.mem_of_getElem? (i := 59) rfl)⟩
theorem lw_p65 : lw_okq (⟨"PublicanryModel", "ofCompanyNow", "(II)I"⟩, 22) := ⟨⟨by decide +kernel, by decide +kernel⟩, lw_t8 (List.mem_of_getElem? (i := 185) rfl), lw_t11 (List.mem_of_getElem? (i := 66) rfl), lw_t11 (List.mem_of_getElem? (i := 67) rfl)⟩
theorem lw_p66 : lw_okq (⟨"PublicanryModel", "ofLotNow", "(LPublicanryModel$Lot;I)I"⟩, 22) := ⟨⟨by decide +kernel, by decide +kernel⟩, lw_t8 (List.mem_of_getElem? (i := 185) rfl), lw_t11 (List.mem_of_getElem? (i := 78) rfl), lw_t11 (List.mem_of_getElem? (i := 79) rfl)⟩
theorem lw_p67 : lw_okq (⟨"PublicanryModel", "landNow", "(I)I"⟩, 22) := ⟨⟨by decide +kernel, by decide +kernel⟩, lw_t8 (List.mem_of_getElem? (i := 185) rfl), lw_t11 (List.mem_of_getElem? (i := 86) rfl), lw_t11 (List.mem_of_getElem? (i := 87) rfl)⟩
theorem lw_p68 : lw_okq (⟨"PublicanryModel", "gainNow", "(I)D"⟩, 22) := ⟨⟨by decide +kernel, by decide +kernel⟩, lw_t8 (List.mem_of_getElem? (i := 185) rfl), lw_t11 (List.mem_of_getElem? (i := 109) rfl), lw_t11 (List.mem_of_getElem? (i := 110) rfl)⟩
theorem lw_p69 : lw_okq (⟨"PublicanryModel", "wouldBringNow", "(LPublicanryModel$Lot;I)I"⟩, 22) := ⟨⟨by decide +kernel, by decide +kernel⟩, lw_t8 (List.mem_of_getElem? (i := 185) rfl), lw_t11 (List.mem_of_getElem? (i := 117) rfl), lw_t11 (List.mem_of_getElem? (i := 118) rfl)⟩
theorem lw_p70 : lw_okq (⟨"PublicanryModel", "bestForceNow", "(LPublicanryModel$Lot;)I"⟩, 22) := ⟨⟨by decide +kernel, by decide +kernel⟩, lw_t8 (List.mem_of_getElem? (i := 185) rfl), lw_t11 (List.mem_of_getElem? (i := 125) rfl), lw_t11 (List.mem_of_getElem? (i := 126) rfl)⟩
theorem lw_p71 : lw_okq (⟨"PublicanryModel", "directNow", "(I)I"⟩, 22) := ⟨⟨by decide +kernel, by decide +kernel⟩, lw_t8 (List.mem_of_getElem? (i := 185) rfl), lw_t11 (List.mem_of_getElem? (i := 141) rfl), lw_t11 (List.mem_of_getElem? (i := 142) rfl)⟩
theorem lw_p72 : lw_okq (⟨"PublicanryModel", "isSoundNow", "()Z"⟩, 22) := ⟨⟨by decide +kernel, by decide +kernel⟩, lw_t8 (List.mem_of_getElem? (i := 185) rfl), lw_t11 (List.mem_of_getElem? (i := 153) rfl), lw_t11 (List.mem_of_getElem? (i := 154) rfl)⟩
def lw_privs_5 : List (MethodName × Nat) := [(⟨"PublicanryModel", "lawNow", "(II)I"⟩, 22), (⟨"PublicanryModel", "ofCompanyNow", "(II)I"⟩, 22), (⟨"PublicanryModel", "ofLotNow", "(LPublicanryModel$Lot;I)I"⟩, 22), (⟨"PublicanryModel", "landNow", "(I)I"⟩, 22), (⟨"PublicanryModel", "gainNow", "(I)D"⟩, 22), (⟨"PublicanryModel", "wouldBringNow", "(LPublicanryModel$Lot;I)I"⟩, 22), (⟨"PublicanryModel", "bestForceNow", "(LPublicanryModel$Lot;)I"⟩, 22), (⟨"PublicanryModel", "directNow", "(I)I"⟩, 22), (⟨"PublicanryModel", "isSoundNow", "()Z"⟩, 22)]
theorem lw_r5 : ∀ q ∈ lw_privs_5, lw_okq q := List.forall_mem_cons.mpr ⟨lw_p64, List.forall_mem_cons.mpr ⟨lw_p65, List.forall_mem_cons.mpr ⟨lw_p66, List.forall_mem_cons.mpr ⟨lw_p67, List.forall_mem_cons.mpr ⟨lw_p68, List.forall_mem_cons.mpr ⟨lw_p69, List.forall_mem_cons.mpr ⟨lw_p70, List.forall_mem_cons.mpr ⟨lw_p71, List.forall_mem_cons.mpr ⟨lw_p72, fun _ h => absurd h List.not_mem_nil⟩⟩⟩⟩⟩⟩⟩⟩⟩
def lw_privs : List (MethodName × Nat) := lw_privs_1 ++ (lw_privs_2 ++ (lw_privs_3 ++ (lw_privs_4 ++ (lw_privs_5))))
def lw_tbl : List Cond := k2_sels lw_privs ++ tables_1
theorem lw_privs_ok : ∀ q ∈ lw_privs, lw_okq q := by
  show ∀ q ∈ lw_privs_1 ++ (lw_privs_2 ++ (lw_privs_3 ++ (lw_privs_4 ++ (lw_privs_5)))), lw_okq q
  exact List.forall_mem_append.mpr ⟨lw_r1, List.forall_mem_append.mpr ⟨lw_r2, List.forall_mem_append.mpr ⟨lw_r3, List.forall_mem_append.mpr ⟨lw_r4, lw_r5⟩⟩⟩⟩
-- ===== ONE list of words for every method: the tables' words that hold all through a run =====
def lw_all : List Cond := lw_tbl.filter goodWord
/-- a word of the tables by its place: claim/WORDS.tsv -/
theorem lw_w {w : Cond} (i : Nat) (h : lw_tbl[i]? = some w) (g : goodWord w = true) : w ∈ lw_all := List.mem_filter.mpr ⟨List.mem_of_getElem? h, g⟩
theorem lw_all_tbl {w : Cond} (h : w ∈ lw_all) : w ∈ lw_tbl := (List.mem_filter.mp h).1
theorem lw_self : GoodIn lw_all lw_all := fun w h => ⟨h, good_of_word (List.mem_filter.mp h).2⟩
/-- a class's field words, by their places -/
theorem lw_in (ws : List Cond) (ps : List Nat) (hp : ws = ps.filterMap (fun i => lw_tbl[i]?)) (hg : ws.all goodWord = true) : ∀ w ∈ ws, w ∈ lw_all := by
  intro w h
  have h1 := List.all_eq_true.mp hg w h
  rw [hp] at h
  obtain ⟨i, -, hi⟩ := List.mem_filterMap.mp h
  exact lw_w i hi h1
/-- the words of a contract for the method y with code b, L locals, answer r -/
abbrev ws_ (y : MethodName) (b : ByteArray) (L : Nat) (r : Option FieldType) : List Cond := Cond.code y b L r :: lw_all
theorem lw_meth {y : MethodName} {b : ByteArray} {L : Nat} {r : Option FieldType} (h : Cond.code y b L r ∈ lw_all) : GoodIn lw_all (ws_ y b L r) := by
  intro w hw
  rcases List.mem_cons.mp hw with e | e
  · rw [e]
    exact lw_self _ h
  · exact lw_self _ e
theorem lw_app {a c : List Cond} (ha : ∀ w ∈ a, w ∈ lw_all) (hc : GoodIn lw_all c) : GoodIn lw_all (a ++ c) := by
  intro w hw
  rcases List.mem_append.mp hw with e | e
  · exact lw_self w (ha w e)
  · exact hc w e
/-- what a call through an object asks: cwV n hts (lw_V ..) -/
theorem lw_V {own : String} {idx : Nat} {C : String} {y : MethodName} {b : ByteArray} {L : Nat} {r : Option FieldType} (h1 : Cond.methodLink own idx y ∈ lw_all) (h2 : Cond.instanceMethod y ∈ lw_all) (h3 : Cond.selects C y y ∈ lw_all) (h4 : Cond.initialized C ∈ lw_all) (h5 : Cond.code y b L r ∈ lw_all) : GoodIn lw_all (wsV own idx C y (ws_ y b L r)) := by
  refine lw_app ?_ (lw_meth h5)
  intro w hw
  simp only [List.mem_cons, List.not_mem_nil, or_false] at hw
  rcases hw with e | e | e | e
  · rw [e]; exact h1
  · rw [e]; exact h2
  · rw [e]; exact h3
  · rw [e]; exact h4
/-- what a static call asks: va_cwS n hts (lw_S ..) -/
theorem lw_S {own : String} {idx : Nat} {y : MethodName} {b : ByteArray} {L : Nat} {r : Option FieldType} (h1 : Cond.methodLink own idx y ∈ lw_all) (h2 : Cond.static y ∈ lw_all) (h3 : Cond.initialized y.cls ∈ lw_all) (h4 : Cond.code y b L r ∈ lw_all) : GoodIn lw_all (va_wsS own idx y (ws_ y b L r)) := by
  refine lw_app ?_ (lw_meth h4)
  intro w hw
  simp only [List.mem_cons, List.not_mem_nil, or_false] at hw
  rcases hw with e | e | e
  · rw [e]; exact h1
  · rw [e]; exact h2
  · rw [e]; exact h3
/-- the words of a contract for a method WITH HANDLERS (hh: its table) -/
abbrev wsW_ (y : MethodName) (b : ByteArray) (L : Nat) (r : Option FieldType) (hh : List (Nat × Nat × Nat × Nat)) : List Cond := Cond.codeWith y b L r hh :: lw_all
theorem lw_methW {y : MethodName} {b : ByteArray} {L : Nat} {r : Option FieldType} {hh : List (Nat × Nat × Nat × Nat)} (h : Cond.codeWith y b L r hh ∈ lw_all) : GoodIn lw_all (wsW_ y b L r hh) := by
  intro w hw
  rcases List.mem_cons.mp hw with e | e
  · rw [e]
    exact lw_self _ h
  · exact lw_self _ e
/-- any list of words by their places (lw_in), good -/
theorem lw_good {ws : List Cond} (h : ∀ w ∈ ws, w ∈ lw_all) : GoodIn lw_all ws := fun w hw => lw_self w (h w hw)
/-- what a call of a method with handlers asks: vx_cwVW n hts (lw_VW ..), vx_cwSW n hts (lw_SW ..) -/
theorem lw_VW {own : String} {idx : Nat} {C : String} {y : MethodName} {b : ByteArray} {L : Nat} {r : Option FieldType} {hh : List (Nat × Nat × Nat × Nat)} (h1 : Cond.methodLink own idx y ∈ lw_all) (h2 : Cond.instanceMethod y ∈ lw_all) (h3 : Cond.selects C y y ∈ lw_all) (h4 : Cond.initialized C ∈ lw_all) (h5 : Cond.codeWith y b L r hh ∈ lw_all) : GoodIn lw_all (wsV own idx C y (wsW_ y b L r hh)) := by
  refine lw_app ?_ (lw_methW h5)
  intro w hw
  simp only [List.mem_cons, List.not_mem_nil, or_false] at hw
  rcases hw with e | e | e | e
  · rw [e]; exact h1
  · rw [e]; exact h2
  · rw [e]; exact h3
  · rw [e]; exact h4
theorem lw_SW {own : String} {idx : Nat} {y : MethodName} {b : ByteArray} {L : Nat} {r : Option FieldType} {hh : List (Nat × Nat × Nat × Nat)} (h1 : Cond.methodLink own idx y ∈ lw_all) (h2 : Cond.static y ∈ lw_all) (h3 : Cond.initialized y.cls ∈ lw_all) (h4 : Cond.codeWith y b L r hh ∈ lw_all) : GoodIn lw_all (va_wsS own idx y (wsW_ y b L r hh)) := by
  refine lw_app ?_ (lw_methW h4)
  intro w hw
  simp only [List.mem_cons, List.not_mem_nil, or_false] at hw
  rcases hw with e | e | e
  · rw [e]; exact h1
  · rw [e]; exact h2
  · rw [e]; exact h3
/-- a word by its place in its run of the tables -/
theorem lw_at {r : List Cond} (hr : ∀ w ∈ r, w ∈ lw_tbl) {w : Cond} (i : Nat) (h : r[i]? = some w) : w ∈ lw_tbl := hr w (List.mem_of_getElem? h)
theorem lw_g {w : Cond} (h : w ∈ lw_tbl) (g : goodWord w = true) : w ∈ lw_all := List.mem_filter.mpr ⟨h, g⟩
theorem lw_ms : ∀ w ∈ k2_sels lw_privs, w ∈ lw_tbl := fun w h => show w ∈ k2_sels lw_privs ++ tables_1 from List.mem_append_left _ h
theorem lw_m1 : ∀ w ∈ tables_1_1, w ∈ lw_tbl := fun w h => show w ∈ k2_sels lw_privs ++ tables_1 from List.mem_append_right (k2_sels lw_privs) (show w ∈ tables_1 from List.mem_append_left _ h)
theorem lw_m2 : ∀ w ∈ tables_1_2, w ∈ lw_tbl := fun w h => show w ∈ k2_sels lw_privs ++ tables_1 from List.mem_append_right (k2_sels lw_privs) (show w ∈ tables_1 from List.mem_append_right _ (List.mem_append_left _ h))
theorem lw_m3 : ∀ w ∈ tables_1_3, w ∈ lw_tbl := fun w h => show w ∈ k2_sels lw_privs ++ tables_1 from List.mem_append_right (k2_sels lw_privs) (show w ∈ tables_1 from List.mem_append_right _ (List.mem_append_right _ (List.mem_append_left _ h)))
theorem lw_m4 : ∀ w ∈ tables_1_4, w ∈ lw_tbl := fun w h => show w ∈ k2_sels lw_privs ++ tables_1 from List.mem_append_right (k2_sels lw_privs) (show w ∈ tables_1 from List.mem_append_right _ (List.mem_append_right _ (List.mem_append_right _ (List.mem_append_left _ h))))
theorem lw_m5 : ∀ w ∈ tables_1_5, w ∈ lw_tbl := fun w h => show w ∈ k2_sels lw_privs ++ tables_1 from List.mem_append_right (k2_sels lw_privs) (show w ∈ tables_1 from List.mem_append_right _ (List.mem_append_right _ (List.mem_append_right _ (List.mem_append_right _ (List.mem_append_left _ h)))))
theorem lw_m6 : ∀ w ∈ tables_1_6, w ∈ lw_tbl := fun w h => show w ∈ k2_sels lw_privs ++ tables_1 from List.mem_append_right (k2_sels lw_privs) (show w ∈ tables_1 from List.mem_append_right _ (List.mem_append_right _ (List.mem_append_right _ (List.mem_append_right _ (List.mem_append_right _ (List.mem_append_left _ h))))))
theorem lw_m7 : ∀ w ∈ tables_1_7, w ∈ lw_tbl := fun w h => show w ∈ k2_sels lw_privs ++ tables_1 from List.mem_append_right (k2_sels lw_privs) (show w ∈ tables_1 from List.mem_append_right _ (List.mem_append_right _ (List.mem_append_right _ (List.mem_append_right _ (List.mem_append_right _ (List.mem_append_right _ (List.mem_append_left _ h)))))))
theorem lw_m8 : ∀ w ∈ tables_1_8, w ∈ lw_tbl := fun w h => show w ∈ k2_sels lw_privs ++ tables_1 from List.mem_append_right (k2_sels lw_privs) (show w ∈ tables_1 from List.mem_append_right _ (List.mem_append_right _ (List.mem_append_right _ (List.mem_append_right _ (List.mem_append_right _ (List.mem_append_right _ (List.mem_append_right _ (List.mem_append_left _ h))))))))
theorem lw_m9 : ∀ w ∈ tables_1_9, w ∈ lw_tbl := fun w h => show w ∈ k2_sels lw_privs ++ tables_1 from List.mem_append_right (k2_sels lw_privs) (show w ∈ tables_1 from List.mem_append_right _ (List.mem_append_right _ (List.mem_append_right _ (List.mem_append_right _ (List.mem_append_right _ (List.mem_append_right _ (List.mem_append_right _ (List.mem_append_right _ (List.mem_append_left _ h)))))))))
theorem lw_m10 : ∀ w ∈ tables_1_10, w ∈ lw_tbl := fun w h => show w ∈ k2_sels lw_privs ++ tables_1 from List.mem_append_right (k2_sels lw_privs) (show w ∈ tables_1 from List.mem_append_right _ (List.mem_append_right _ (List.mem_append_right _ (List.mem_append_right _ (List.mem_append_right _ (List.mem_append_right _ (List.mem_append_right _ (List.mem_append_right _ (List.mem_append_right _ (List.mem_append_left _ h))))))))))
theorem lw_m11 : ∀ w ∈ tables_1_11, w ∈ lw_tbl := fun w h => show w ∈ k2_sels lw_privs ++ tables_1 from List.mem_append_right (k2_sels lw_privs) (show w ∈ tables_1 from List.mem_append_right _ (List.mem_append_right _ (List.mem_append_right _ (List.mem_append_right _ (List.mem_append_right _ (List.mem_append_right _ (List.mem_append_right _ (List.mem_append_right _ (List.mem_append_right _ (List.mem_append_right _ h))))))))))
theorem qs0 : (Cond.selects "java/lang/Throwable" ⟨"java/lang/Throwable", "fillInStackTrace", "(I)Ljava/lang/Throwable;"⟩ ⟨"java/lang/Throwable", "fillInStackTrace", "(I)Ljava/lang/Throwable;"⟩) ∈ lw_all := lw_g (lw_at lw_ms 0 rfl) rfl
theorem qs1 : (Cond.selects "Publicanry" ⟨"Publicanry", "isWhole", "()Z"⟩ ⟨"Publicanry", "isWhole", "()Z"⟩) ∈ lw_all := lw_g (lw_at lw_ms 1 rfl) rfl
theorem qs2 : (Cond.selects "Publicanry" ⟨"Publicanry", "clashes", "(LPublicanry$Lot;)Z"⟩ ⟨"Publicanry", "clashes", "(LPublicanry$Lot;)Z"⟩) ∈ lw_all := lw_g (lw_at lw_ms 2 rfl) rfl
theorem qs3 : (Cond.selects "Publicanry" ⟨"Publicanry", "told", "(I)I"⟩ ⟨"Publicanry", "told", "(I)I"⟩) ∈ lw_all := lw_g (lw_at lw_ms 3 rfl) rfl
theorem qs4 : (Cond.selects "Publicanry" ⟨"Publicanry", "year", "()I"⟩ ⟨"Publicanry", "year", "()I"⟩) ∈ lw_all := lw_g (lw_at lw_ms 4 rfl) rfl
theorem qs5 : (Cond.selects "Publicanry" ⟨"Publicanry", "houses", "()I"⟩ ⟨"Publicanry", "houses", "()I"⟩) ∈ lw_all := lw_g (lw_at lw_ms 5 rfl) rfl
theorem qs6 : (Cond.selects "Publicanry" ⟨"Publicanry", "oldStones", "()I"⟩ ⟨"Publicanry", "oldStones", "()I"⟩) ∈ lw_all := lw_g (lw_at lw_ms 6 rfl) rfl
theorem qs7 : (Cond.selects "Publicanry" ⟨"Publicanry", "add", "(J)V"⟩ ⟨"Publicanry", "add", "(J)V"⟩) ∈ lw_all := lw_g (lw_at lw_ms 7 rfl) rfl
theorem qs8 : (Cond.selects "Publicanry" ⟨"Publicanry", "direct", "(LPublicanry$Duty;)I"⟩ ⟨"Publicanry", "direct", "(LPublicanry$Duty;)I"⟩) ∈ lw_all := lw_g (lw_at lw_ms 8 rfl) rfl
theorem qs9 : (Cond.selects "Publicanry" ⟨"Publicanry", "isLet", "(LPublicanry$Village;LPublicanry$Duty;)Z"⟩ ⟨"Publicanry", "isLet", "(LPublicanry$Village;LPublicanry$Duty;)Z"⟩) ∈ lw_all := lw_g (lw_at lw_ms 9 rfl) rfl
theorem qs10 : (Cond.selects "Publicanry" ⟨"Publicanry", "dueByLaw", "(LPublicanry$Village;LPublicanry$Duty;)I"⟩ ⟨"Publicanry", "dueByLaw", "(LPublicanry$Village;LPublicanry$Duty;)I"⟩) ∈ lw_all := lw_g (lw_at lw_ms 10 rfl) rfl
theorem qs11 : (Cond.selects "Publicanry" ⟨"Publicanry", "addVillage", "(LPublicanry$Village;)V"⟩ ⟨"Publicanry", "addVillage", "(LPublicanry$Village;)V"⟩) ∈ lw_all := lw_g (lw_at lw_ms 11 rfl) rfl
theorem qs12 : (Cond.selects "Publicanry" ⟨"Publicanry", "addCompany", "(LPublicanry$Company;)V"⟩ ⟨"Publicanry", "addCompany", "(LPublicanry$Company;)V"⟩) ∈ lw_all := lw_g (lw_at lw_ms 12 rfl) rfl
theorem qs13 : (Cond.selects "Publicanry" ⟨"Publicanry", "told", "(LPublicanry$Company;I)I"⟩ ⟨"Publicanry", "told", "(LPublicanry$Company;I)I"⟩) ∈ lw_all := lw_g (lw_at lw_ms 13 rfl) rfl
theorem qs14 : (Cond.selects "Publicanry" ⟨"Publicanry", "lotsOf", "(LPublicanry$Company;)I"⟩ ⟨"Publicanry", "lotsOf", "(LPublicanry$Company;)I"⟩) ∈ lw_all := lw_g (lw_at lw_ms 14 rfl) rfl
theorem qs15 : (Cond.selects "Publicanry" ⟨"Publicanry", "bring", "(LPublicanry$Lot;I)I"⟩ ⟨"Publicanry", "bring", "(LPublicanry$Lot;I)I"⟩) ∈ lw_all := lw_g (lw_at lw_ms 15 rfl) rfl
theorem qs16 : (Cond.selects "Publicanry" ⟨"Publicanry", "best", "(LPublicanry$Lot;)I"⟩ ⟨"Publicanry", "best", "(LPublicanry$Lot;)I"⟩) ∈ lw_all := lw_g (lw_at lw_ms 16 rfl) rfl
theorem qs17 : (Cond.selects "java/util/ArrayList" ⟨"java/util/ArrayList", "add", "(Ljava/lang/Object;[Ljava/lang/Object;I)V"⟩ ⟨"java/util/ArrayList", "add", "(Ljava/lang/Object;[Ljava/lang/Object;I)V"⟩) ∈ lw_all := lw_g (lw_at lw_ms 17 rfl) rfl
theorem qs18 : (Cond.selects "java/util/ArrayList" ⟨"java/util/ArrayList", "grow", "()[Ljava/lang/Object;"⟩ ⟨"java/util/ArrayList", "grow", "()[Ljava/lang/Object;"⟩) ∈ lw_all := lw_g (lw_at lw_ms 18 rfl) rfl
theorem qs19 : (Cond.selects "java/util/ArrayList" ⟨"java/util/ArrayList", "grow", "(I)[Ljava/lang/Object;"⟩ ⟨"java/util/ArrayList", "grow", "(I)[Ljava/lang/Object;"⟩) ∈ lw_all := lw_g (lw_at lw_ms 19 rfl) rfl
theorem qs20 : (Cond.selects "Publicanry" ⟨"Publicanry", "villageOf", "(I)LPublicanry$Village;"⟩ ⟨"Publicanry", "villageOf", "(I)LPublicanry$Village;"⟩) ∈ lw_all := lw_g (lw_at lw_ms 20 rfl) rfl
theorem qs21 : (Cond.selects "Publicanry" ⟨"Publicanry", "areVillages", "(I)Z"⟩ ⟨"Publicanry", "areVillages", "(I)Z"⟩) ∈ lw_all := lw_g (lw_at lw_ms 21 rfl) rfl
theorem qs22 : (Cond.selects "Publicanry" ⟨"Publicanry", "companyOf", "(I)LPublicanry$Company;"⟩ ⟨"Publicanry", "companyOf", "(I)LPublicanry$Company;"⟩) ∈ lw_all := lw_g (lw_at lw_ms 22 rfl) rfl
theorem qs23 : (Cond.selects "Publicanry$Company" ⟨"Publicanry$Company", "greatest", "([J)I"⟩ ⟨"Publicanry$Company", "greatest", "([J)I"⟩) ∈ lw_all := lw_g (lw_at lw_ms 23 rfl) rfl
theorem qs24 : (Cond.selects "Publicanry" ⟨"Publicanry", "lotOf", "(I)LPublicanry$Lot;"⟩ ⟨"Publicanry", "lotOf", "(I)LPublicanry$Lot;"⟩) ∈ lw_all := lw_g (lw_at lw_ms 24 rfl) rfl
theorem qs25 : (Cond.selects "Publicanry" ⟨"Publicanry", "winner", "(LPublicanry$Lot;)Ljava/util/Optional;"⟩ ⟨"Publicanry", "winner", "(LPublicanry$Lot;)Ljava/util/Optional;"⟩) ∈ lw_all := lw_g (lw_at lw_ms 25 rfl) rfl
theorem qs26 : (Cond.selects "Publicanry" ⟨"Publicanry", "price", "(LPublicanry$Lot;LPublicanry$Company;)I"⟩ ⟨"Publicanry", "price", "(LPublicanry$Lot;LPublicanry$Company;)I"⟩) ∈ lw_all := lw_g (lw_at lw_ms 26 rfl) rfl
theorem qs27 : (Cond.selects "Publicanry" ⟨"Publicanry", "fallDue", "(LPublicanry$Lot;)V"⟩ ⟨"Publicanry", "fallDue", "(LPublicanry$Lot;)V"⟩) ∈ lw_all := lw_g (lw_at lw_ms 27 rfl) rfl
theorem qs28 : (Cond.selects "Publicanry" ⟨"Publicanry", "isSuable", "(Ljava/util/Optional;)Z"⟩ ⟨"Publicanry", "isSuable", "(Ljava/util/Optional;)Z"⟩) ∈ lw_all := lw_g (lw_at lw_ms 28 rfl) rfl
theorem qs29 : (Cond.selects "Publicanry" ⟨"Publicanry", "part", "()I"⟩ ⟨"Publicanry", "part", "()I"⟩) ∈ lw_all := lw_g (lw_at lw_ms 29 rfl) rfl
theorem qs30 : (Cond.selects "Publicanry" ⟨"Publicanry", "begin", "()V"⟩ ⟨"Publicanry", "begin", "()V"⟩) ∈ lw_all := lw_g (lw_at lw_ms 30 rfl) rfl
theorem qs31 : (Cond.selects "Publicanry" ⟨"Publicanry", "spring", "()V"⟩ ⟨"Publicanry", "spring", "()V"⟩) ∈ lw_all := lw_g (lw_at lw_ms 31 rfl) rfl
theorem qs32 : (Cond.selects "Publicanry" ⟨"Publicanry", "autumn", "(LPublicanry$Lot;)V"⟩ ⟨"Publicanry", "autumn", "(LPublicanry$Lot;)V"⟩) ∈ lw_all := lw_g (lw_at lw_ms 32 rfl) rfl
theorem qs33 : (Cond.selects "Publicanry" ⟨"Publicanry", "collect", "(LPublicanry$Lot;LPublicanry$Village;)V"⟩ ⟨"Publicanry", "collect", "(LPublicanry$Lot;LPublicanry$Village;)V"⟩) ∈ lw_all := lw_g (lw_at lw_ms 33 rfl) rfl
theorem qs34 : (Cond.selects "Publicanry" ⟨"Publicanry", "clerks", "(LPublicanry$Duty;)V"⟩ ⟨"Publicanry", "clerks", "(LPublicanry$Duty;)V"⟩) ∈ lw_all := lw_g (lw_at lw_ms 34 rfl) rfl
theorem qs35 : (Cond.selects "Publicanry$Village" ⟨"Publicanry$Village", "flee", "()V"⟩ ⟨"Publicanry$Village", "flee", "()V"⟩) ∈ lw_all := lw_g (lw_at lw_ms 35 rfl) rfl
theorem qs36 : (Cond.selects "Publicanry" ⟨"Publicanry", "due", "(LPublicanry$Village;LPublicanry$Duty;Z)I"⟩ ⟨"Publicanry", "due", "(LPublicanry$Village;LPublicanry$Duty;Z)I"⟩) ∈ lw_all := lw_g (lw_at lw_ms 36 rfl) rfl
theorem qs37 : (Cond.selects "PublicanryModel" ⟨"PublicanryModel", "start", "(ZI)Z"⟩ ⟨"PublicanryModel", "start", "(ZI)Z"⟩) ∈ lw_all := lw_g (lw_at lw_ms 37 rfl) rfl
theorem qs38 : (Cond.selects "PublicanryModel" ⟨"PublicanryModel", "refuse", "(ZI)Z"⟩ ⟨"PublicanryModel", "refuse", "(ZI)Z"⟩) ∈ lw_all := lw_g (lw_at lw_ms 38 rfl) rfl
theorem qs39 : (Cond.selects "PublicanryModel" ⟨"PublicanryModel", "cutStone", "(I)V"⟩ ⟨"PublicanryModel", "cutStone", "(I)V"⟩) ∈ lw_all := lw_g (lw_at lw_ms 39 rfl) rfl
theorem qs40 : (Cond.selects "PublicanryModel" ⟨"PublicanryModel", "isNoVillage", "(I)Z"⟩ ⟨"PublicanryModel", "isNoVillage", "(I)Z"⟩) ∈ lw_all := lw_g (lw_at lw_ms 40 rfl) rfl
theorem qs41 : (Cond.selects "PublicanryModel" ⟨"PublicanryModel", "treasuryPays", "(I)V"⟩ ⟨"PublicanryModel", "treasuryPays", "(I)V"⟩) ∈ lw_all := lw_g (lw_at lw_ms 41 rfl) rfl
theorem qs42 : (Cond.selects "PublicanryModel" ⟨"PublicanryModel", "isNoCompany", "(I)Z"⟩ ⟨"PublicanryModel", "isNoCompany", "(I)Z"⟩) ∈ lw_all := lw_g (lw_at lw_ms 42 rfl) rfl
theorem qs43 : (Cond.selects "PublicanryModel" ⟨"PublicanryModel", "isTaken", "(II)Z"⟩ ⟨"PublicanryModel", "isTaken", "(II)Z"⟩) ∈ lw_all := lw_g (lw_at lw_ms 43 rfl) rfl
theorem qs44 : (Cond.selects "PublicanryModel" ⟨"PublicanryModel", "isNoLot", "(I)Z"⟩ ⟨"PublicanryModel", "isNoLot", "(I)Z"⟩) ∈ lw_all := lw_g (lw_at lw_ms 44 rfl) rfl
theorem qs45 : (Cond.selects "PublicanryModel" ⟨"PublicanryModel", "free", "(I)I"⟩ ⟨"PublicanryModel", "free", "(I)I"⟩) ∈ lw_all := lw_g (lw_at lw_ms 45 rfl) rfl
theorem qs46 : (Cond.selects "PublicanryModel" ⟨"PublicanryModel", "pledged", "(I)I"⟩ ⟨"PublicanryModel", "pledged", "(I)I"⟩) ∈ lw_all := lw_g (lw_at lw_ms 46 rfl) rfl
theorem qs47 : (Cond.selects "PublicanryModel" ⟨"PublicanryModel", "best", "(LPublicanryModel$Lot;I)I"⟩ ⟨"PublicanryModel", "best", "(LPublicanryModel$Lot;I)I"⟩) ∈ lw_all := lw_g (lw_at lw_ms 47 rfl) rfl
theorem qs48 : (Cond.selects "PublicanryModel" ⟨"PublicanryModel", "counts", "(LPublicanryModel$Lot;I)Z"⟩ ⟨"PublicanryModel", "counts", "(LPublicanryModel$Lot;I)Z"⟩) ∈ lw_all := lw_g (lw_at lw_ms 48 rfl) rfl
theorem qs49 : (Cond.selects "PublicanryModel" ⟨"PublicanryModel", "fallDue", "(LPublicanryModel$Lot;)V"⟩ ⟨"PublicanryModel", "fallDue", "(LPublicanryModel$Lot;)V"⟩) ∈ lw_all := lw_g (lw_at lw_ms 49 rfl) rfl
theorem qs50 : (Cond.selects "PublicanryModel" ⟨"PublicanryModel", "year", "()I"⟩ ⟨"PublicanryModel", "year", "()I"⟩) ∈ lw_all := lw_g (lw_at lw_ms 50 rfl) rfl
theorem qs51 : (Cond.selects "PublicanryModel" ⟨"PublicanryModel", "votesNow", "(III)I"⟩ ⟨"PublicanryModel", "votesNow", "(III)I"⟩) ∈ lw_all := lw_g (lw_at lw_ms 51 rfl) rfl
theorem qs52 : (Cond.selects "PublicanryModel" ⟨"PublicanryModel", "spring", "()V"⟩ ⟨"PublicanryModel", "spring", "()V"⟩) ∈ lw_all := lw_g (lw_at lw_ms 52 rfl) rfl
theorem qs53 : (Cond.selects "PublicanryModel" ⟨"PublicanryModel", "summer", "()V"⟩ ⟨"PublicanryModel", "summer", "()V"⟩) ∈ lw_all := lw_g (lw_at lw_ms 53 rfl) rfl
theorem qs54 : (Cond.selects "PublicanryModel" ⟨"PublicanryModel", "collect", "(LPublicanryModel$Lot;)V"⟩ ⟨"PublicanryModel", "collect", "(LPublicanryModel$Lot;)V"⟩) ∈ lw_all := lw_g (lw_at lw_ms 54 rfl) rfl
theorem qs55 : (Cond.selects "PublicanryModel" ⟨"PublicanryModel", "collect", "(LPublicanryModel$Lot;II)V"⟩ ⟨"PublicanryModel", "collect", "(LPublicanryModel$Lot;II)V"⟩) ∈ lw_all := lw_g (lw_at lw_ms 55 rfl) rfl
theorem qs56 : (Cond.selects "PublicanryModel" ⟨"PublicanryModel", "dueNow", "(IIZ)I"⟩ ⟨"PublicanryModel", "dueNow", "(IIZ)I"⟩) ∈ lw_all := lw_g (lw_at lw_ms 56 rfl) rfl
theorem qs57 : (Cond.selects "PublicanryModel" ⟨"PublicanryModel", "clerk", "(I)V"⟩ ⟨"PublicanryModel", "clerk", "(I)V"⟩) ∈ lw_all := lw_g (lw_at lw_ms 57 rfl) rfl
theorem qs58 : (Cond.selects "PublicanryModel" ⟨"PublicanryModel", "isLeased", "(II)Z"⟩ ⟨"PublicanryModel", "isLeased", "(II)Z"⟩) ∈ lw_all := lw_g (lw_at lw_ms 58 rfl) rfl
theorem qs59 : (Cond.selects "PublicanryModel" ⟨"PublicanryModel", "byClerks", "(II)I"⟩ ⟨"PublicanryModel", "byClerks", "(II)I"⟩) ∈ lw_all := lw_g (lw_at lw_ms 59 rfl) rfl
theorem qs60 : (Cond.selects "PublicanryModel" ⟨"PublicanryModel", "live", "(LPublicanryModel$Village;)V"⟩ ⟨"PublicanryModel", "live", "(LPublicanryModel$Village;)V"⟩) ∈ lw_all := lw_g (lw_at lw_ms 60 rfl) rfl
theorem qs61 : (Cond.selects "PublicanryModel" ⟨"PublicanryModel", "sell", "(LPublicanryModel$Village;)V"⟩ ⟨"PublicanryModel", "sell", "(LPublicanryModel$Village;)V"⟩) ∈ lw_all := lw_g (lw_at lw_ms 61 rfl) rfl
theorem qs62 : (Cond.selects "PublicanryModel" ⟨"PublicanryModel", "ofVillageNow", "(LPublicanryModel$Village;I)I"⟩ ⟨"PublicanryModel", "ofVillageNow", "(LPublicanryModel$Village;I)I"⟩) ∈ lw_all := lw_g (lw_at lw_ms 62 rfl) rfl
theorem qs63 : (Cond.selects "PublicanryModel" ⟨"PublicanryModel", "levyNow", "(III)I"⟩ ⟨"PublicanryModel", "levyNow", "(III)I"⟩) ∈ lw_all := lw_g (lw_at lw_ms 63 rfl) rfl
theorem qs64 : (Cond.selects "PublicanryModel" ⟨"PublicanryModel", "lawNow", "(II)I"⟩ ⟨"PublicanryModel", "lawNow", "(II)I"⟩) ∈ lw_all := lw_g (lw_at lw_ms 64 rfl) rfl
theorem qs65 : (Cond.selects "PublicanryModel" ⟨"PublicanryModel", "ofCompanyNow", "(II)I"⟩ ⟨"PublicanryModel", "ofCompanyNow", "(II)I"⟩) ∈ lw_all := lw_g (lw_at lw_ms 65 rfl) rfl
theorem qs66 : (Cond.selects "PublicanryModel" ⟨"PublicanryModel", "ofLotNow", "(LPublicanryModel$Lot;I)I"⟩ ⟨"PublicanryModel", "ofLotNow", "(LPublicanryModel$Lot;I)I"⟩) ∈ lw_all := lw_g (lw_at lw_ms 66 rfl) rfl
theorem qs67 : (Cond.selects "PublicanryModel" ⟨"PublicanryModel", "landNow", "(I)I"⟩ ⟨"PublicanryModel", "landNow", "(I)I"⟩) ∈ lw_all := lw_g (lw_at lw_ms 67 rfl) rfl
theorem qs68 : (Cond.selects "PublicanryModel" ⟨"PublicanryModel", "gainNow", "(I)D"⟩ ⟨"PublicanryModel", "gainNow", "(I)D"⟩) ∈ lw_all := lw_g (lw_at lw_ms 68 rfl) rfl
theorem qs69 : (Cond.selects "PublicanryModel" ⟨"PublicanryModel", "wouldBringNow", "(LPublicanryModel$Lot;I)I"⟩ ⟨"PublicanryModel", "wouldBringNow", "(LPublicanryModel$Lot;I)I"⟩) ∈ lw_all := lw_g (lw_at lw_ms 69 rfl) rfl
theorem qs70 : (Cond.selects "PublicanryModel" ⟨"PublicanryModel", "bestForceNow", "(LPublicanryModel$Lot;)I"⟩ ⟨"PublicanryModel", "bestForceNow", "(LPublicanryModel$Lot;)I"⟩) ∈ lw_all := lw_g (lw_at lw_ms 70 rfl) rfl
theorem qs71 : (Cond.selects "PublicanryModel" ⟨"PublicanryModel", "directNow", "(I)I"⟩ ⟨"PublicanryModel", "directNow", "(I)I"⟩) ∈ lw_all := lw_g (lw_at lw_ms 71 rfl) rfl
theorem qs72 : (Cond.selects "PublicanryModel" ⟨"PublicanryModel", "isSoundNow", "()Z"⟩ ⟨"PublicanryModel", "isSoundNow", "()Z"⟩) ∈ lw_all := lw_g (lw_at lw_ms 72 rfl) rfl
-- ===== end of PART A; then your names; then what follows =====
