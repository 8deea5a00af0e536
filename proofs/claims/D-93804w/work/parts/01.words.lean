-- ===== PART A: goes FIRST, ahead of the names: the tables' words, and 'selects' of the private methods out of them =====
/-- a private method of a class that the tables say can be made, by its rows of tables_1 -/
def lw_okq (q : MethodName × Nat) : Prop := (q.1.cls ≠ "java/lang/invoke/MethodHandle" ∧ q.1.cls ≠ "java/lang/invoke/VarHandle") ∧ Cond.instantiable q.1.cls q.2 ∈ tables_1 ∧ Cond.privateMethod q.1 ∈ tables_1 ∧ Cond.instanceMethod q.1 ∈ tables_1
set_option maxRecDepth 100000
theorem lw_t1 {w : Cond} (h : w ∈ tables_1_1) : w ∈ tables_1 := List.mem_append_left _ h
theorem lw_t2 {w : Cond} (h : w ∈ tables_1_2) : w ∈ tables_1 := List.mem_append_right _ (List.mem_append_left _ h)
theorem lw_t3 {w : Cond} (h : w ∈ tables_1_3) : w ∈ tables_1 := List.mem_append_right _ (List.mem_append_right _ (List.mem_append_left _ h))
theorem lw_t4 {w : Cond} (h : w ∈ tables_1_4) : w ∈ tables_1 := List.mem_append_right _ (List.mem_append_right _ (List.mem_append_right _ (List.mem_append_left _ h)))
theorem lw_t5 {w : Cond} (h : w ∈ tables_1_5) : w ∈ tables_1 := List.mem_append_right _ (List.mem_append_right _ (List.mem_append_right _ (List.mem_append_right _ (List.mem_append_left _ h))))
theorem lw_t6 {w : Cond} (h : w ∈ tables_1_6) : w ∈ tables_1 := List.mem_append_right _ (List.mem_append_right _ (List.mem_append_right _ (List.mem_append_right _ (List.mem_append_right _ (List.mem_append_left _ h)))))
theorem lw_t7 {w : Cond} (h : w ∈ tables_1_7) : w ∈ tables_1 := List.mem_append_right _ (List.mem_append_right _ (List.mem_append_right _ (List.mem_append_right _ (List.mem_append_right _ (List.mem_append_right _ (List.mem_append_left _ h))))))
theorem lw_t8 {w : Cond} (h : w ∈ tables_1_8) : w ∈ tables_1 := List.mem_append_right _ (List.mem_append_right _ (List.mem_append_right _ (List.mem_append_right _ (List.mem_append_right _ (List.mem_append_right _ (List.mem_append_right _ (List.mem_append_left _ h)))))))
theorem lw_t9 {w : Cond} (h : w ∈ tables_1_9) : w ∈ tables_1 := List.mem_append_right _ (List.mem_append_right _ (List.mem_append_right _ (List.mem_append_right _ (List.mem_append_right _ (List.mem_append_right _ (List.mem_append_right _ (List.mem_append_right _ h)))))))
theorem lw_p0 : lw_okq (⟨"StrengthenFirst", "shelf", "(I)LStrengthenFirst$Shelf;"⟩, 7) := ⟨⟨by decide +kernel, by decide +kernel⟩, lw_t1 (List.mem_of_getElem? (i := 40) rfl), lw_t1 (List.mem_of_getElem? (i := 207) rfl), lw_t1 (List.mem_of_getElem? (i := 208) rfl)⟩
theorem lw_p1 : lw_okq (⟨"java/lang/Throwable", "fillInStackTrace", "(I)Ljava/lang/Throwable;"⟩, 6) := ⟨⟨by decide +kernel, by decide +kernel⟩, lw_t2 (List.mem_of_getElem? (i := 3) rfl), lw_t2 (List.mem_of_getElem? (i := 1) rfl), lw_t2 (List.mem_of_getElem? (i := 2) rfl)⟩
theorem lw_p2 : lw_okq (⟨"StrengthenFirst", "refused", "(LStrengthenFirst$Refused;)I"⟩, 7) := ⟨⟨by decide +kernel, by decide +kernel⟩, lw_t1 (List.mem_of_getElem? (i := 40) rfl), lw_t2 (List.mem_of_getElem? (i := 140) rfl), lw_t2 (List.mem_of_getElem? (i := 141) rfl)⟩
theorem lw_p3 : lw_okq (⟨"StrengthenFirst", "newRule", "(III)LStrengthenFirst$Rule;"⟩, 7) := ⟨⟨by decide +kernel, by decide +kernel⟩, lw_t1 (List.mem_of_getElem? (i := 40) rfl), lw_t3 (List.mem_of_getElem? (i := 13) rfl), lw_t3 (List.mem_of_getElem? (i := 14) rfl)⟩
theorem lw_p4 : lw_okq (⟨"StrengthenFirst$Sums", "worth", "(II)I"⟩, 5) := ⟨⟨by decide +kernel, by decide +kernel⟩, lw_t1 (List.mem_of_getElem? (i := 66) rfl), lw_t4 (List.mem_of_getElem? (i := 48) rfl), lw_t4 (List.mem_of_getElem? (i := 49) rfl)⟩
theorem lw_p5 : lw_okq (⟨"StrengthenFirst$Sums", "count", "(IIZ)I"⟩, 5) := ⟨⟨by decide +kernel, by decide +kernel⟩, lw_t1 (List.mem_of_getElem? (i := 66) rfl), lw_t4 (List.mem_of_getElem? (i := 52) rfl), lw_t4 (List.mem_of_getElem? (i := 53) rfl)⟩
theorem lw_p6 : lw_okq (⟨"StrengthenFirst$Saves", "next", "(LStrengthenFirst$Town;LStrengthenFirst$Sums;LStrengthenFirst$Order;)Z"⟩, 2) := ⟨⟨by decide +kernel, by decide +kernel⟩, lw_t3 (List.mem_of_getElem? (i := 59) rfl), lw_t4 (List.mem_of_getElem? (i := 56) rfl), lw_t4 (List.mem_of_getElem? (i := 57) rfl)⟩
theorem lw_p7 : lw_okq (⟨"StrengthenFirst$Sums", "find", "(I)V"⟩, 5) := ⟨⟨by decide +kernel, by decide +kernel⟩, lw_t1 (List.mem_of_getElem? (i := 66) rfl), lw_t4 (List.mem_of_getElem? (i := 68) rfl), lw_t4 (List.mem_of_getElem? (i := 69) rfl)⟩
theorem lw_p8 : lw_okq (⟨"StrengthenFirst", "add", "(IIIII)I"⟩, 7) := ⟨⟨by decide +kernel, by decide +kernel⟩, lw_t1 (List.mem_of_getElem? (i := 40) rfl), lw_t4 (List.mem_of_getElem? (i := 189) rfl), lw_t4 (List.mem_of_getElem? (i := 190) rfl)⟩
theorem lw_p9 : lw_okq (⟨"StrengthenFirst", "isHouse", "(I)Z"⟩, 7) := ⟨⟨by decide +kernel, by decide +kernel⟩, lw_t1 (List.mem_of_getElem? (i := 40) rfl), lw_t4 (List.mem_of_getElem? (i := 212) rfl), lw_t4 (List.mem_of_getElem? (i := 213) rfl)⟩
theorem lw_p10 : lw_okq (⟨"StrengthenFirst", "beyond", "()I"⟩, 7) := ⟨⟨by decide +kernel, by decide +kernel⟩, lw_t1 (List.mem_of_getElem? (i := 40) rfl), lw_t4 (List.mem_of_getElem? (i := 216) rfl), lw_t4 (List.mem_of_getElem? (i := 217) rfl)⟩
theorem lw_p11 : lw_okq (⟨"StrengthenFirst", "houseAt", "(I)LStrengthenFirst$House;"⟩, 7) := ⟨⟨by decide +kernel, by decide +kernel⟩, lw_t1 (List.mem_of_getElem? (i := 40) rfl), lw_t4 (List.mem_of_getElem? (i := 224) rfl), lw_t4 (List.mem_of_getElem? (i := 225) rfl)⟩
theorem lw_p12 : lw_okq (⟨"StrengthenFirst$Reader", "item", "()V"⟩, 3) := ⟨⟨by decide +kernel, by decide +kernel⟩, lw_t5 (List.mem_of_getElem? (i := 23) rfl), lw_t5 (List.mem_of_getElem? (i := 43) rfl), lw_t5 (List.mem_of_getElem? (i := 44) rfl)⟩
theorem lw_p13 : lw_okq (⟨"StrengthenFirst$Reader", "sees", "(I)Z"⟩, 3) := ⟨⟨by decide +kernel, by decide +kernel⟩, lw_t5 (List.mem_of_getElem? (i := 23) rfl), lw_t5 (List.mem_of_getElem? (i := 47) rfl), lw_t5 (List.mem_of_getElem? (i := 48) rfl)⟩
theorem lw_p14 : lw_okq (⟨"StrengthenFirst$Reader", "ends", "()Z"⟩, 3) := ⟨⟨by decide +kernel, by decide +kernel⟩, lw_t5 (List.mem_of_getElem? (i := 23) rfl), lw_t5 (List.mem_of_getElem? (i := 51) rfl), lw_t5 (List.mem_of_getElem? (i := 52) rfl)⟩
theorem lw_p15 : lw_okq (⟨"StrengthenFirst$Reader", "withS", "(I)V"⟩, 3) := ⟨⟨by decide +kernel, by decide +kernel⟩, lw_t5 (List.mem_of_getElem? (i := 23) rfl), lw_t5 (List.mem_of_getElem? (i := 57) rfl), lw_t5 (List.mem_of_getElem? (i := 58) rfl)⟩
def lw_privs_1 : List (MethodName × Nat) := [(⟨"StrengthenFirst", "shelf", "(I)LStrengthenFirst$Shelf;"⟩, 7), (⟨"java/lang/Throwable", "fillInStackTrace", "(I)Ljava/lang/Throwable;"⟩, 6), (⟨"StrengthenFirst", "refused", "(LStrengthenFirst$Refused;)I"⟩, 7), (⟨"StrengthenFirst", "newRule", "(III)LStrengthenFirst$Rule;"⟩, 7), (⟨"StrengthenFirst$Sums", "worth", "(II)I"⟩, 5), (⟨"StrengthenFirst$Sums", "count", "(IIZ)I"⟩, 5), (⟨"StrengthenFirst$Saves", "next", "(LStrengthenFirst$Town;LStrengthenFirst$Sums;LStrengthenFirst$Order;)Z"⟩, 2), (⟨"StrengthenFirst$Sums", "find", "(I)V"⟩, 5), (⟨"StrengthenFirst", "add", "(IIIII)I"⟩, 7), (⟨"StrengthenFirst", "isHouse", "(I)Z"⟩, 7), (⟨"StrengthenFirst", "beyond", "()I"⟩, 7), (⟨"StrengthenFirst", "houseAt", "(I)LStrengthenFirst$House;"⟩, 7), (⟨"StrengthenFirst$Reader", "item", "()V"⟩, 3), (⟨"StrengthenFirst$Reader", "sees", "(I)Z"⟩, 3), (⟨"StrengthenFirst$Reader", "ends", "()Z"⟩, 3), (⟨"StrengthenFirst$Reader", "withS", "(I)V"⟩, 3)]
theorem lw_r1 : ∀ q ∈ lw_privs_1, lw_okq q := List.forall_mem_cons.mpr ⟨lw_p0, List.forall_mem_cons.mpr ⟨lw_p1, List.forall_mem_cons.mpr ⟨lw_p2, List.forall_mem_cons.mpr ⟨lw_p3, List.forall_mem_cons.mpr ⟨lw_p4, List.forall_mem_cons.mpr ⟨lw_p5, List.forall_mem_cons.mpr ⟨lw_p6, List.forall_mem_cons.mpr ⟨lw_p7, List.forall_mem_cons.mpr ⟨lw_p8, List.forall_mem_cons.mpr ⟨lw_p9, List.forall_mem_cons.mpr ⟨lw_p10, List.forall_mem_cons.mpr ⟨lw_p11, List.forall_mem_cons.mpr ⟨lw_p12, List.forall_mem_cons.mpr ⟨lw_p13, List.forall_mem_cons.mpr ⟨lw_p14, List.forall_mem_cons.mpr ⟨lw_p15, fun _ h => absurd h List.not_mem_nil⟩⟩⟩⟩⟩⟩⟩⟩⟩⟩⟩⟩⟩⟩⟩⟩
theorem lw_p16 : lw_okq (⟨"StrengthenFirst$Reader", "must", "(I)V"⟩, 3) := ⟨⟨by decide +kernel, by decide +kernel⟩, lw_t5 (List.mem_of_getElem? (i := 23) rfl), lw_t5 (List.mem_of_getElem? (i := 61) rfl), lw_t5 (List.mem_of_getElem? (i := 62) rfl)⟩
theorem lw_p17 : lw_okq (⟨"StrengthenFirst$Reader", "word", "(Ljava/lang/String;)V"⟩, 3) := ⟨⟨by decide +kernel, by decide +kernel⟩, lw_t5 (List.mem_of_getElem? (i := 23) rfl), lw_t5 (List.mem_of_getElem? (i := 85) rfl), lw_t5 (List.mem_of_getElem? (i := 86) rfl)⟩
theorem lw_p18 : lw_okq (⟨"StrengthenFirst$Reader", "hasRoom", "(ZI)V"⟩, 3) := ⟨⟨by decide +kernel, by decide +kernel⟩, lw_t5 (List.mem_of_getElem? (i := 23) rfl), lw_t5 (List.mem_of_getElem? (i := 137) rfl), lw_t5 (List.mem_of_getElem? (i := 138) rfl)⟩
theorem lw_p19 : lw_okq (⟨"StrengthenFirst$Reader", "number", "(II)I"⟩, 3) := ⟨⟨by decide +kernel, by decide +kernel⟩, lw_t5 (List.mem_of_getElem? (i := 23) rfl), lw_t5 (List.mem_of_getElem? (i := 141) rfl), lw_t5 (List.mem_of_getElem? (i := 142) rfl)⟩
theorem lw_p20 : lw_okq (⟨"StrengthenFirst$Reader", "number", "(III)I"⟩, 3) := ⟨⟨by decide +kernel, by decide +kernel⟩, lw_t5 (List.mem_of_getElem? (i := 23) rfl), lw_t5 (List.mem_of_getElem? (i := 145) rfl), lw_t5 (List.mem_of_getElem? (i := 146) rfl)⟩
theorem lw_p21 : lw_okq (⟨"StrengthenFirst$Reader", "digit", "()Z"⟩, 3) := ⟨⟨by decide +kernel, by decide +kernel⟩, lw_t5 (List.mem_of_getElem? (i := 23) rfl), lw_t5 (List.mem_of_getElem? (i := 149) rfl), lw_t5 (List.mem_of_getElem? (i := 150) rfl)⟩
theorem lw_p22 : lw_okq (⟨"StrengthenFirst$Reader", "house", "(I)V"⟩, 3) := ⟨⟨by decide +kernel, by decide +kernel⟩, lw_t5 (List.mem_of_getElem? (i := 23) rfl), lw_t5 (List.mem_of_getElem? (i := 158) rfl), lw_t5 (List.mem_of_getElem? (i := 159) rfl)⟩
theorem lw_p23 : lw_okq (⟨"StrengthenFirst", "isShake", "(I)Z"⟩, 7) := ⟨⟨by decide +kernel, by decide +kernel⟩, lw_t1 (List.mem_of_getElem? (i := 40) rfl), lw_t5 (List.mem_of_getElem? (i := 176) rfl), lw_t5 (List.mem_of_getElem? (i := 177) rfl)⟩
theorem lw_p24 : lw_okq (⟨"StrengthenFirst", "meanNow", "()J"⟩, 7) := ⟨⟨by decide +kernel, by decide +kernel⟩, lw_t1 (List.mem_of_getElem? (i := 40) rfl), lw_t5 (List.mem_of_getElem? (i := 216) rfl), lw_t5 (List.mem_of_getElem? (i := 217) rfl)⟩
theorem lw_p25 : lw_okq (⟨"StrengthenFirst", "worthOf", "(LStrengthenFirst$House;J)J"⟩, 7) := ⟨⟨by decide +kernel, by decide +kernel⟩, lw_t1 (List.mem_of_getElem? (i := 40) rfl), lw_t5 (List.mem_of_getElem? (i := 234) rfl), lw_t5 (List.mem_of_getElem? (i := 235) rfl)⟩
theorem lw_p26 : lw_okq (⟨"StrengthenFirst", "lossOf", "(LStrengthenFirst$Rule;I[I)J"⟩, 7) := ⟨⟨by decide +kernel, by decide +kernel⟩, lw_t1 (List.mem_of_getElem? (i := 40) rfl), lw_t6 (List.mem_of_getElem? (i := 20) rfl), lw_t6 (List.mem_of_getElem? (i := 21) rfl)⟩
theorem lw_p27 : lw_okq (⟨"StrengthenFirst$Plan", "stepsThere", "()I"⟩, 3) := ⟨⟨by decide +kernel, by decide +kernel⟩, lw_t6 (List.mem_of_getElem? (i := 24) rfl), lw_t6 (List.mem_of_getElem? (i := 48) rfl), lw_t6 (List.mem_of_getElem? (i := 49) rfl)⟩
theorem lw_p28 : lw_okq (⟨"StrengthenFirst", "bestOf", "(I)LStrengthenFirst$Best;"⟩, 7) := ⟨⟨by decide +kernel, by decide +kernel⟩, lw_t1 (List.mem_of_getElem? (i := 40) rfl), lw_t6 (List.mem_of_getElem? (i := 68) rfl), lw_t6 (List.mem_of_getElem? (i := 69) rfl)⟩
theorem lw_p29 : lw_okq (⟨"StrengthenFirst$Best", "rows", "(II)V"⟩, 9) := ⟨⟨by decide +kernel, by decide +kernel⟩, lw_t6 (List.mem_of_getElem? (i := 72) rfl), lw_t6 (List.mem_of_getElem? (i := 119) rfl), lw_t6 (List.mem_of_getElem? (i := 120) rfl)⟩
theorem lw_p30 : lw_okq (⟨"StrengthenFirst$Best", "loss", "()J"⟩, 9) := ⟨⟨by decide +kernel, by decide +kernel⟩, lw_t6 (List.mem_of_getElem? (i := 72) rfl), lw_t6 (List.mem_of_getElem? (i := 123) rfl), lw_t6 (List.mem_of_getElem? (i := 124) rfl)⟩
theorem lw_p31 : lw_okq (⟨"StrengthenFirst", "isRuleHeld", "()Z"⟩, 7) := ⟨⟨by decide +kernel, by decide +kernel⟩, lw_t1 (List.mem_of_getElem? (i := 40) rfl), lw_t6 (List.mem_of_getElem? (i := 149) rfl), lw_t6 (List.mem_of_getElem? (i := 150) rfl)⟩
def lw_privs_2 : List (MethodName × Nat) := [(⟨"StrengthenFirst$Reader", "must", "(I)V"⟩, 3), (⟨"StrengthenFirst$Reader", "word", "(Ljava/lang/String;)V"⟩, 3), (⟨"StrengthenFirst$Reader", "hasRoom", "(ZI)V"⟩, 3), (⟨"StrengthenFirst$Reader", "number", "(II)I"⟩, 3), (⟨"StrengthenFirst$Reader", "number", "(III)I"⟩, 3), (⟨"StrengthenFirst$Reader", "digit", "()Z"⟩, 3), (⟨"StrengthenFirst$Reader", "house", "(I)V"⟩, 3), (⟨"StrengthenFirst", "isShake", "(I)Z"⟩, 7), (⟨"StrengthenFirst", "meanNow", "()J"⟩, 7), (⟨"StrengthenFirst", "worthOf", "(LStrengthenFirst$House;J)J"⟩, 7), (⟨"StrengthenFirst", "lossOf", "(LStrengthenFirst$Rule;I[I)J"⟩, 7), (⟨"StrengthenFirst$Plan", "stepsThere", "()I"⟩, 3), (⟨"StrengthenFirst", "bestOf", "(I)LStrengthenFirst$Best;"⟩, 7), (⟨"StrengthenFirst$Best", "rows", "(II)V"⟩, 9), (⟨"StrengthenFirst$Best", "loss", "()J"⟩, 9), (⟨"StrengthenFirst", "isRuleHeld", "()Z"⟩, 7)]
theorem lw_r2 : ∀ q ∈ lw_privs_2, lw_okq q := List.forall_mem_cons.mpr ⟨lw_p16, List.forall_mem_cons.mpr ⟨lw_p17, List.forall_mem_cons.mpr ⟨lw_p18, List.forall_mem_cons.mpr ⟨lw_p19, List.forall_mem_cons.mpr ⟨lw_p20, List.forall_mem_cons.mpr ⟨lw_p21, List.forall_mem_cons.mpr ⟨lw_p22, List.forall_mem_cons.mpr ⟨lw_p23, List.forall_mem_cons.mpr ⟨lw_p24, List.forall_mem_cons.mpr ⟨lw_p25, List.forall_mem_cons.mpr ⟨lw_p26, List.forall_mem_cons.mpr ⟨lw_p27, List.forall_mem_cons.mpr ⟨lw_p28, List.forall_mem_cons.mpr ⟨lw_p29, List.forall_mem_cons.mpr ⟨lw_p30, List.forall_mem_cons.mpr ⟨lw_p31, fun _ h => absurd h List.not_mem_nil⟩⟩⟩⟩⟩⟩⟩⟩⟩⟩⟩⟩⟩⟩⟩⟩
theorem lw_p32 : lw_okq (⟨"StrengthenFirst", "year", "(LStrengthenFirst$Rule;)I"⟩, 7) := ⟨⟨by decide +kernel, by decide +kernel⟩, lw_t1 (List.mem_of_getElem? (i := 40) rfl), lw_t6 (List.mem_of_getElem? (i := 157) rfl), lw_t6 (List.mem_of_getElem? (i := 158) rfl)⟩
theorem lw_p33 : lw_okq (⟨"StrengthenFirst", "shaken", "(I)I"⟩, 7) := ⟨⟨by decide +kernel, by decide +kernel⟩, lw_t1 (List.mem_of_getElem? (i := 40) rfl), lw_t6 (List.mem_of_getElem? (i := 167) rfl), lw_t6 (List.mem_of_getElem? (i := 168) rfl)⟩
theorem lw_p34 : lw_okq (⟨"StrengthenFirstModel", "isShelf", "(I)Z"⟩, 56) := ⟨⟨by decide +kernel, by decide +kernel⟩, lw_t7 (List.mem_of_getElem? (i := 29) rfl), lw_t7 (List.mem_of_getElem? (i := 208) rfl), lw_t7 (List.mem_of_getElem? (i := 209) rfl)⟩
theorem lw_p35 : lw_okq (⟨"StrengthenFirstModel", "no", "(I)I"⟩, 56) := ⟨⟨by decide +kernel, by decide +kernel⟩, lw_t7 (List.mem_of_getElem? (i := 29) rfl), lw_t7 (List.mem_of_getElem? (i := 212) rfl), lw_t7 (List.mem_of_getElem? (i := 213) rfl)⟩
theorem lw_p36 : lw_okq (⟨"StrengthenFirstModel", "wants", "(II)I"⟩, 56) := ⟨⟨by decide +kernel, by decide +kernel⟩, lw_t7 (List.mem_of_getElem? (i := 29) rfl), lw_t7 (List.mem_of_getElem? (i := 232) rfl), lw_t7 (List.mem_of_getElem? (i := 233) rfl)⟩
theorem lw_p37 : lw_okq (⟨"StrengthenFirstModel", "orders", "(I)V"⟩, 56) := ⟨⟨by decide +kernel, by decide +kernel⟩, lw_t7 (List.mem_of_getElem? (i := 29) rfl), lw_t8 (List.mem_of_getElem? (i := 4) rfl), lw_t8 (List.mem_of_getElem? (i := 5) rfl)⟩
theorem lw_p38 : lw_okq (⟨"StrengthenFirstModel", "saves", "(I)V"⟩, 56) := ⟨⟨by decide +kernel, by decide +kernel⟩, lw_t7 (List.mem_of_getElem? (i := 29) rfl), lw_t8 (List.mem_of_getElem? (i := 8) rfl), lw_t8 (List.mem_of_getElem? (i := 9) rfl)⟩
theorem lw_p39 : lw_okq (⟨"StrengthenFirstModel", "worthsBy", "(IZ)V"⟩, 56) := ⟨⟨by decide +kernel, by decide +kernel⟩, lw_t7 (List.mem_of_getElem? (i := 29) rfl), lw_t8 (List.mem_of_getElem? (i := 12) rfl), lw_t8 (List.mem_of_getElem? (i := 13) rfl)⟩
theorem lw_p40 : lw_okq (⟨"StrengthenFirstModel", "cutOf", "(I)I"⟩, 56) := ⟨⟨by decide +kernel, by decide +kernel⟩, lw_t7 (List.mem_of_getElem? (i := 29) rfl), lw_t8 (List.mem_of_getElem? (i := 16) rfl), lw_t8 (List.mem_of_getElem? (i := 17) rfl)⟩
theorem lw_p41 : lw_okq (⟨"StrengthenFirstModel", "people", "(II)I"⟩, 56) := ⟨⟨by decide +kernel, by decide +kernel⟩, lw_t7 (List.mem_of_getElem? (i := 29) rfl), lw_t8 (List.mem_of_getElem? (i := 21) rfl), lw_t8 (List.mem_of_getElem? (i := 22) rfl)⟩
theorem lw_p42 : lw_okq (⟨"StrengthenFirstModel", "isIn", "(I)Z"⟩, 56) := ⟨⟨by decide +kernel, by decide +kernel⟩, lw_t7 (List.mem_of_getElem? (i := 29) rfl), lw_t8 (List.mem_of_getElem? (i := 25) rfl), lw_t8 (List.mem_of_getElem? (i := 26) rfl)⟩
theorem lw_p43 : lw_okq (⟨"StrengthenFirstModel", "meanNow", "()J"⟩, 56) := ⟨⟨by decide +kernel, by decide +kernel⟩, lw_t7 (List.mem_of_getElem? (i := 29) rfl), lw_t8 (List.mem_of_getElem? (i := 29) rfl), lw_t8 (List.mem_of_getElem? (i := 30) rfl)⟩
theorem lw_p44 : lw_okq (⟨"StrengthenFirstModel", "lostBy", "(I)J"⟩, 56) := ⟨⟨by decide +kernel, by decide +kernel⟩, lw_t7 (List.mem_of_getElem? (i := 29) rfl), lw_t8 (List.mem_of_getElem? (i := 33) rfl), lw_t8 (List.mem_of_getElem? (i := 34) rfl)⟩
theorem lw_p45 : lw_okq (⟨"StrengthenFirstModel", "oddsBy", "(I)V"⟩, 56) := ⟨⟨by decide +kernel, by decide +kernel⟩, lw_t7 (List.mem_of_getElem? (i := 29) rfl), lw_t8 (List.mem_of_getElem? (i := 37) rfl), lw_t8 (List.mem_of_getElem? (i := 38) rfl)⟩
theorem lw_p46 : lw_okq (⟨"StrengthenFirstModel", "fallsOf", "(II)I"⟩, 56) := ⟨⟨by decide +kernel, by decide +kernel⟩, lw_t7 (List.mem_of_getElem? (i := 29) rfl), lw_t8 (List.mem_of_getElem? (i := 41) rfl), lw_t8 (List.mem_of_getElem? (i := 42) rfl)⟩
theorem lw_p47 : lw_okq (⟨"StrengthenFirstModel", "rests", "()V"⟩, 56) := ⟨⟨by decide +kernel, by decide +kernel⟩, lw_t7 (List.mem_of_getElem? (i := 29) rfl), lw_t8 (List.mem_of_getElem? (i := 45) rfl), lw_t8 (List.mem_of_getElem? (i := 46) rfl)⟩
def lw_privs_3 : List (MethodName × Nat) := [(⟨"StrengthenFirst", "year", "(LStrengthenFirst$Rule;)I"⟩, 7), (⟨"StrengthenFirst", "shaken", "(I)I"⟩, 7), (⟨"StrengthenFirstModel", "isShelf", "(I)Z"⟩, 56), (⟨"StrengthenFirstModel", "no", "(I)I"⟩, 56), (⟨"StrengthenFirstModel", "wants", "(II)I"⟩, 56), (⟨"StrengthenFirstModel", "orders", "(I)V"⟩, 56), (⟨"StrengthenFirstModel", "saves", "(I)V"⟩, 56), (⟨"StrengthenFirstModel", "worthsBy", "(IZ)V"⟩, 56), (⟨"StrengthenFirstModel", "cutOf", "(I)I"⟩, 56), (⟨"StrengthenFirstModel", "people", "(II)I"⟩, 56), (⟨"StrengthenFirstModel", "isIn", "(I)Z"⟩, 56), (⟨"StrengthenFirstModel", "meanNow", "()J"⟩, 56), (⟨"StrengthenFirstModel", "lostBy", "(I)J"⟩, 56), (⟨"StrengthenFirstModel", "oddsBy", "(I)V"⟩, 56), (⟨"StrengthenFirstModel", "fallsOf", "(II)I"⟩, 56), (⟨"StrengthenFirstModel", "rests", "()V"⟩, 56)]
theorem lw_r3 : ∀ q ∈ lw_privs_3, lw_okq q := List.forall_mem_cons.mpr ⟨lw_p32, List.forall_mem_cons.mpr ⟨lw_p33, List.forall_mem_cons.mpr ⟨lw_p34, List.forall_mem_cons.mpr ⟨lw_p35, List.forall_mem_cons.mpr ⟨lw_p36, List.forall_mem_cons.mpr ⟨lw_p37, List.forall_mem_cons.mpr ⟨lw_p38, List.forall_mem_cons.mpr ⟨lw_p39, List.forall_mem_cons.mpr ⟨lw_p40, List.forall_mem_cons.mpr ⟨lw_p41, List.forall_mem_cons.mpr ⟨lw_p42, List.forall_mem_cons.mpr ⟨lw_p43, List.forall_mem_cons.mpr ⟨lw_p44, List.forall_mem_cons.mpr ⟨lw_p45, List.forall_mem_cons.mpr ⟨lw_p46, List.forall_mem_cons.mpr ⟨lw_p47, fun _ h => absurd h List.not_mem_nil⟩⟩⟩⟩⟩⟩⟩⟩⟩⟩⟩⟩⟩⟩⟩⟩
theorem lw_p48 : lw_okq (⟨"StrengthenFirstModel", "intAt", "(II)I"⟩, 56) := ⟨⟨by decide +kernel, by decide +kernel⟩, lw_t7 (List.mem_of_getElem? (i := 29) rfl), lw_t8 (List.mem_of_getElem? (i := 49) rfl), lw_t8 (List.mem_of_getElem? (i := 50) rfl)⟩
theorem lw_p49 : lw_okq (⟨"StrengthenFirstModel", "isHouse", "(I)Z"⟩, 56) := ⟨⟨by decide +kernel, by decide +kernel⟩, lw_t7 (List.mem_of_getElem? (i := 29) rfl), lw_t8 (List.mem_of_getElem? (i := 53) rfl), lw_t8 (List.mem_of_getElem? (i := 54) rfl)⟩
theorem lw_p50 : lw_okq (⟨"StrengthenFirstModel", "isAhead", "(III)Z"⟩, 56) := ⟨⟨by decide +kernel, by decide +kernel⟩, lw_t7 (List.mem_of_getElem? (i := 29) rfl), lw_t8 (List.mem_of_getElem? (i := 57) rfl), lw_t8 (List.mem_of_getElem? (i := 58) rfl)⟩
theorem lw_p51 : lw_okq (⟨"StrengthenFirstModel", "isCorner", "(I)Z"⟩, 56) := ⟨⟨by decide +kernel, by decide +kernel⟩, lw_t7 (List.mem_of_getElem? (i := 29) rfl), lw_t8 (List.mem_of_getElem? (i := 65) rfl), lw_t8 (List.mem_of_getElem? (i := 66) rfl)⟩
theorem lw_p52 : lw_okq (⟨"StrengthenFirstModel", "streets", "(II)I"⟩, 56) := ⟨⟨by decide +kernel, by decide +kernel⟩, lw_t7 (List.mem_of_getElem? (i := 29) rfl), lw_t8 (List.mem_of_getElem? (i := 69) rfl), lw_t8 (List.mem_of_getElem? (i := 70) rfl)⟩
theorem lw_p53 : lw_okq (⟨"StrengthenFirstModel", "isSo", "(IIII)Z"⟩, 56) := ⟨⟨by decide +kernel, by decide +kernel⟩, lw_t7 (List.mem_of_getElem? (i := 29) rfl), lw_t8 (List.mem_of_getElem? (i := 77) rfl), lw_t8 (List.mem_of_getElem? (i := 78) rfl)⟩
theorem lw_p54 : lw_okq (⟨"StrengthenFirstModel", "comes", "(IIIII)I"⟩, 56) := ⟨⟨by decide +kernel, by decide +kernel⟩, lw_t7 (List.mem_of_getElem? (i := 29) rfl), lw_t8 (List.mem_of_getElem? (i := 81) rfl), lw_t8 (List.mem_of_getElem? (i := 82) rfl)⟩
theorem lw_p55 : lw_okq (⟨"StrengthenFirstModel", "noTen", "(I)I"⟩, 56) := ⟨⟨by decide +kernel, by decide +kernel⟩, lw_t7 (List.mem_of_getElem? (i := 29) rfl), lw_t8 (List.mem_of_getElem? (i := 97) rfl), lw_t8 (List.mem_of_getElem? (i := 98) rfl)⟩
theorem lw_p56 : lw_okq (⟨"StrengthenFirstModel", "shakes", "(II)I"⟩, 56) := ⟨⟨by decide +kernel, by decide +kernel⟩, lw_t7 (List.mem_of_getElem? (i := 29) rfl), lw_t8 (List.mem_of_getElem? (i := 117) rfl), lw_t8 (List.mem_of_getElem? (i := 118) rfl)⟩
theorem lw_p57 : lw_okq (⟨"StrengthenFirstModel", "all", "([IZ)V"⟩, 56) := ⟨⟨by decide +kernel, by decide +kernel⟩, lw_t7 (List.mem_of_getElem? (i := 29) rfl), lw_t8 (List.mem_of_getElem? (i := 129) rfl), lw_t8 (List.mem_of_getElem? (i := 130) rfl)⟩
theorem lw_p58 : lw_okq (⟨"StrengthenFirstModel", "keeps", "([II[IIZ)I"⟩, 56) := ⟨⟨by decide +kernel, by decide +kernel⟩, lw_t7 (List.mem_of_getElem? (i := 29) rfl), lw_t8 (List.mem_of_getElem? (i := 133) rfl), lw_t8 (List.mem_of_getElem? (i := 134) rfl)⟩
theorem lw_p59 : lw_okq (⟨"StrengthenFirstModel", "item", "()Z"⟩, 56) := ⟨⟨by decide +kernel, by decide +kernel⟩, lw_t7 (List.mem_of_getElem? (i := 29) rfl), lw_t8 (List.mem_of_getElem? (i := 137) rfl), lw_t8 (List.mem_of_getElem? (i := 138) rfl)⟩
theorem lw_p60 : lw_okq (⟨"StrengthenFirstModel", "isWordAt", "(I)Z"⟩, 56) := ⟨⟨by decide +kernel, by decide +kernel⟩, lw_t7 (List.mem_of_getElem? (i := 29) rfl), lw_t8 (List.mem_of_getElem? (i := 141) rfl), lw_t8 (List.mem_of_getElem? (i := 142) rfl)⟩
theorem lw_p61 : lw_okq (⟨"StrengthenFirstModel", "isFull", "(I)Z"⟩, 56) := ⟨⟨by decide +kernel, by decide +kernel⟩, lw_t7 (List.mem_of_getElem? (i := 29) rfl), lw_t8 (List.mem_of_getElem? (i := 145) rfl), lw_t8 (List.mem_of_getElem? (i := 146) rfl)⟩
theorem lw_p62 : lw_okq (⟨"StrengthenFirstModel", "wrong", "(I)Z"⟩, 56) := ⟨⟨by decide +kernel, by decide +kernel⟩, lw_t7 (List.mem_of_getElem? (i := 29) rfl), lw_t8 (List.mem_of_getElem? (i := 149) rfl), lw_t8 (List.mem_of_getElem? (i := 150) rfl)⟩
theorem lw_p63 : lw_okq (⟨"StrengthenFirstModel", "word", "(II)I"⟩, 56) := ⟨⟨by decide +kernel, by decide +kernel⟩, lw_t7 (List.mem_of_getElem? (i := 29) rfl), lw_t8 (List.mem_of_getElem? (i := 153) rfl), lw_t8 (List.mem_of_getElem? (i := 154) rfl)⟩
def lw_privs_4 : List (MethodName × Nat) := [(⟨"StrengthenFirstModel", "intAt", "(II)I"⟩, 56), (⟨"StrengthenFirstModel", "isHouse", "(I)Z"⟩, 56), (⟨"StrengthenFirstModel", "isAhead", "(III)Z"⟩, 56), (⟨"StrengthenFirstModel", "isCorner", "(I)Z"⟩, 56), (⟨"StrengthenFirstModel", "streets", "(II)I"⟩, 56), (⟨"StrengthenFirstModel", "isSo", "(IIII)Z"⟩, 56), (⟨"StrengthenFirstModel", "comes", "(IIIII)I"⟩, 56), (⟨"StrengthenFirstModel", "noTen", "(I)I"⟩, 56), (⟨"StrengthenFirstModel", "shakes", "(II)I"⟩, 56), (⟨"StrengthenFirstModel", "all", "([IZ)V"⟩, 56), (⟨"StrengthenFirstModel", "keeps", "([II[IIZ)I"⟩, 56), (⟨"StrengthenFirstModel", "item", "()Z"⟩, 56), (⟨"StrengthenFirstModel", "isWordAt", "(I)Z"⟩, 56), (⟨"StrengthenFirstModel", "isFull", "(I)Z"⟩, 56), (⟨"StrengthenFirstModel", "wrong", "(I)Z"⟩, 56), (⟨"StrengthenFirstModel", "word", "(II)I"⟩, 56)]
theorem lw_r4 : ∀ q ∈ lw_privs_4, lw_okq q := List.forall_mem_cons.mpr ⟨lw_p48, List.forall_mem_cons.mpr ⟨lw_p49, List.forall_mem_cons.mpr ⟨lw_p50, List.forall_mem_cons.mpr ⟨lw_p51, List.forall_mem_cons.mpr ⟨lw_p52, List.forall_mem_cons.mpr ⟨lw_p53, List.forall_mem_cons.mpr ⟨lw_p54, List.forall_mem_cons.mpr ⟨lw_p55, List.forall_mem_cons.mpr ⟨lw_p56, List.forall_mem_cons.mpr ⟨lw_p57, List.forall_mem_cons.mpr ⟨lw_p58, List.forall_mem_cons.mpr ⟨lw_p59, List.forall_mem_cons.mpr ⟨lw_p60, List.forall_mem_cons.mpr ⟨lw_p61, List.forall_mem_cons.mpr ⟨lw_p62, List.forall_mem_cons.mpr ⟨lw_p63, fun _ h => absurd h List.not_mem_nil⟩⟩⟩⟩⟩⟩⟩⟩⟩⟩⟩⟩⟩⟩⟩⟩
theorem lw_p64 : lw_okq (⟨"StrengthenFirstModel", "number", "(III)Z"⟩, 56) := ⟨⟨by decide +kernel, by decide +kernel⟩, lw_t7 (List.mem_of_getElem? (i := 29) rfl), lw_t8 (List.mem_of_getElem? (i := 157) rfl), lw_t8 (List.mem_of_getElem? (i := 158) rfl)⟩
theorem lw_p65 : lw_okq (⟨"StrengthenFirstModel", "isDigit", "()Z"⟩, 56) := ⟨⟨by decide +kernel, by decide +kernel⟩, lw_t7 (List.mem_of_getElem? (i := 29) rfl), lw_t8 (List.mem_of_getElem? (i := 161) rfl), lw_t8 (List.mem_of_getElem? (i := 162) rfl)⟩
theorem lw_p66 : lw_okq (⟨"StrengthenFirstModel", "more", "(III)Z"⟩, 56) := ⟨⟨by decide +kernel, by decide +kernel⟩, lw_t7 (List.mem_of_getElem? (i := 29) rfl), lw_t8 (List.mem_of_getElem? (i := 165) rfl), lw_t8 (List.mem_of_getElem? (i := 166) rfl)⟩
theorem lw_p67 : lw_okq (⟨"StrengthenFirstModel", "isShake", "(I)Z"⟩, 56) := ⟨⟨by decide +kernel, by decide +kernel⟩, lw_t7 (List.mem_of_getElem? (i := 29) rfl), lw_t8 (List.mem_of_getElem? (i := 177) rfl), lw_t8 (List.mem_of_getElem? (i := 178) rfl)⟩
theorem lw_p68 : lw_okq (⟨"StrengthenFirstModel", "meanOf", "()J"⟩, 56) := ⟨⟨by decide +kernel, by decide +kernel⟩, lw_t7 (List.mem_of_getElem? (i := 29) rfl), lw_t8 (List.mem_of_getElem? (i := 201) rfl), lw_t8 (List.mem_of_getElem? (i := 202) rfl)⟩
theorem lw_p69 : lw_okq (⟨"StrengthenFirstModel", "noLow", "(I)I"⟩, 56) := ⟨⟨by decide +kernel, by decide +kernel⟩, lw_t7 (List.mem_of_getElem? (i := 29) rfl), lw_t8 (List.mem_of_getElem? (i := 209) rfl), lw_t8 (List.mem_of_getElem? (i := 210) rfl)⟩
theorem lw_p70 : lw_okq (⟨"StrengthenFirstModel", "worthOf", "(I)J"⟩, 56) := ⟨⟨by decide +kernel, by decide +kernel⟩, lw_t7 (List.mem_of_getElem? (i := 29) rfl), lw_t8 (List.mem_of_getElem? (i := 214) rfl), lw_t8 (List.mem_of_getElem? (i := 215) rfl)⟩
theorem lw_p71 : lw_okq (⟨"StrengthenFirstModel", "isYears", "(I)Z"⟩, 56) := ⟨⟨by decide +kernel, by decide +kernel⟩, lw_t7 (List.mem_of_getElem? (i := 29) rfl), lw_t8 (List.mem_of_getElem? (i := 230) rfl), lw_t8 (List.mem_of_getElem? (i := 231) rfl)⟩
theorem lw_p72 : lw_okq (⟨"StrengthenFirstModel", "rowBy", "(I)V"⟩, 56) := ⟨⟨by decide +kernel, by decide +kernel⟩, lw_t7 (List.mem_of_getElem? (i := 29) rfl), lw_t8 (List.mem_of_getElem? (i := 234) rfl), lw_t8 (List.mem_of_getElem? (i := 235) rfl)⟩
theorem lw_p73 : lw_okq (⟨"StrengthenFirstModel", "planned", "(I)J"⟩, 56) := ⟨⟨by decide +kernel, by decide +kernel⟩, lw_t7 (List.mem_of_getElem? (i := 29) rfl), lw_t8 (List.mem_of_getElem? (i := 238) rfl), lw_t8 (List.mem_of_getElem? (i := 239) rfl)⟩
theorem lw_p74 : lw_okq (⟨"StrengthenFirstModel", "builds", "()V"⟩, 56) := ⟨⟨by decide +kernel, by decide +kernel⟩, lw_t7 (List.mem_of_getElem? (i := 29) rfl), lw_t9 (List.mem_of_getElem? (i := 2) rfl), lw_t9 (List.mem_of_getElem? (i := 3) rfl)⟩
theorem lw_p75 : lw_okq (⟨"StrengthenFirstModel", "fresh", "()I"⟩, 56) := ⟨⟨by decide +kernel, by decide +kernel⟩, lw_t7 (List.mem_of_getElem? (i := 29) rfl), lw_t9 (List.mem_of_getElem? (i := 18) rfl), lw_t9 (List.mem_of_getElem? (i := 19) rfl)⟩
theorem lw_p76 : lw_okq (⟨"StrengthenFirstModel", "bests", "(I)V"⟩, 56) := ⟨⟨by decide +kernel, by decide +kernel⟩, lw_t7 (List.mem_of_getElem? (i := 29) rfl), lw_t9 (List.mem_of_getElem? (i := 22) rfl), lw_t9 (List.mem_of_getElem? (i := 23) rfl)⟩
theorem lw_p77 : lw_okq (⟨"StrengthenFirstModel", "tries", "(IIII)V"⟩, 56) := ⟨⟨by decide +kernel, by decide +kernel⟩, lw_t7 (List.mem_of_getElem? (i := 29) rfl), lw_t9 (List.mem_of_getElem? (i := 26) rfl), lw_t9 (List.mem_of_getElem? (i := 27) rfl)⟩
theorem lw_p78 : lw_okq (⟨"StrengthenFirstModel", "lives", "(I)I"⟩, 56) := ⟨⟨by decide +kernel, by decide +kernel⟩, lw_t7 (List.mem_of_getElem? (i := 29) rfl), lw_t9 (List.mem_of_getElem? (i := 54) rfl), lw_t9 (List.mem_of_getElem? (i := 55) rfl)⟩
theorem lw_p79 : lw_okq (⟨"StrengthenFirstModel", "draw", "(I)I"⟩, 56) := ⟨⟨by decide +kernel, by decide +kernel⟩, lw_t7 (List.mem_of_getElem? (i := 29) rfl), lw_t9 (List.mem_of_getElem? (i := 58) rfl), lw_t9 (List.mem_of_getElem? (i := 59) rfl)⟩
def lw_privs_5 : List (MethodName × Nat) := [(⟨"StrengthenFirstModel", "number", "(III)Z"⟩, 56), (⟨"StrengthenFirstModel", "isDigit", "()Z"⟩, 56), (⟨"StrengthenFirstModel", "more", "(III)Z"⟩, 56), (⟨"StrengthenFirstModel", "isShake", "(I)Z"⟩, 56), (⟨"StrengthenFirstModel", "meanOf", "()J"⟩, 56), (⟨"StrengthenFirstModel", "noLow", "(I)I"⟩, 56), (⟨"StrengthenFirstModel", "worthOf", "(I)J"⟩, 56), (⟨"StrengthenFirstModel", "isYears", "(I)Z"⟩, 56), (⟨"StrengthenFirstModel", "rowBy", "(I)V"⟩, 56), (⟨"StrengthenFirstModel", "planned", "(I)J"⟩, 56), (⟨"StrengthenFirstModel", "builds", "()V"⟩, 56), (⟨"StrengthenFirstModel", "fresh", "()I"⟩, 56), (⟨"StrengthenFirstModel", "bests", "(I)V"⟩, 56), (⟨"StrengthenFirstModel", "tries", "(IIII)V"⟩, 56), (⟨"StrengthenFirstModel", "lives", "(I)I"⟩, 56), (⟨"StrengthenFirstModel", "draw", "(I)I"⟩, 56)]
theorem lw_r5 : ∀ q ∈ lw_privs_5, lw_okq q := List.forall_mem_cons.mpr ⟨lw_p64, List.forall_mem_cons.mpr ⟨lw_p65, List.forall_mem_cons.mpr ⟨lw_p66, List.forall_mem_cons.mpr ⟨lw_p67, List.forall_mem_cons.mpr ⟨lw_p68, List.forall_mem_cons.mpr ⟨lw_p69, List.forall_mem_cons.mpr ⟨lw_p70, List.forall_mem_cons.mpr ⟨lw_p71, List.forall_mem_cons.mpr ⟨lw_p72, List.forall_mem_cons.mpr ⟨lw_p73, List.forall_mem_cons.mpr ⟨lw_p74, List.forall_mem_cons.mpr ⟨lw_p75, List.forall_mem_cons.mpr ⟨lw_p76, List.forall_mem_cons.mpr ⟨lw_p77, List.forall_mem_cons.mpr ⟨lw_p78, List.forall_mem_cons.mpr ⟨lw_p79, fun _ h => absurd h List.not_mem_nil⟩⟩⟩⟩⟩⟩⟩⟩⟩⟩⟩⟩⟩⟩⟩⟩
theorem lw_p80 : lw_okq (⟨"StrengthenFirstModel", "ordering", "(II)I"⟩, 56) := ⟨⟨by decide +kernel, by decide +kernel⟩, lw_t7 (List.mem_of_getElem? (i := 29) rfl), lw_t9 (List.mem_of_getElem? (i := 71) rfl), lw_t9 (List.mem_of_getElem? (i := 72) rfl)⟩
theorem lw_p81 : lw_okq (⟨"StrengthenFirstModel", "body", "(I)V"⟩, 56) := ⟨⟨by decide +kernel, by decide +kernel⟩, lw_t7 (List.mem_of_getElem? (i := 29) rfl), lw_t9 (List.mem_of_getElem? (i := 75) rfl), lw_t9 (List.mem_of_getElem? (i := 76) rfl)⟩
theorem lw_p82 : lw_okq (⟨"StrengthenFirstModel", "costing", "(II)I"⟩, 56) := ⟨⟨by decide +kernel, by decide +kernel⟩, lw_t7 (List.mem_of_getElem? (i := 29) rfl), lw_t9 (List.mem_of_getElem? (i := 79) rfl), lw_t9 (List.mem_of_getElem? (i := 80) rfl)⟩
theorem lw_p83 : lw_okq (⟨"StrengthenFirstModel", "saving", "(II)I"⟩, 56) := ⟨⟨by decide +kernel, by decide +kernel⟩, lw_t7 (List.mem_of_getElem? (i := 29) rfl), lw_t9 (List.mem_of_getElem? (i := 83) rfl), lw_t9 (List.mem_of_getElem? (i := 84) rfl)⟩
def lw_privs_6 : List (MethodName × Nat) := [(⟨"StrengthenFirstModel", "ordering", "(II)I"⟩, 56), (⟨"StrengthenFirstModel", "body", "(I)V"⟩, 56), (⟨"StrengthenFirstModel", "costing", "(II)I"⟩, 56), (⟨"StrengthenFirstModel", "saving", "(II)I"⟩, 56)]
theorem lw_r6 : ∀ q ∈ lw_privs_6, lw_okq q := List.forall_mem_cons.mpr ⟨lw_p80, List.forall_mem_cons.mpr ⟨lw_p81, List.forall_mem_cons.mpr ⟨lw_p82, List.forall_mem_cons.mpr ⟨lw_p83, fun _ h => absurd h List.not_mem_nil⟩⟩⟩⟩
def lw_privs : List (MethodName × Nat) := lw_privs_1 ++ (lw_privs_2 ++ (lw_privs_3 ++ (lw_privs_4 ++ (lw_privs_5 ++ (lw_privs_6)))))
def lw_tbl : List Cond := k2_sels lw_privs ++ tables_1
theorem lw_privs_ok : ∀ q ∈ lw_privs, lw_okq q := by
  show ∀ q ∈ lw_privs_1 ++ (lw_privs_2 ++ (lw_privs_3 ++ (lw_privs_4 ++ (lw_privs_5 ++ (lw_privs_6))))), lw_okq q
  exact List.forall_mem_append.mpr ⟨lw_r1, List.forall_mem_append.mpr ⟨lw_r2, List.forall_mem_append.mpr ⟨lw_r3, List.forall_mem_append.mpr ⟨lw_r4, List.forall_mem_append.mpr ⟨lw_r5, lw_r6⟩⟩⟩⟩⟩
-- ===== ONE list of words for every method: the tables' words that hold all through a run =====
def lw_all : List Cond := lw_tbl.filter goodWord
/-- a word of the tables by its place: claim/WORDS.tsv -/
theorem lw_w {w : Cond} (i : Nat) (h : lw_tbl[i]? = some w) (g : goodWord w = true) : w ∈ lw_all := List.mem_filter.mpr ⟨List.mem_of_getElem? h, g⟩
theorem lw_all_tbl {w : Cond} (h : w ∈ lw_all) : w ∈ lw_tbl := (List.mem_filter.mp h).1
theorem lw_self : GoodIn lw_all lw_all := fun w h => ⟨h, good_of_word (List.mem_filter.mp h).2⟩
/-- a class's field words, by their places -/
theorem lw_in (ws : List Cond) (ps : List Nat) (hp : ws = ps.filterMap (fun i => lw_tbl[i]?)) (hg : ws.all goodWord = true) : ∀ w ∈ ws, w ∈ lw_all := by
  intro w h
  have h1 := List.all_eq_true.mp hg w h
  rw [hp] at h
  obtain ⟨i, -, hi⟩ := List.mem_filterMap.mp h
  exact lw_w i hi h1
/-- the words of a contract for the method y with code b, L locals, answer r -/
abbrev ws_ (y : MethodName) (b : ByteArray) (L : Nat) (r : Option FieldType) : List Cond := Cond.code y b L r :: lw_all
theorem lw_meth {y : MethodName} {b : ByteArray} {L : Nat} {r : Option FieldType} (h : Cond.code y b L r ∈ lw_all) : GoodIn lw_all (ws_ y b L r) := by
  intro w hw
  rcases List.mem_cons.mp hw with e | e
  · rw [e]
    exact lw_self _ h
  · exact lw_self _ e
theorem lw_app {a c : List Cond} (ha : ∀ w ∈ a, w ∈ lw_all) (hc : GoodIn lw_all c) : GoodIn lw_all (a ++ c) := by
  intro w hw
  rcases List.mem_append.mp hw with e | e
  · exact lw_self w (ha w e)
  · exact hc w e
/-- what a call through an object asks: cwV n hts (lw_V ..) -/
theorem lw_V {own : String} {idx : Nat} {C : String} {y : MethodName} {b : ByteArray} {L : Nat} {r : Option FieldType} (h1 : Cond.methodLink own idx y ∈ lw_all) (h2 : Cond.instanceMethod y ∈ lw_all) (h3 : Cond.selects C y y ∈ lw_all) (h4 : Cond.initialized C ∈ lw_all) (h5 : Cond.code y b L r ∈ lw_all) : GoodIn lw_all (wsV own idx C y (ws_ y b L r)) := by
  refine lw_app ?_ (lw_meth h5)
  intro w hw
  simp only [List.mem_cons, List.not_mem_nil, or_false] at hw
  rcases hw with e | e | e | e
  · rw [e]; exact h1
  · rw [e]; exact h2
  · rw [e]; exact h3
  · rw [e]; exact h4
/-- what a static call asks: va_cwS n hts (lw_S ..) -/
theorem lw_S {own : String} {idx : Nat} {y : MethodName} {b : ByteArray} {L : Nat} {r : Option FieldType} (h1 : Cond.methodLink own idx y ∈ lw_all) (h2 : Cond.static y ∈ lw_all) (h3 : Cond.initialized y.cls ∈ lw_all) (h4 : Cond.code y b L r ∈ lw_all) : GoodIn lw_all (va_wsS own idx y (ws_ y b L r)) := by
  refine lw_app ?_ (lw_meth h4)
  intro w hw
  simp only [List.mem_cons, List.not_mem_nil, or_false] at hw
  rcases hw with e | e | e
  · rw [e]; exact h1
  · rw [e]; exact h2
  · rw [e]; exact h3
/-- the words of a contract for a method WITH HANDLERS (hh: its table) -/
abbrev wsW_ (y : MethodName) (b : ByteArray) (L : Nat) (r : Option FieldType) (hh : List (Nat × Nat × Nat × Nat)) : List Cond := Cond.codeWith y b L r hh :: lw_all
theorem lw_methW {y : MethodName} {b : ByteArray} {L : Nat} {r : Option FieldType} {hh : List (Nat × Nat × Nat × Nat)} (h : Cond.codeWith y b L r hh ∈ lw_all) : GoodIn lw_all (wsW_ y b L r hh) := by
  intro w hw
  rcases List.mem_cons.mp hw with e | e
  · rw [e]
    exact lw_self _ h
  · exact lw_self _ e
/-- any list of words by their places (lw_in), good -/
theorem lw_good {ws : List Cond} (h : ∀ w ∈ ws, w ∈ lw_all) : GoodIn lw_all ws := fun w hw => lw_self w (h w hw)
/-- what a call of a method with handlers asks: vx_cwVW n hts (lw_VW ..), vx_cwSW n hts (lw_SW ..) -/
theorem lw_VW {own : String} {idx : Nat} {C : String} {y : MethodName} {b : ByteArray} {L : Nat} {r : Option FieldType} {hh : List (Nat × Nat × Nat × Nat)} (h1 : Cond.methodLink own idx y ∈ lw_all) (h2 : Cond.instanceMethod y ∈ lw_all) (h3 : Cond.selects C y y ∈ lw_all) (h4 : Cond.initialized C ∈ lw_all) (h5 : Cond.codeWith y b L r hh ∈ lw_all) : GoodIn lw_all (wsV own idx C y (wsW_ y b L r hh)) := by
  refine lw_app ?_ (lw_methW h5)
  intro w hw
  simp only [List.mem_cons, List.not_mem_nil, or_false] at hw
  rcases hw with e | e | e | e
  · rw [e]; exact h1
  · rw [e]; exact h2
  · rw [e]; exact h3
  · rw [e]; exact h4
theorem lw_SW {own : String} {idx : Nat} {y : MethodName} {b : ByteArray} {L : Nat} {r : Option FieldType} {hh : List (Nat × Nat × Nat × Nat)} (h1 : Cond.methodLink own idx y ∈ lw_all) (h2 : Cond.static y ∈ lw_all) (h3 : Cond.initialized y.cls ∈ lw_all) (h4 : Cond.codeWith y b L r hh ∈ lw_all) : GoodIn lw_all (va_wsS own idx y (wsW_ y b L r hh)) := by
  refine lw_app ?_ (lw_methW h4)
  intro w hw
  simp only [List.mem_cons, List.not_mem_nil, or_false] at hw
  rcases hw with e | e | e
  · rw [e]; exact h1
  · rw [e]; exact h2
  · rw [e]; exact h3
/-- a word by its place in its run of the tables -/
theorem lw_at {r : List Cond} (hr : ∀ w ∈ r, w ∈ lw_tbl) {w : Cond} (i : Nat) (h : r[i]? = some w) : w ∈ lw_tbl := hr w (List.mem_of_getElem? h)
theorem lw_g {w : Cond} (h : w ∈ lw_tbl) (g : goodWord w = true) : w ∈ lw_all := List.mem_filter.mpr ⟨h, g⟩
theorem lw_ms : ∀ w ∈ k2_sels lw_privs, w ∈ lw_tbl := fun w h => show w ∈ k2_sels lw_privs ++ tables_1 from List.mem_append_left _ h
theorem lw_m1 : ∀ w ∈ tables_1_1, w ∈ lw_tbl := fun w h => show w ∈ k2_sels lw_privs ++ tables_1 from List.mem_append_right (k2_sels lw_privs) (show w ∈ tables_1 from List.mem_append_left _ h)
theorem lw_m2 : ∀ w ∈ tables_1_2, w ∈ lw_tbl := fun w h => show w ∈ k2_sels lw_privs ++ tables_1 from List.mem_append_right (k2_sels lw_privs) (show w ∈ tables_1 from List.mem_append_right _ (List.mem_append_left _ h))
theorem lw_m3 : ∀ w ∈ tables_1_3, w ∈ lw_tbl := fun w h => show w ∈ k2_sels lw_privs ++ tables_1 from List.mem_append_right (k2_sels lw_privs) (show w ∈ tables_1 from List.mem_append_right _ (List.mem_append_right _ (List.mem_append_left _ h)))
theorem lw_m4 : ∀ w ∈ tables_1_4, w ∈ lw_tbl := fun w h => show w ∈ k2_sels lw_privs ++ tables_1 from List.mem_append_right (k2_sels lw_privs) (show w ∈ tables_1 from List.mem_append_right _ (List.mem_append_right _ (List.mem_append_right _ (List.mem_append_left _ h))))
theorem lw_m5 : ∀ w ∈ tables_1_5, w ∈ lw_tbl := fun w h => show w ∈ k2_sels lw_privs ++ tables_1 from List.mem_append_right (k2_sels lw_privs) (show w ∈ tables_1 from List.mem_append_right _ (List.mem_append_right _ (List.mem_append_right _ (List.mem_append_right _ (List.mem_append_left _ h)))))
theorem lw_m6 : ∀ w ∈ tables_1_6, w ∈ lw_tbl := fun w h => show w ∈ k2_sels lw_privs ++ tables_1 from List.mem_append_right (k2_sels lw_privs) (show w ∈ tables_1 from List.mem_append_right _ (List.mem_append_right _ (List.mem_append_right _ (List.mem_append_right _ (List.mem_append_right _ (List.mem_append_left _ h))))))
theorem lw_m7 : ∀ w ∈ tables_1_7, w ∈ lw_tbl := fun w h => show w ∈ k2_sels lw_privs ++ tables_1 from List.mem_append_right (k2_sels lw_privs) (show w ∈ tables_1 from List.mem_append_right _ (List.mem_append_right _ (List.mem_append_right _ (List.mem_append_right _ (List.mem_append_right _ (List.mem_append_right _ (List.mem_append_left _ h)))))))
theorem lw_m8 : ∀ w ∈ tables_1_8, w ∈ lw_tbl := fun w h => show w ∈ k2_sels lw_privs ++ tables_1 from List.mem_append_right (k2_sels lw_privs) (show w ∈ tables_1 from List.mem_append_right _ (List.mem_append_right _ (List.mem_append_right _ (List.mem_append_right _ (List.mem_append_right _ (List.mem_append_right _ (List.mem_append_right _ (List.mem_append_left _ h))))))))
theorem lw_m9 : ∀ w ∈ tables_1_9, w ∈ lw_tbl := fun w h => show w ∈ k2_sels lw_privs ++ tables_1 from List.mem_append_right (k2_sels lw_privs) (show w ∈ tables_1 from List.mem_append_right _ (List.mem_append_right _ (List.mem_append_right _ (List.mem_append_right _ (List.mem_append_right _ (List.mem_append_right _ (List.mem_append_right _ (List.mem_append_right _ h))))))))
theorem qs0 : (Cond.selects "StrengthenFirst" ⟨"StrengthenFirst", "shelf", "(I)LStrengthenFirst$Shelf;"⟩ ⟨"StrengthenFirst", "shelf", "(I)LStrengthenFirst$Shelf;"⟩) ∈ lw_all := lw_g (lw_at lw_ms 0 rfl) rfl
theorem qs1 : (Cond.selects "java/lang/Throwable" ⟨"java/lang/Throwable", "fillInStackTrace", "(I)Ljava/lang/Throwable;"⟩ ⟨"java/lang/Throwable", "fillInStackTrace", "(I)Ljava/lang/Throwable;"⟩) ∈ lw_all := lw_g (lw_at lw_ms 1 rfl) rfl
theorem qs2 : (Cond.selects "StrengthenFirst" ⟨"StrengthenFirst", "refused", "(LStrengthenFirst$Refused;)I"⟩ ⟨"StrengthenFirst", "refused", "(LStrengthenFirst$Refused;)I"⟩) ∈ lw_all := lw_g (lw_at lw_ms 2 rfl) rfl
theorem qs3 : (Cond.selects "StrengthenFirst" ⟨"StrengthenFirst", "newRule", "(III)LStrengthenFirst$Rule;"⟩ ⟨"StrengthenFirst", "newRule", "(III)LStrengthenFirst$Rule;"⟩) ∈ lw_all := lw_g (lw_at lw_ms 3 rfl) rfl
theorem qs4 : (Cond.selects "StrengthenFirst$Sums" ⟨"StrengthenFirst$Sums", "worth", "(II)I"⟩ ⟨"StrengthenFirst$Sums", "worth", "(II)I"⟩) ∈ lw_all := lw_g (lw_at lw_ms 4 rfl) rfl
theorem qs5 : (Cond.selects "StrengthenFirst$Sums" ⟨"StrengthenFirst$Sums", "count", "(IIZ)I"⟩ ⟨"StrengthenFirst$Sums", "count", "(IIZ)I"⟩) ∈ lw_all := lw_g (lw_at lw_ms 5 rfl) rfl
theorem qs6 : (Cond.selects "StrengthenFirst$Saves" ⟨"StrengthenFirst$Saves", "next", "(LStrengthenFirst$Town;LStrengthenFirst$Sums;LStrengthenFirst$Order;)Z"⟩ ⟨"StrengthenFirst$Saves", "next", "(LStrengthenFirst$Town;LStrengthenFirst$Sums;LStrengthenFirst$Order;)Z"⟩) ∈ lw_all := lw_g (lw_at lw_ms 6 rfl) rfl
theorem qs7 : (Cond.selects "StrengthenFirst$Sums" ⟨"StrengthenFirst$Sums", "find", "(I)V"⟩ ⟨"StrengthenFirst$Sums", "find", "(I)V"⟩) ∈ lw_all := lw_g (lw_at lw_ms 7 rfl) rfl
theorem qs8 : (Cond.selects "StrengthenFirst" ⟨"StrengthenFirst", "add", "(IIIII)I"⟩ ⟨"StrengthenFirst", "add", "(IIIII)I"⟩) ∈ lw_all := lw_g (lw_at lw_ms 8 rfl) rfl
theorem qs9 : (Cond.selects "StrengthenFirst" ⟨"StrengthenFirst", "isHouse", "(I)Z"⟩ ⟨"StrengthenFirst", "isHouse", "(I)Z"⟩) ∈ lw_all := lw_g (lw_at lw_ms 9 rfl) rfl
theorem qs10 : (Cond.selects "StrengthenFirst" ⟨"StrengthenFirst", "beyond", "()I"⟩ ⟨"StrengthenFirst", "beyond", "()I"⟩) ∈ lw_all := lw_g (lw_at lw_ms 10 rfl) rfl
theorem qs11 : (Cond.selects "StrengthenFirst" ⟨"StrengthenFirst", "houseAt", "(I)LStrengthenFirst$House;"⟩ ⟨"StrengthenFirst", "houseAt", "(I)LStrengthenFirst$House;"⟩) ∈ lw_all := lw_g (lw_at lw_ms 11 rfl) rfl
theorem qs12 : (Cond.selects "StrengthenFirst$Reader" ⟨"StrengthenFirst$Reader", "item", "()V"⟩ ⟨"StrengthenFirst$Reader", "item", "()V"⟩) ∈ lw_all := lw_g (lw_at lw_ms 12 rfl) rfl
theorem qs13 : (Cond.selects "StrengthenFirst$Reader" ⟨"StrengthenFirst$Reader", "sees", "(I)Z"⟩ ⟨"StrengthenFirst$Reader", "sees", "(I)Z"⟩) ∈ lw_all := lw_g (lw_at lw_ms 13 rfl) rfl
theorem qs14 : (Cond.selects "StrengthenFirst$Reader" ⟨"StrengthenFirst$Reader", "ends", "()Z"⟩ ⟨"StrengthenFirst$Reader", "ends", "()Z"⟩) ∈ lw_all := lw_g (lw_at lw_ms 14 rfl) rfl
theorem qs15 : (Cond.selects "StrengthenFirst$Reader" ⟨"StrengthenFirst$Reader", "withS", "(I)V"⟩ ⟨"StrengthenFirst$Reader", "withS", "(I)V"⟩) ∈ lw_all := lw_g (lw_at lw_ms 15 rfl) rfl
theorem qs16 : (Cond.selects "StrengthenFirst$Reader" ⟨"StrengthenFirst$Reader", "must", "(I)V"⟩ ⟨"StrengthenFirst$Reader", "must", "(I)V"⟩) ∈ lw_all := lw_g (lw_at lw_ms 16 rfl) rfl
theorem qs17 : (Cond.selects "StrengthenFirst$Reader" ⟨"StrengthenFirst$Reader", "word", "(Ljava/lang/String;)V"⟩ ⟨"StrengthenFirst$Reader", "word", "(Ljava/lang/String;)V"⟩) ∈ lw_all := lw_g (lw_at lw_ms 17 rfl) rfl
theorem qs18 : (Cond.selects "StrengthenFirst$Reader" ⟨"StrengthenFirst$Reader", "hasRoom", "(ZI)V"⟩ ⟨"StrengthenFirst$Reader", "hasRoom", "(ZI)V"⟩) ∈ lw_all := lw_g (lw_at lw_ms 18 rfl) rfl
theorem qs19 : (Cond.selects "StrengthenFirst$Reader" ⟨"StrengthenFirst$Reader", "number", "(II)I"⟩ ⟨"StrengthenFirst$Reader", "number", "(II)I"⟩) ∈ lw_all := lw_g (lw_at lw_ms 19 rfl) rfl
theorem qs20 : (Cond.selects "StrengthenFirst$Reader" ⟨"StrengthenFirst$Reader", "number", "(III)I"⟩ ⟨"StrengthenFirst$Reader", "number", "(III)I"⟩) ∈ lw_all := lw_g (lw_at lw_ms 20 rfl) rfl
theorem qs21 : (Cond.selects "StrengthenFirst$Reader" ⟨"StrengthenFirst$Reader", "digit", "()Z"⟩ ⟨"StrengthenFirst$Reader", "digit", "()Z"⟩) ∈ lw_all := lw_g (lw_at lw_ms 21 rfl) rfl
theorem qs22 : (Cond.selects "StrengthenFirst$Reader" ⟨"StrengthenFirst$Reader", "house", "(I)V"⟩ ⟨"StrengthenFirst$Reader", "house", "(I)V"⟩) ∈ lw_all := lw_g (lw_at lw_ms 22 rfl) rfl
theorem qs23 : (Cond.selects "StrengthenFirst" ⟨"StrengthenFirst", "isShake", "(I)Z"⟩ ⟨"StrengthenFirst", "isShake", "(I)Z"⟩) ∈ lw_all := lw_g (lw_at lw_ms 23 rfl) rfl
theorem qs24 : (Cond.selects "StrengthenFirst" ⟨"StrengthenFirst", "meanNow", "()J"⟩ ⟨"StrengthenFirst", "meanNow", "()J"⟩) ∈ lw_all := lw_g (lw_at lw_ms 24 rfl) rfl
theorem qs25 : (Cond.selects "StrengthenFirst" ⟨"StrengthenFirst", "worthOf", "(LStrengthenFirst$House;J)J"⟩ ⟨"StrengthenFirst", "worthOf", "(LStrengthenFirst$House;J)J"⟩) ∈ lw_all := lw_g (lw_at lw_ms 25 rfl) rfl
theorem qs26 : (Cond.selects "StrengthenFirst" ⟨"StrengthenFirst", "lossOf", "(LStrengthenFirst$Rule;I[I)J"⟩ ⟨"StrengthenFirst", "lossOf", "(LStrengthenFirst$Rule;I[I)J"⟩) ∈ lw_all := lw_g (lw_at lw_ms 26 rfl) rfl
theorem qs27 : (Cond.selects "StrengthenFirst$Plan" ⟨"StrengthenFirst$Plan", "stepsThere", "()I"⟩ ⟨"StrengthenFirst$Plan", "stepsThere", "()I"⟩) ∈ lw_all := lw_g (lw_at lw_ms 27 rfl) rfl
theorem qs28 : (Cond.selects "StrengthenFirst" ⟨"StrengthenFirst", "bestOf", "(I)LStrengthenFirst$Best;"⟩ ⟨"StrengthenFirst", "bestOf", "(I)LStrengthenFirst$Best;"⟩) ∈ lw_all := lw_g (lw_at lw_ms 28 rfl) rfl
theorem qs29 : (Cond.selects "StrengthenFirst$Best" ⟨"StrengthenFirst$Best", "rows", "(II)V"⟩ ⟨"StrengthenFirst$Best", "rows", "(II)V"⟩) ∈ lw_all := lw_g (lw_at lw_ms 29 rfl) rfl
theorem qs30 : (Cond.selects "StrengthenFirst$Best" ⟨"StrengthenFirst$Best", "loss", "()J"⟩ ⟨"StrengthenFirst$Best", "loss", "()J"⟩) ∈ lw_all := lw_g (lw_at lw_ms 30 rfl) rfl
theorem qs31 : (Cond.selects "StrengthenFirst" ⟨"StrengthenFirst", "isRuleHeld", "()Z"⟩ ⟨"StrengthenFirst", "isRuleHeld", "()Z"⟩) ∈ lw_all := lw_g (lw_at lw_ms 31 rfl) rfl
theorem qs32 : (Cond.selects "StrengthenFirst" ⟨"StrengthenFirst", "year", "(LStrengthenFirst$Rule;)I"⟩ ⟨"StrengthenFirst", "year", "(LStrengthenFirst$Rule;)I"⟩) ∈ lw_all := lw_g (lw_at lw_ms 32 rfl) rfl
theorem qs33 : (Cond.selects "StrengthenFirst" ⟨"StrengthenFirst", "shaken", "(I)I"⟩ ⟨"StrengthenFirst", "shaken", "(I)I"⟩) ∈ lw_all := lw_g (lw_at lw_ms 33 rfl) rfl
theorem qs34 : (Cond.selects "StrengthenFirstModel" ⟨"StrengthenFirstModel", "isShelf", "(I)Z"⟩ ⟨"StrengthenFirstModel", "isShelf", "(I)Z"⟩) ∈ lw_all := lw_g (lw_at lw_ms 34 rfl) rfl
theorem qs35 : (Cond.selects "StrengthenFirstModel" ⟨"StrengthenFirstModel", "no", "(I)I"⟩ ⟨"StrengthenFirstModel", "no", "(I)I"⟩) ∈ lw_all := lw_g (lw_at lw_ms 35 rfl) rfl
theorem qs36 : (Cond.selects "StrengthenFirstModel" ⟨"StrengthenFirstModel", "wants", "(II)I"⟩ ⟨"StrengthenFirstModel", "wants", "(II)I"⟩) ∈ lw_all := lw_g (lw_at lw_ms 36 rfl) rfl
theorem qs37 : (Cond.selects "StrengthenFirstModel" ⟨"StrengthenFirstModel", "orders", "(I)V"⟩ ⟨"StrengthenFirstModel", "orders", "(I)V"⟩) ∈ lw_all := lw_g (lw_at lw_ms 37 rfl) rfl
theorem qs38 : (Cond.selects "StrengthenFirstModel" ⟨"StrengthenFirstModel", "saves", "(I)V"⟩ ⟨"StrengthenFirstModel", "saves", "(I)V"⟩) ∈ lw_all := lw_g (lw_at lw_ms 38 rfl) rfl
theorem qs39 : (Cond.selects "StrengthenFirstModel" ⟨"StrengthenFirstModel", "worthsBy", "(IZ)V"⟩ ⟨"StrengthenFirstModel", "worthsBy", "(IZ)V"⟩) ∈ lw_all := lw_g (lw_at lw_ms 39 rfl) rfl
theorem qs40 : (Cond.selects "StrengthenFirstModel" ⟨"StrengthenFirstModel", "cutOf", "(I)I"⟩ ⟨"StrengthenFirstModel", "cutOf", "(I)I"⟩) ∈ lw_all := lw_g (lw_at lw_ms 40 rfl) rfl
theorem qs41 : (Cond.selects "StrengthenFirstModel" ⟨"StrengthenFirstModel", "people", "(II)I"⟩ ⟨"StrengthenFirstModel", "people", "(II)I"⟩) ∈ lw_all := lw_g (lw_at lw_ms 41 rfl) rfl
theorem qs42 : (Cond.selects "StrengthenFirstModel" ⟨"StrengthenFirstModel", "isIn", "(I)Z"⟩ ⟨"StrengthenFirstModel", "isIn", "(I)Z"⟩) ∈ lw_all := lw_g (lw_at lw_ms 42 rfl) rfl
theorem qs43 : (Cond.selects "StrengthenFirstModel" ⟨"StrengthenFirstModel", "meanNow", "()J"⟩ ⟨"StrengthenFirstModel", "meanNow", "()J"⟩) ∈ lw_all := lw_g (lw_at lw_ms 43 rfl) rfl
theorem qs44 : (Cond.selects "StrengthenFirstModel" ⟨"StrengthenFirstModel", "lostBy", "(I)J"⟩ ⟨"StrengthenFirstModel", "lostBy", "(I)J"⟩) ∈ lw_all := lw_g (lw_at lw_ms 44 rfl) rfl
theorem qs45 : (Cond.selects "StrengthenFirstModel" ⟨"StrengthenFirstModel", "oddsBy", "(I)V"⟩ ⟨"StrengthenFirstModel", "oddsBy", "(I)V"⟩) ∈ lw_all := lw_g (lw_at lw_ms 45 rfl) rfl
theorem qs46 : (Cond.selects "StrengthenFirstModel" ⟨"StrengthenFirstModel", "fallsOf", "(II)I"⟩ ⟨"StrengthenFirstModel", "fallsOf", "(II)I"⟩) ∈ lw_all := lw_g (lw_at lw_ms 46 rfl) rfl
theorem qs47 : (Cond.selects "StrengthenFirstModel" ⟨"StrengthenFirstModel", "rests", "()V"⟩ ⟨"StrengthenFirstModel", "rests", "()V"⟩) ∈ lw_all := lw_g (lw_at lw_ms 47 rfl) rfl
theorem qs48 : (Cond.selects "StrengthenFirstModel" ⟨"StrengthenFirstModel", "intAt", "(II)I"⟩ ⟨"StrengthenFirstModel", "intAt", "(II)I"⟩) ∈ lw_all := lw_g (lw_at lw_ms 48 rfl) rfl
theorem qs49 : (Cond.selects "StrengthenFirstModel" ⟨"StrengthenFirstModel", "isHouse", "(I)Z"⟩ ⟨"StrengthenFirstModel", "isHouse", "(I)Z"⟩) ∈ lw_all := lw_g (lw_at lw_ms 49 rfl) rfl
theorem qs50 : (Cond.selects "StrengthenFirstModel" ⟨"StrengthenFirstModel", "isAhead", "(III)Z"⟩ ⟨"StrengthenFirstModel", "isAhead", "(III)Z"⟩) ∈ lw_all := lw_g (lw_at lw_ms 50 rfl) rfl
theorem qs51 : (Cond.selects "StrengthenFirstModel" ⟨"StrengthenFirstModel", "isCorner", "(I)Z"⟩ ⟨"StrengthenFirstModel", "isCorner", "(I)Z"⟩) ∈ lw_all := lw_g (lw_at lw_ms 51 rfl) rfl
theorem qs52 : (Cond.selects "StrengthenFirstModel" ⟨"StrengthenFirstModel", "streets", "(II)I"⟩ ⟨"StrengthenFirstModel", "streets", "(II)I"⟩) ∈ lw_all := lw_g (lw_at lw_ms 52 rfl) rfl
theorem qs53 : (Cond.selects "StrengthenFirstModel" ⟨"StrengthenFirstModel", "isSo", "(IIII)Z"⟩ ⟨"StrengthenFirstModel", "isSo", "(IIII)Z"⟩) ∈ lw_all := lw_g (lw_at lw_ms 53 rfl) rfl
theorem qs54 : (Cond.selects "StrengthenFirstModel" ⟨"StrengthenFirstModel", "comes", "(IIIII)I"⟩ ⟨"StrengthenFirstModel", "comes", "(IIIII)I"⟩) ∈ lw_all := lw_g (lw_at lw_ms 54 rfl) rfl
theorem qs55 : (Cond.selects "StrengthenFirstModel" ⟨"StrengthenFirstModel", "noTen", "(I)I"⟩ ⟨"StrengthenFirstModel", "noTen", "(I)I"⟩) ∈ lw_all := lw_g (lw_at lw_ms 55 rfl) rfl
theorem qs56 : (Cond.selects "StrengthenFirstModel" ⟨"StrengthenFirstModel", "shakes", "(II)I"⟩ ⟨"StrengthenFirstModel", "shakes", "(II)I"⟩) ∈ lw_all := lw_g (lw_at lw_ms 56 rfl) rfl
theorem qs57 : (Cond.selects "StrengthenFirstModel" ⟨"StrengthenFirstModel", "all", "([IZ)V"⟩ ⟨"StrengthenFirstModel", "all", "([IZ)V"⟩) ∈ lw_all := lw_g (lw_at lw_ms 57 rfl) rfl
theorem qs58 : (Cond.selects "StrengthenFirstModel" ⟨"StrengthenFirstModel", "keeps", "([II[IIZ)I"⟩ ⟨"StrengthenFirstModel", "keeps", "([II[IIZ)I"⟩) ∈ lw_all := lw_g (lw_at lw_ms 58 rfl) rfl
theorem qs59 : (Cond.selects "StrengthenFirstModel" ⟨"StrengthenFirstModel", "item", "()Z"⟩ ⟨"StrengthenFirstModel", "item", "()Z"⟩) ∈ lw_all := lw_g (lw_at lw_ms 59 rfl) rfl
theorem qs60 : (Cond.selects "StrengthenFirstModel" ⟨"StrengthenFirstModel", "isWordAt", "(I)Z"⟩ ⟨"StrengthenFirstModel", "isWordAt", "(I)Z"⟩) ∈ lw_all := lw_g (lw_at lw_ms 60 rfl) rfl
theorem qs61 : (Cond.selects "StrengthenFirstModel" ⟨"StrengthenFirstModel", "isFull", "(I)Z"⟩ ⟨"StrengthenFirstModel", "isFull", "(I)Z"⟩) ∈ lw_all := lw_g (lw_at lw_ms 61 rfl) rfl
theorem qs62 : (Cond.selects "StrengthenFirstModel" ⟨"StrengthenFirstModel", "wrong", "(I)Z"⟩ ⟨"StrengthenFirstModel", "wrong", "(I)Z"⟩) ∈ lw_all := lw_g (lw_at lw_ms 62 rfl) rfl
theorem qs63 : (Cond.selects "StrengthenFirstModel" ⟨"StrengthenFirstModel", "word", "(II)I"⟩ ⟨"StrengthenFirstModel", "word", "(II)I"⟩) ∈ lw_all := lw_g (lw_at lw_ms 63 rfl) rfl
theorem qs64 : (Cond.selects "StrengthenFirstModel" ⟨"StrengthenFirstModel", "number", "(III)Z"⟩ ⟨"StrengthenFirstModel", "number", "(III)Z"⟩) ∈ lw_all := lw_g (lw_at lw_ms 64 rfl) rfl
theorem qs65 : (Cond.selects "StrengthenFirstModel" ⟨"StrengthenFirstModel", "isDigit", "()Z"⟩ ⟨"StrengthenFirstModel", "isDigit", "()Z"⟩) ∈ lw_all := lw_g (lw_at lw_ms 65 rfl) rfl
theorem qs66 : (Cond.selects "StrengthenFirstModel" ⟨"StrengthenFirstModel", "more", "(III)Z"⟩ ⟨"StrengthenFirstModel", "more", "(III)Z"⟩) ∈ lw_all := lw_g (lw_at lw_ms 66 rfl) rfl
theorem qs67 : (Cond.selects "StrengthenFirstModel" ⟨"StrengthenFirstModel", "isShake", "(I)Z"⟩ ⟨"StrengthenFirstModel", "isShake", "(I)Z"⟩) ∈ lw_all := lw_g (lw_at lw_ms 67 rfl) rfl
theorem qs68 : (Cond.selects "StrengthenFirstModel" ⟨"StrengthenFirstModel", "meanOf", "()J"⟩ ⟨"StrengthenFirstModel", "meanOf", "()J"⟩) ∈ lw_all := lw_g (lw_at lw_ms 68 rfl) rfl
theorem qs69 : (Cond.selects "StrengthenFirstModel" ⟨"StrengthenFirstModel", "noLow", "(I)I"⟩ ⟨"StrengthenFirstModel", "noLow", "(I)I"⟩) ∈ lw_all := lw_g (lw_at lw_ms 69 rfl) rfl
theorem qs70 : (Cond.selects "StrengthenFirstModel" ⟨"StrengthenFirstModel", "worthOf", "(I)J"⟩ ⟨"StrengthenFirstModel", "worthOf", "(I)J"⟩) ∈ lw_all := lw_g (lw_at lw_ms 70 rfl) rfl
theorem qs71 : (Cond.selects "StrengthenFirstModel" ⟨"StrengthenFirstModel", "isYears", "(I)Z"⟩ ⟨"StrengthenFirstModel", "isYears", "(I)Z"⟩) ∈ lw_all := lw_g (lw_at lw_ms 71 rfl) rfl
theorem qs72 : (Cond.selects "StrengthenFirstModel" ⟨"StrengthenFirstModel", "rowBy", "(I)V"⟩ ⟨"StrengthenFirstModel", "rowBy", "(I)V"⟩) ∈ lw_all := lw_g (lw_at lw_ms 72 rfl) rfl
theorem qs73 : (Cond.selects "StrengthenFirstModel" ⟨"StrengthenFirstModel", "planned", "(I)J"⟩ ⟨"StrengthenFirstModel", "planned", "(I)J"⟩) ∈ lw_all := lw_g (lw_at lw_ms 73 rfl) rfl
theorem qs74 : (Cond.selects "StrengthenFirstModel" ⟨"StrengthenFirstModel", "builds", "()V"⟩ ⟨"StrengthenFirstModel", "builds", "()V"⟩) ∈ lw_all := lw_g (lw_at lw_ms 74 rfl) rfl
theorem qs75 : (Cond.selects "StrengthenFirstModel" ⟨"StrengthenFirstModel", "fresh", "()I"⟩ ⟨"StrengthenFirstModel", "fresh", "()I"⟩) ∈ lw_all := lw_g (lw_at lw_ms 75 rfl) rfl
theorem qs76 : (Cond.selects "StrengthenFirstModel" ⟨"StrengthenFirstModel", "bests", "(I)V"⟩ ⟨"StrengthenFirstModel", "bests", "(I)V"⟩) ∈ lw_all := lw_g (lw_at lw_ms 76 rfl) rfl
theorem qs77 : (Cond.selects "StrengthenFirstModel" ⟨"StrengthenFirstModel", "tries", "(IIII)V"⟩ ⟨"StrengthenFirstModel", "tries", "(IIII)V"⟩) ∈ lw_all := lw_g (lw_at lw_ms 77 rfl) rfl
theorem qs78 : (Cond.selects "StrengthenFirstModel" ⟨"StrengthenFirstModel", "lives", "(I)I"⟩ ⟨"StrengthenFirstModel", "lives", "(I)I"⟩) ∈ lw_all := lw_g (lw_at lw_ms 78 rfl) rfl
theorem qs79 : (Cond.selects "StrengthenFirstModel" ⟨"StrengthenFirstModel", "draw", "(I)I"⟩ ⟨"StrengthenFirstModel", "draw", "(I)I"⟩) ∈ lw_all := lw_g (lw_at lw_ms 79 rfl) rfl
theorem qs80 : (Cond.selects "StrengthenFirstModel" ⟨"StrengthenFirstModel", "ordering", "(II)I"⟩ ⟨"StrengthenFirstModel", "ordering", "(II)I"⟩) ∈ lw_all := lw_g (lw_at lw_ms 80 rfl) rfl
theorem qs81 : (Cond.selects "StrengthenFirstModel" ⟨"StrengthenFirstModel", "body", "(I)V"⟩ ⟨"StrengthenFirstModel", "body", "(I)V"⟩) ∈ lw_all := lw_g (lw_at lw_ms 81 rfl) rfl
theorem qs82 : (Cond.selects "StrengthenFirstModel" ⟨"StrengthenFirstModel", "costing", "(II)I"⟩ ⟨"StrengthenFirstModel", "costing", "(II)I"⟩) ∈ lw_all := lw_g (lw_at lw_ms 82 rfl) rfl
theorem qs83 : (Cond.selects "StrengthenFirstModel" ⟨"StrengthenFirstModel", "saving", "(II)I"⟩ ⟨"StrengthenFirstModel", "saving", "(II)I"⟩) ∈ lw_all := lw_g (lw_at lw_ms 83 rfl) rfl

theorem q84 : (Jvm.Cond.initialized "StrengthenFirstLaw") ∈ lw_all := lw_g (lw_at lw_m1 0 rfl) rfl
theorem q85 : (Jvm.Cond.initialized "StrengthenFirst") ∈ lw_all := lw_g (lw_at lw_m1 1 rfl) rfl
theorem q86 : (Jvm.Cond.initialized "StrengthenFirst$Trace") ∈ lw_all := lw_g (lw_at lw_m1 2 rfl) rfl
theorem q87 : (Jvm.Cond.initialized "StrengthenFirst$Sums") ∈ lw_all := lw_g (lw_at lw_m1 3 rfl) rfl
theorem q88 : (Jvm.Cond.initialized "StrengthenFirst$Town") ∈ lw_all := lw_g (lw_at lw_m1 4 rfl) rfl
theorem q89 : (Jvm.Cond.initialized "StrengthenFirst$Shelf") ∈ lw_all := lw_g (lw_at lw_m1 5 rfl) rfl
theorem q90 : (Jvm.Cond.initialized "StrengthenFirstModel") ∈ lw_all := lw_g (lw_at lw_m1 6 rfl) rfl
theorem q91 : (Jvm.Cond.initialized "java/lang/Throwable") ∈ lw_all := lw_g (lw_at lw_m1 7 rfl) rfl
theorem q92 : (Jvm.Cond.initialized "java/lang/Exception") ∈ lw_all := lw_g (lw_at lw_m1 8 rfl) rfl
theorem q93 : (Jvm.Cond.initialized "java/lang/RuntimeException") ∈ lw_all := lw_g (lw_at lw_m1 9 rfl) rfl
theorem q94 : (Jvm.Cond.initialized "java/lang/IndexOutOfBoundsException") ∈ lw_all := lw_g (lw_at lw_m1 10 rfl) rfl
theorem q95 : (Jvm.Cond.initialized "java/lang/ArrayIndexOutOfBoundsException") ∈ lw_all := lw_g (lw_at lw_m1 11 rfl) rfl
theorem q96 : (Jvm.Cond.initialized "java/lang/String") ∈ lw_all := lw_g (lw_at lw_m1 12 rfl) rfl
theorem q97 : (Jvm.Cond.initialized "StrengthenFirst$Refused") ∈ lw_all := lw_g (lw_at lw_m1 13 rfl) rfl
theorem q98 : (Jvm.Cond.initialized "java/lang/NegativeArraySizeException") ∈ lw_all := lw_g (lw_at lw_m1 14 rfl) rfl
theorem q99 : (Jvm.Cond.initialized "StrengthenFirst$Row") ∈ lw_all := lw_g (lw_at lw_m1 15 rfl) rfl
theorem q100 : (Jvm.Cond.initialized "StrengthenFirst$Bytes") ∈ lw_all := lw_g (lw_at lw_m1 16 rfl) rfl
theorem q101 : (Jvm.Cond.initialized "StrengthenFirst$Shorts") ∈ lw_all := lw_g (lw_at lw_m1 17 rfl) rfl
theorem q102 : (Jvm.Cond.initialized "StrengthenFirst$Ints") ∈ lw_all := lw_g (lw_at lw_m1 18 rfl) rfl
theorem q103 : (Jvm.Cond.initialized "StrengthenFirst$Longs") ∈ lw_all := lw_g (lw_at lw_m1 19 rfl) rfl
theorem q104 : (Jvm.Cond.initialized "java/lang/ClassCastException") ∈ lw_all := lw_g (lw_at lw_m1 20 rfl) rfl
theorem q105 : (Jvm.Cond.initialized "java/lang/System") ∈ lw_all := lw_g (lw_at lw_m1 21 rfl) rfl
theorem q106 : (Jvm.Cond.initialized "StrengthenFirst$Rule") ∈ lw_all := lw_g (lw_at lw_m1 22 rfl) rfl
theorem q107 : (Jvm.Cond.initialized "StrengthenFirst$Full") ∈ lw_all := lw_g (lw_at lw_m1 23 rfl) rfl
theorem q108 : (Jvm.Cond.initialized "StrengthenFirst$Weak") ∈ lw_all := lw_g (lw_at lw_m1 24 rfl) rfl
theorem q109 : (Jvm.Cond.initialized "StrengthenFirst$Street") ∈ lw_all := lw_g (lw_at lw_m1 25 rfl) rfl
theorem q110 : (Jvm.Cond.initialized "StrengthenFirst$Saves") ∈ lw_all := lw_g (lw_at lw_m1 26 rfl) rfl
theorem q111 : (Jvm.Cond.initialized "StrengthenFirst$Prop") ∈ lw_all := lw_g (lw_at lw_m1 27 rfl) rfl
theorem q112 : (Jvm.Cond.initialized "StrengthenFirst$Told") ∈ lw_all := lw_g (lw_at lw_m1 28 rfl) rfl
theorem q113 : (Jvm.Cond.initialized "StrengthenFirst$Order") ∈ lw_all := lw_g (lw_at lw_m1 29 rfl) rfl
theorem q114 : (Jvm.Cond.initialized "StrengthenFirst$House") ∈ lw_all := lw_g (lw_at lw_m1 30 rfl) rfl
theorem q115 : (Jvm.Cond.initialized "java/lang/Math") ∈ lw_all := lw_g (lw_at lw_m1 31 rfl) rfl
theorem q116 : (Jvm.Cond.initialized "StrengthenFirst$Reader") ∈ lw_all := lw_g (lw_at lw_m1 32 rfl) rfl
theorem q117 : (Jvm.Cond.initialized "StrengthenFirst$Faulty") ∈ lw_all := lw_g (lw_at lw_m1 33 rfl) rfl
theorem q118 : (Jvm.Cond.initialized "java/lang/StringLatin1") ∈ lw_all := lw_g (lw_at lw_m1 34 rfl) rfl
theorem q119 : (Jvm.Cond.initialized "jdk/internal/util/Preconditions") ∈ lw_all := lw_g (lw_at lw_m1 35 rfl) rfl
theorem q120 : (Jvm.Cond.initialized "java/lang/StringUTF16") ∈ lw_all := lw_g (lw_at lw_m1 36 rfl) rfl
theorem q121 : (Jvm.Cond.initialized "StrengthenFirst$Plan") ∈ lw_all := lw_g (lw_at lw_m1 37 rfl) rfl
theorem q122 : (Jvm.Cond.initialized "StrengthenFirst$Best") ∈ lw_all := lw_g (lw_at lw_m1 38 rfl) rfl
theorem q123 : (Jvm.Cond.classLink "StrengthenFirstLaw" (7 : Nat) "StrengthenFirst") ∈ lw_all := lw_g (lw_at lw_m1 39 rfl) rfl
theorem q124 : (Jvm.Cond.instantiable "StrengthenFirst" (7 : Nat)) ∈ lw_all := lw_g (lw_at lw_m1 40 rfl) rfl
theorem q125 : (Jvm.Cond.methodLink "StrengthenFirstLaw" (9 : Nat) ({ cls := "StrengthenFirst", name := "<init>", desc := "()V" } : Jvm.MethodName)) ∈ lw_all := lw_g (lw_at lw_m1 41 rfl) rfl
theorem q126 : (Jvm.Cond.instanceMethod ({ cls := "StrengthenFirst", name := "<init>", desc := "()V" } : Jvm.MethodName)) ∈ lw_all := lw_g (lw_at lw_m1 42 rfl) rfl
theorem q127 : (Jvm.Cond.code ({ cls := "StrengthenFirst", name := "<init>", desc := "()V" } : Jvm.MethodName) prog_1_method_4_code (2 : Nat) (Option.none : Option Jvm.ClassFile.FieldType)) ∈ lw_all := lw_g (lw_at lw_m1 43 rfl) rfl
theorem q128 : (Jvm.Cond.methodLink "StrengthenFirst" (27 : Nat) ({ cls := "java/lang/Object", name := "<init>", desc := "()V" } : Jvm.MethodName)) ∈ lw_all := lw_g (lw_at lw_m1 44 rfl) rfl
theorem q129 : (Jvm.Cond.instanceMethod ({ cls := "java/lang/Object", name := "<init>", desc := "()V" } : Jvm.MethodName)) ∈ lw_all := lw_g (lw_at lw_m1 45 rfl) rfl
theorem q130 : (Jvm.Cond.code ({ cls := "java/lang/Object", name := "<init>", desc := "()V" } : Jvm.MethodName) object_method_1_code (1 : Nat) (Option.none : Option Jvm.ClassFile.FieldType)) ∈ lw_all := lw_g (lw_at lw_m1 46 rfl) rfl
theorem q131 : (Jvm.Cond.classLink "StrengthenFirst" (34 : Nat) "StrengthenFirst$Shelf") ∈ lw_all := lw_g (lw_at lw_m1 47 rfl) rfl
theorem q132 : (Jvm.Cond.arrayOver (Jvm.ClassFile.FieldType.object "StrengthenFirst$Shelf")) ∈ lw_tbl := lw_at lw_m1 48 rfl
theorem q133 : (Jvm.Cond.classLink "StrengthenFirst" (44 : Nat) "StrengthenFirst$Trace") ∈ lw_all := lw_g (lw_at lw_m1 49 rfl) rfl
theorem q134 : (Jvm.Cond.instantiable "StrengthenFirst$Trace" (2 : Nat)) ∈ lw_all := lw_g (lw_at lw_m1 50 rfl) rfl
theorem q135 : (Jvm.Cond.methodLink "StrengthenFirst" (46 : Nat) ({ cls := "StrengthenFirst$Trace", name := "<init>", desc := "()V" } : Jvm.MethodName)) ∈ lw_all := lw_g (lw_at lw_m1 51 rfl) rfl
theorem q136 : (Jvm.Cond.instanceMethod ({ cls := "StrengthenFirst$Trace", name := "<init>", desc := "()V" } : Jvm.MethodName)) ∈ lw_all := lw_g (lw_at lw_m1 52 rfl) rfl
theorem q137 : (Jvm.Cond.code ({ cls := "StrengthenFirst$Trace", name := "<init>", desc := "()V" } : Jvm.MethodName) prog_23_method_1_code (1 : Nat) (Option.none : Option Jvm.ClassFile.FieldType)) ∈ lw_all := lw_g (lw_at lw_m1 53 rfl) rfl
theorem q138 : (Jvm.Cond.methodLink "StrengthenFirst$Trace" (3 : Nat) ({ cls := "java/lang/Object", name := "<init>", desc := "()V" } : Jvm.MethodName)) ∈ lw_all := lw_g (lw_at lw_m1 54 rfl) rfl
theorem q139 : (Jvm.Cond.fieldLink "StrengthenFirst$Trace" (9 : Nat) "StrengthenFirst$Trace" "bodies" "[I") ∈ lw_all := lw_g (lw_at lw_m1 55 rfl) rfl
theorem q140 : (Jvm.Cond.fieldLink "StrengthenFirst" (433 : Nat) "StrengthenFirst$Trace" "bodies" "[I") ∈ lw_all := lw_g (lw_at lw_m1 56 rfl) rfl
theorem q141 : (Jvm.Cond.fieldLink "StrengthenFirst$Trace" (15 : Nat) "StrengthenFirst$Trace" "many" "I") ∈ lw_all := lw_g (lw_at lw_m1 57 rfl) rfl
theorem q142 : (Jvm.Cond.fieldLink "StrengthenFirst" (422 : Nat) "StrengthenFirst$Trace" "many" "I") ∈ lw_all := lw_g (lw_at lw_m1 58 rfl) rfl
theorem q143 : (Jvm.Cond.laysFinal "StrengthenFirst$Trace" "StrengthenFirst$Trace" "bodies" "[I") ∈ lw_all := lw_g (lw_at lw_m1 59 rfl) rfl
theorem q144 : (Jvm.Cond.soleField "StrengthenFirst$Trace" "bodies") ∈ lw_all := lw_g (lw_at lw_m1 60 rfl) rfl
theorem q145 : (Jvm.Cond.lays "StrengthenFirst$Trace" "StrengthenFirst$Trace" "many" "I") ∈ lw_all := lw_g (lw_at lw_m1 61 rfl) rfl
theorem q146 : (Jvm.Cond.soleField "StrengthenFirst$Trace" "many") ∈ lw_all := lw_g (lw_at lw_m1 62 rfl) rfl
theorem q147 : (Jvm.Cond.superclass "StrengthenFirst$Trace" "java/lang/Object") ∈ lw_all := lw_g (lw_at lw_m1 63 rfl) rfl
theorem q148 : (Jvm.Cond.arrayClass Jvm.ClassFile.FieldType.int) ∈ lw_all := lw_g (lw_at lw_m1 64 rfl) rfl
theorem q149 : (Jvm.Cond.classLink "StrengthenFirst" (51 : Nat) "StrengthenFirst$Sums") ∈ lw_all := lw_g (lw_at lw_m1 65 rfl) rfl
theorem q150 : (Jvm.Cond.instantiable "StrengthenFirst$Sums" (5 : Nat)) ∈ lw_all := lw_g (lw_at lw_m1 66 rfl) rfl
theorem q151 : (Jvm.Cond.methodLink "StrengthenFirst" (53 : Nat) ({ cls := "StrengthenFirst$Sums", name := "<init>", desc := "()V" } : Jvm.MethodName)) ∈ lw_all := lw_g (lw_at lw_m1 67 rfl) rfl
theorem q152 : (Jvm.Cond.instanceMethod ({ cls := "StrengthenFirst$Sums", name := "<init>", desc := "()V" } : Jvm.MethodName)) ∈ lw_all := lw_g (lw_at lw_m1 68 rfl) rfl
theorem q153 : (Jvm.Cond.code ({ cls := "StrengthenFirst$Sums", name := "<init>", desc := "()V" } : Jvm.MethodName) prog_20_method_1_code (1 : Nat) (Option.none : Option Jvm.ClassFile.FieldType)) ∈ lw_all := lw_g (lw_at lw_m1 69 rfl) rfl
theorem q154 : (Jvm.Cond.methodLink "StrengthenFirst$Sums" (3 : Nat) ({ cls := "java/lang/Object", name := "<init>", desc := "()V" } : Jvm.MethodName)) ∈ lw_all := lw_g (lw_at lw_m1 70 rfl) rfl
theorem q155 : (Jvm.Cond.fieldLink "StrengthenFirst$Sums" (9 : Nat) "StrengthenFirst$Sums" "odds" "[J") ∈ lw_all := lw_g (lw_at lw_m1 71 rfl) rfl
theorem q156 : (Jvm.Cond.fieldLink "StrengthenFirst$Sums" (15 : Nat) "StrengthenFirst$Sums" "cut" "[I") ∈ lw_all := lw_g (lw_at lw_m1 72 rfl) rfl
theorem q157 : (Jvm.Cond.fieldLink "StrengthenFirst$Sums" (19 : Nat) "StrengthenFirst$Sums" "value" "[I") ∈ lw_all := lw_g (lw_at lw_m1 73 rfl) rfl
theorem q158 : (Jvm.Cond.fieldLink "StrengthenFirst$Sums" (22 : Nat) "StrengthenFirst$Sums" "t" "LStrengthenFirst$Town;") ∈ lw_all := lw_g (lw_at lw_m1 74 rfl) rfl
theorem q159 : (Jvm.Cond.fieldLink "StrengthenFirst$Sums" (32 : Nat) "StrengthenFirst$Sums" "sets" "I") ∈ lw_all := lw_g (lw_at lw_m1 75 rfl) rfl
theorem q160 : (Jvm.Cond.laysFinal "StrengthenFirst$Sums" "StrengthenFirst$Sums" "odds" "[J") ∈ lw_all := lw_g (lw_at lw_m1 76 rfl) rfl
theorem q161 : (Jvm.Cond.soleField "StrengthenFirst$Sums" "odds") ∈ lw_all := lw_g (lw_at lw_m1 77 rfl) rfl
theorem q162 : (Jvm.Cond.laysFinal "StrengthenFirst$Sums" "StrengthenFirst$Sums" "cut" "[I") ∈ lw_all := lw_g (lw_at lw_m1 78 rfl) rfl
theorem q163 : (Jvm.Cond.soleField "StrengthenFirst$Sums" "cut") ∈ lw_all := lw_g (lw_at lw_m1 79 rfl) rfl
theorem q164 : (Jvm.Cond.laysFinal "StrengthenFirst$Sums" "StrengthenFirst$Sums" "value" "[I") ∈ lw_all := lw_g (lw_at lw_m1 80 rfl) rfl
theorem q165 : (Jvm.Cond.soleField "StrengthenFirst$Sums" "value") ∈ lw_all := lw_g (lw_at lw_m1 81 rfl) rfl
theorem q166 : (Jvm.Cond.lays "StrengthenFirst$Sums" "StrengthenFirst$Sums" "t" "LStrengthenFirst$Town;") ∈ lw_all := lw_g (lw_at lw_m1 82 rfl) rfl
theorem q167 : (Jvm.Cond.soleField "StrengthenFirst$Sums" "t") ∈ lw_all := lw_g (lw_at lw_m1 83 rfl) rfl
theorem q168 : (Jvm.Cond.lays "StrengthenFirst$Sums" "StrengthenFirst$Sums" "sets" "I") ∈ lw_all := lw_g (lw_at lw_m1 84 rfl) rfl
theorem q169 : (Jvm.Cond.soleField "StrengthenFirst$Sums" "sets") ∈ lw_all := lw_g (lw_at lw_m1 85 rfl) rfl
theorem q170 : (Jvm.Cond.superclass "StrengthenFirst$Sums" "java/lang/Object") ∈ lw_all := lw_g (lw_at lw_m1 86 rfl) rfl
theorem q171 : (Jvm.Cond.arrayClass Jvm.ClassFile.FieldType.long) ∈ lw_all := lw_g (lw_at lw_m1 87 rfl) rfl
theorem q172 : (Jvm.Cond.classLink "StrengthenFirst" (58 : Nat) "StrengthenFirst$Town") ∈ lw_all := lw_g (lw_at lw_m1 88 rfl) rfl
theorem q173 : (Jvm.Cond.instantiable "StrengthenFirst$Town" (13 : Nat)) ∈ lw_all := lw_g (lw_at lw_m1 89 rfl) rfl
theorem q174 : (Jvm.Cond.methodLink "StrengthenFirst" (60 : Nat) ({ cls := "StrengthenFirst$Town", name := "<init>", desc := "()V" } : Jvm.MethodName)) ∈ lw_all := lw_g (lw_at lw_m1 90 rfl) rfl
theorem q175 : (Jvm.Cond.instanceMethod ({ cls := "StrengthenFirst$Town", name := "<init>", desc := "()V" } : Jvm.MethodName)) ∈ lw_all := lw_g (lw_at lw_m1 91 rfl) rfl
theorem q176 : (Jvm.Cond.code ({ cls := "StrengthenFirst$Town", name := "<init>", desc := "()V" } : Jvm.MethodName) prog_22_method_1_code (1 : Nat) (Option.none : Option Jvm.ClassFile.FieldType)) ∈ lw_all := lw_g (lw_at lw_m1 92 rfl) rfl
theorem q177 : (Jvm.Cond.methodLink "StrengthenFirst$Town" (3 : Nat) ({ cls := "java/lang/Object", name := "<init>", desc := "()V" } : Jvm.MethodName)) ∈ lw_all := lw_g (lw_at lw_m1 93 rfl) rfl
theorem q178 : (Jvm.Cond.classLink "StrengthenFirst$Town" (22 : Nat) "StrengthenFirst$House") ∈ lw_all := lw_g (lw_at lw_m1 94 rfl) rfl
theorem q179 : (Jvm.Cond.arrayOver (Jvm.ClassFile.FieldType.object "StrengthenFirst$House")) ∈ lw_tbl := lw_at lw_m1 95 rfl
theorem q180 : (Jvm.Cond.fieldLink "StrengthenFirst$Town" (38 : Nat) "StrengthenFirst$Town" "streetsThere" "I") ∈ lw_all := lw_g (lw_at lw_m1 96 rfl) rfl
theorem q181 : (Jvm.Cond.fieldLink "StrengthenFirst$Reader" (95 : Nat) "StrengthenFirst$Town" "streetsThere" "I") ∈ lw_all := lw_g (lw_at lw_m1 97 rfl) rfl
theorem q182 : (Jvm.Cond.fieldLink "StrengthenFirst" (211 : Nat) "StrengthenFirst$Town" "streetsThere" "I") ∈ lw_all := lw_g (lw_at lw_m1 98 rfl) rfl
theorem q183 : (Jvm.Cond.fieldLink "StrengthenFirst$Best" (39 : Nat) "StrengthenFirst$Town" "housesThere" "I") ∈ lw_all := lw_g (lw_at lw_m1 99 rfl) rfl
theorem q184 : (Jvm.Cond.fieldLink "StrengthenFirst$Sums" (26 : Nat) "StrengthenFirst$Town" "housesThere" "I") ∈ lw_all := lw_g (lw_at lw_m1 100 rfl) rfl
theorem q185 : (Jvm.Cond.fieldLink "StrengthenFirst$Town" (41 : Nat) "StrengthenFirst$Town" "housesThere" "I") ∈ lw_all := lw_g (lw_at lw_m1 101 rfl) rfl
theorem q186 : (Jvm.Cond.fieldLink "StrengthenFirst$Told" (20 : Nat) "StrengthenFirst$Town" "housesThere" "I") ∈ lw_all := lw_g (lw_at lw_m1 102 rfl) rfl
theorem q187 : (Jvm.Cond.fieldLink "StrengthenFirst$Plan" (68 : Nat) "StrengthenFirst$Town" "housesThere" "I") ∈ lw_all := lw_g (lw_at lw_m1 103 rfl) rfl
theorem q188 : (Jvm.Cond.fieldLink "StrengthenFirst$Saves" (56 : Nat) "StrengthenFirst$Town" "housesThere" "I") ∈ lw_all := lw_g (lw_at lw_m1 104 rfl) rfl
theorem q189 : (Jvm.Cond.fieldLink "StrengthenFirst$Rule" (25 : Nat) "StrengthenFirst$Town" "housesThere" "I") ∈ lw_all := lw_g (lw_at lw_m1 105 rfl) rfl
theorem q190 : (Jvm.Cond.fieldLink "StrengthenFirst" (75 : Nat) "StrengthenFirst$Town" "housesThere" "I") ∈ lw_all := lw_g (lw_at lw_m1 106 rfl) rfl
theorem q191 : (Jvm.Cond.fieldLink "StrengthenFirst$Reader" (117 : Nat) "StrengthenFirst$Town" "housesThere" "I") ∈ lw_all := lw_g (lw_at lw_m1 107 rfl) rfl
theorem q192 : (Jvm.Cond.fieldLink "StrengthenFirst$Town" (44 : Nat) "StrengthenFirst$Town" "shakesThere" "I") ∈ lw_all := lw_g (lw_at lw_m1 108 rfl) rfl
theorem q193 : (Jvm.Cond.fieldLink "StrengthenFirst" (94 : Nat) "StrengthenFirst$Town" "shakesThere" "I") ∈ lw_all := lw_g (lw_at lw_m1 109 rfl) rfl
theorem q194 : (Jvm.Cond.fieldLink "StrengthenFirst$Sums" (77 : Nat) "StrengthenFirst$Town" "shakesThere" "I") ∈ lw_all := lw_g (lw_at lw_m1 110 rfl) rfl
theorem q195 : (Jvm.Cond.fieldLink "StrengthenFirst$Reader" (110 : Nat) "StrengthenFirst$Town" "shakesThere" "I") ∈ lw_all := lw_g (lw_at lw_m1 111 rfl) rfl
theorem q196 : (Jvm.Cond.fieldLink "StrengthenFirst$Plan" (35 : Nat) "StrengthenFirst$Town" "purse" "I") ∈ lw_all := lw_g (lw_at lw_m1 112 rfl) rfl
theorem q197 : (Jvm.Cond.fieldLink "StrengthenFirst$Town" (47 : Nat) "StrengthenFirst$Town" "purse" "I") ∈ lw_all := lw_g (lw_at lw_m1 113 rfl) rfl
theorem q198 : (Jvm.Cond.fieldLink "StrengthenFirst$Best" (88 : Nat) "StrengthenFirst$Town" "purse" "I") ∈ lw_all := lw_g (lw_at lw_m1 114 rfl) rfl
theorem q199 : (Jvm.Cond.fieldLink "StrengthenFirst" (439 : Nat) "StrengthenFirst$Town" "purse" "I") ∈ lw_all := lw_g (lw_at lw_m1 115 rfl) rfl
theorem q200 : (Jvm.Cond.fieldLink "StrengthenFirst$Town" (50 : Nat) "StrengthenFirst$Town" "year" "I") ∈ lw_all := lw_g (lw_at lw_m1 116 rfl) rfl
theorem q201 : (Jvm.Cond.fieldLink "StrengthenFirst" (411 : Nat) "StrengthenFirst$Town" "year" "I") ∈ lw_all := lw_g (lw_at lw_m1 117 rfl) rfl
theorem q202 : (Jvm.Cond.fieldLink "StrengthenFirst$Town" (53 : Nat) "StrengthenFirst$Town" "gone" "I") ∈ lw_all := lw_g (lw_at lw_m1 118 rfl) rfl
theorem q203 : (Jvm.Cond.fieldLink "StrengthenFirst" (413 : Nat) "StrengthenFirst$Town" "gone" "I") ∈ lw_all := lw_g (lw_at lw_m1 119 rfl) rfl
theorem q204 : (Jvm.Cond.fieldLink "StrengthenFirst$Town" (9 : Nat) "StrengthenFirst$Town" "seed" "I") ∈ lw_all := lw_g (lw_at lw_m1 120 rfl) rfl
theorem q205 : (Jvm.Cond.fieldLink "StrengthenFirst" (419 : Nat) "StrengthenFirst$Town" "seed" "I") ∈ lw_all := lw_g (lw_at lw_m1 121 rfl) rfl
theorem q206 : (Jvm.Cond.fieldLink "StrengthenFirst$Town" (15 : Nat) "StrengthenFirst$Town" "from" "[I") ∈ lw_all := lw_g (lw_at lw_m1 122 rfl) rfl
theorem q207 : (Jvm.Cond.fieldLink "StrengthenFirst$Town" (19 : Nat) "StrengthenFirst$Town" "to" "[I") ∈ lw_all := lw_g (lw_at lw_m1 123 rfl) rfl
theorem q208 : (Jvm.Cond.fieldLink "StrengthenFirst$Town" (24 : Nat) "StrengthenFirst$Town" "houses" "[LStrengthenFirst$House;") ∈ lw_all := lw_g (lw_at lw_m1 124 rfl) rfl
theorem q209 : (Jvm.Cond.fieldLink "StrengthenFirst$Best" (42 : Nat) "StrengthenFirst$Town" "houses" "[LStrengthenFirst$House;") ∈ lw_all := lw_g (lw_at lw_m1 125 rfl) rfl
theorem q210 : (Jvm.Cond.fieldLink "StrengthenFirst$Plan" (43 : Nat) "StrengthenFirst$Town" "houses" "[LStrengthenFirst$House;") ∈ lw_all := lw_g (lw_at lw_m1 126 rfl) rfl
theorem q211 : (Jvm.Cond.fieldLink "StrengthenFirst$Sums" (38 : Nat) "StrengthenFirst$Town" "houses" "[LStrengthenFirst$House;") ∈ lw_all := lw_g (lw_at lw_m1 127 rfl) rfl
theorem q212 : (Jvm.Cond.fieldLink "StrengthenFirst$Saves" (36 : Nat) "StrengthenFirst$Town" "houses" "[LStrengthenFirst$House;") ∈ lw_all := lw_g (lw_at lw_m1 128 rfl) rfl
theorem q213 : (Jvm.Cond.fieldLink "StrengthenFirst$Told" (30 : Nat) "StrengthenFirst$Town" "houses" "[LStrengthenFirst$House;") ∈ lw_all := lw_g (lw_at lw_m1 129 rfl) rfl
theorem q214 : (Jvm.Cond.fieldLink "StrengthenFirst$Rule" (30 : Nat) "StrengthenFirst$Town" "houses" "[LStrengthenFirst$House;") ∈ lw_all := lw_g (lw_at lw_m1 130 rfl) rfl
theorem q215 : (Jvm.Cond.fieldLink "StrengthenFirst" (90 : Nat) "StrengthenFirst$Town" "houses" "[LStrengthenFirst$House;") ∈ lw_all := lw_g (lw_at lw_m1 131 rfl) rfl
theorem q216 : (Jvm.Cond.fieldLink "StrengthenFirst$Town" (28 : Nat) "StrengthenFirst$Town" "chance" "[I") ∈ lw_all := lw_g (lw_at lw_m1 132 rfl) rfl
theorem q217 : (Jvm.Cond.fieldLink "StrengthenFirst$Sums" (80 : Nat) "StrengthenFirst$Town" "chance" "[I") ∈ lw_all := lw_g (lw_at lw_m1 133 rfl) rfl
theorem q218 : (Jvm.Cond.fieldLink "StrengthenFirst" (402 : Nat) "StrengthenFirst$Town" "chance" "[I") ∈ lw_all := lw_g (lw_at lw_m1 134 rfl) rfl
theorem q219 : (Jvm.Cond.fieldLink "StrengthenFirst$Town" (31 : Nat) "StrengthenFirst$Town" "hard" "[I") ∈ lw_all := lw_g (lw_at lw_m1 135 rfl) rfl
theorem q220 : (Jvm.Cond.fieldLink "StrengthenFirst$Town" (34 : Nat) "StrengthenFirst$Town" "asked" "[I") ∈ lw_all := lw_g (lw_at lw_m1 136 rfl) rfl
theorem q221 : (Jvm.Cond.fieldLink "StrengthenFirst$Plan" (39 : Nat) "StrengthenFirst$Town" "asked" "[I") ∈ lw_all := lw_g (lw_at lw_m1 137 rfl) rfl
theorem q222 : (Jvm.Cond.fieldLink "StrengthenFirst$Sums" (57 : Nat) "StrengthenFirst$Town" "asked" "[I") ∈ lw_all := lw_g (lw_at lw_m1 138 rfl) rfl
theorem q223 : (Jvm.Cond.fieldLink "StrengthenFirst$Best" (91 : Nat) "StrengthenFirst$Town" "asked" "[I") ∈ lw_all := lw_g (lw_at lw_m1 139 rfl) rfl
theorem q224 : (Jvm.Cond.fieldLink "StrengthenFirst$Reader" (82 : Nat) "StrengthenFirst$Town" "asked" "[I") ∈ lw_all := lw_g (lw_at lw_m1 140 rfl) rfl
theorem q225 : (Jvm.Cond.fieldLink "StrengthenFirst" (282 : Nat) "StrengthenFirst$Town" "asked" "[I") ∈ lw_all := lw_g (lw_at lw_m1 141 rfl) rfl
theorem q226 : (Jvm.Cond.lays "StrengthenFirst$Town" "StrengthenFirst$Town" "streetsThere" "I") ∈ lw_all := lw_g (lw_at lw_m1 142 rfl) rfl
theorem q227 : (Jvm.Cond.soleField "StrengthenFirst$Town" "streetsThere") ∈ lw_all := lw_g (lw_at lw_m1 143 rfl) rfl
theorem q228 : (Jvm.Cond.lays "StrengthenFirst$Town" "StrengthenFirst$Town" "housesThere" "I") ∈ lw_all := lw_g (lw_at lw_m1 144 rfl) rfl
theorem q229 : (Jvm.Cond.soleField "StrengthenFirst$Town" "housesThere") ∈ lw_all := lw_g (lw_at lw_m1 145 rfl) rfl
theorem q230 : (Jvm.Cond.lays "StrengthenFirst$Town" "StrengthenFirst$Town" "shakesThere" "I") ∈ lw_all := lw_g (lw_at lw_m1 146 rfl) rfl
theorem q231 : (Jvm.Cond.soleField "StrengthenFirst$Town" "shakesThere") ∈ lw_all := lw_g (lw_at lw_m1 147 rfl) rfl
theorem q232 : (Jvm.Cond.lays "StrengthenFirst$Town" "StrengthenFirst$Town" "purse" "I") ∈ lw_all := lw_g (lw_at lw_m1 148 rfl) rfl
theorem q233 : (Jvm.Cond.soleField "StrengthenFirst$Town" "purse") ∈ lw_all := lw_g (lw_at lw_m1 149 rfl) rfl
theorem q234 : (Jvm.Cond.lays "StrengthenFirst$Town" "StrengthenFirst$Town" "year" "I") ∈ lw_all := lw_g (lw_at lw_m1 150 rfl) rfl
theorem q235 : (Jvm.Cond.soleField "StrengthenFirst$Town" "year") ∈ lw_all := lw_g (lw_at lw_m1 151 rfl) rfl
theorem q236 : (Jvm.Cond.lays "StrengthenFirst$Town" "StrengthenFirst$Town" "gone" "I") ∈ lw_all := lw_g (lw_at lw_m1 152 rfl) rfl
theorem q237 : (Jvm.Cond.soleField "StrengthenFirst$Town" "gone") ∈ lw_all := lw_g (lw_at lw_m1 153 rfl) rfl
theorem q238 : (Jvm.Cond.lays "StrengthenFirst$Town" "StrengthenFirst$Town" "seed" "I") ∈ lw_all := lw_g (lw_at lw_m1 154 rfl) rfl
theorem q239 : (Jvm.Cond.soleField "StrengthenFirst$Town" "seed") ∈ lw_all := lw_g (lw_at lw_m1 155 rfl) rfl
theorem q240 : (Jvm.Cond.laysFinal "StrengthenFirst$Town" "StrengthenFirst$Town" "from" "[I") ∈ lw_all := lw_g (lw_at lw_m1 156 rfl) rfl
theorem q241 : (Jvm.Cond.soleField "StrengthenFirst$Town" "from") ∈ lw_all := lw_g (lw_at lw_m1 157 rfl) rfl
theorem q242 : (Jvm.Cond.laysFinal "StrengthenFirst$Town" "StrengthenFirst$Town" "to" "[I") ∈ lw_all := lw_g (lw_at lw_m1 158 rfl) rfl
theorem q243 : (Jvm.Cond.soleField "StrengthenFirst$Town" "to") ∈ lw_all := lw_g (lw_at lw_m1 159 rfl) rfl
theorem q244 : (Jvm.Cond.laysFinal "StrengthenFirst$Town" "StrengthenFirst$Town" "houses" "[LStrengthenFirst$House;") ∈ lw_all := lw_g (lw_at lw_m1 160 rfl) rfl
theorem q245 : (Jvm.Cond.soleField "StrengthenFirst$Town" "houses") ∈ lw_all := lw_g (lw_at lw_m1 161 rfl) rfl
theorem q246 : (Jvm.Cond.laysFinal "StrengthenFirst$Town" "StrengthenFirst$Town" "chance" "[I") ∈ lw_all := lw_g (lw_at lw_m1 162 rfl) rfl
theorem q247 : (Jvm.Cond.soleField "StrengthenFirst$Town" "chance") ∈ lw_all := lw_g (lw_at lw_m1 163 rfl) rfl
theorem q248 : (Jvm.Cond.laysFinal "StrengthenFirst$Town" "StrengthenFirst$Town" "hard" "[I") ∈ lw_all := lw_g (lw_at lw_m1 164 rfl) rfl
theorem q249 : (Jvm.Cond.soleField "StrengthenFirst$Town" "hard") ∈ lw_all := lw_g (lw_at lw_m1 165 rfl) rfl
theorem q250 : (Jvm.Cond.laysFinal "StrengthenFirst$Town" "StrengthenFirst$Town" "asked" "[I") ∈ lw_all := lw_g (lw_at lw_m1 166 rfl) rfl
theorem q251 : (Jvm.Cond.soleField "StrengthenFirst$Town" "asked") ∈ lw_all := lw_g (lw_at lw_m1 167 rfl) rfl
theorem q252 : (Jvm.Cond.superclass "StrengthenFirst$Town" "java/lang/Object") ∈ lw_all := lw_g (lw_at lw_m1 168 rfl) rfl
theorem q253 : (Jvm.Cond.instantiable "StrengthenFirst$Shelf" (1 : Nat)) ∈ lw_all := lw_g (lw_at lw_m1 169 rfl) rfl
theorem q254 : (Jvm.Cond.methodLink "StrengthenFirst" (69 : Nat) ({ cls := "StrengthenFirst$Shelf", name := "<init>", desc := "()V" } : Jvm.MethodName)) ∈ lw_all := lw_g (lw_at lw_m1 170 rfl) rfl
theorem q255 : (Jvm.Cond.instanceMethod ({ cls := "StrengthenFirst$Shelf", name := "<init>", desc := "()V" } : Jvm.MethodName)) ∈ lw_all := lw_g (lw_at lw_m1 171 rfl) rfl
theorem q256 : (Jvm.Cond.code ({ cls := "StrengthenFirst$Shelf", name := "<init>", desc := "()V" } : Jvm.MethodName) prog_17_method_1_code (1 : Nat) (Option.none : Option Jvm.ClassFile.FieldType)) ∈ lw_all := lw_g (lw_at lw_m1 172 rfl) rfl
theorem q257 : (Jvm.Cond.methodLink "StrengthenFirst$Shelf" (3 : Nat) ({ cls := "java/lang/Object", name := "<init>", desc := "()V" } : Jvm.MethodName)) ∈ lw_all := lw_g (lw_at lw_m1 173 rfl) rfl
theorem q258 : (Jvm.Cond.fieldLink "StrengthenFirst$Shelf" (9 : Nat) "StrengthenFirst$Shelf" "held" "Ljava/lang/Object;") ∈ lw_all := lw_g (lw_at lw_m1 174 rfl) rfl
theorem q259 : (Jvm.Cond.fieldLink "StrengthenFirst" (137 : Nat) "StrengthenFirst$Shelf" "held" "Ljava/lang/Object;") ∈ lw_all := lw_g (lw_at lw_m1 175 rfl) rfl
theorem q260 : (Jvm.Cond.lays "StrengthenFirst$Shelf" "StrengthenFirst$Shelf" "held" "Ljava/lang/Object;") ∈ lw_all := lw_g (lw_at lw_m1 176 rfl) rfl
theorem q261 : (Jvm.Cond.soleField "StrengthenFirst$Shelf" "held") ∈ lw_all := lw_g (lw_at lw_m1 177 rfl) rfl
theorem q262 : (Jvm.Cond.superclass "StrengthenFirst$Shelf" "java/lang/Object") ∈ lw_all := lw_g (lw_at lw_m1 178 rfl) rfl
theorem q263 : (Jvm.Cond.fieldLink "StrengthenFirst" (36 : Nat) "StrengthenFirst" "shelves" "[LStrengthenFirst$Shelf;") ∈ lw_all := lw_g (lw_at lw_m1 179 rfl) rfl
theorem q264 : (Jvm.Cond.fieldLink "StrengthenFirst" (40 : Nat) "StrengthenFirst" "refusals" "[I") ∈ lw_all := lw_g (lw_at lw_m1 180 rfl) rfl
theorem q265 : (Jvm.Cond.fieldLink "StrengthenFirst" (47 : Nat) "StrengthenFirst" "ran" "LStrengthenFirst$Trace;") ∈ lw_all := lw_g (lw_at lw_m1 181 rfl) rfl
theorem q266 : (Jvm.Cond.fieldLink "StrengthenFirst" (54 : Nat) "StrengthenFirst" "sums" "LStrengthenFirst$Sums;") ∈ lw_all := lw_g (lw_at lw_m1 182 rfl) rfl
theorem q267 : (Jvm.Cond.fieldLink "StrengthenFirst" (61 : Nat) "StrengthenFirst" "w" "LStrengthenFirst$Town;") ∈ lw_all := lw_g (lw_at lw_m1 183 rfl) rfl
theorem q268 : (Jvm.Cond.fieldLink "StrengthenFirst" (436 : Nat) "StrengthenFirst" "imaged" "LStrengthenFirst$Town;") ∈ lw_all := lw_g (lw_at lw_m1 184 rfl) rfl
theorem q269 : (Jvm.Cond.fieldLink "StrengthenFirst" (65 : Nat) "StrengthenFirst" "latestFault" "I") ∈ lw_all := lw_g (lw_at lw_m1 185 rfl) rfl
theorem q270 : (Jvm.Cond.laysFinal "StrengthenFirst" "StrengthenFirst" "shelves" "[LStrengthenFirst$Shelf;") ∈ lw_all := lw_g (lw_at lw_m1 186 rfl) rfl
theorem q271 : (Jvm.Cond.soleField "StrengthenFirst" "shelves") ∈ lw_all := lw_g (lw_at lw_m1 187 rfl) rfl
theorem q272 : (Jvm.Cond.laysFinal "StrengthenFirst" "StrengthenFirst" "refusals" "[I") ∈ lw_all := lw_g (lw_at lw_m1 188 rfl) rfl
theorem q273 : (Jvm.Cond.soleField "StrengthenFirst" "refusals") ∈ lw_all := lw_g (lw_at lw_m1 189 rfl) rfl
theorem q274 : (Jvm.Cond.laysFinal "StrengthenFirst" "StrengthenFirst" "ran" "LStrengthenFirst$Trace;") ∈ lw_all := lw_g (lw_at lw_m1 190 rfl) rfl
theorem q275 : (Jvm.Cond.soleField "StrengthenFirst" "ran") ∈ lw_all := lw_g (lw_at lw_m1 191 rfl) rfl
theorem q276 : (Jvm.Cond.laysFinal "StrengthenFirst" "StrengthenFirst" "sums" "LStrengthenFirst$Sums;") ∈ lw_all := lw_g (lw_at lw_m1 192 rfl) rfl
theorem q277 : (Jvm.Cond.soleField "StrengthenFirst" "sums") ∈ lw_all := lw_g (lw_at lw_m1 193 rfl) rfl
theorem q278 : (Jvm.Cond.lays "StrengthenFirst" "StrengthenFirst" "w" "LStrengthenFirst$Town;") ∈ lw_all := lw_g (lw_at lw_m1 194 rfl) rfl
theorem q279 : (Jvm.Cond.soleField "StrengthenFirst" "w") ∈ lw_all := lw_g (lw_at lw_m1 195 rfl) rfl
theorem q280 : (Jvm.Cond.lays "StrengthenFirst" "StrengthenFirst" "imaged" "LStrengthenFirst$Town;") ∈ lw_all := lw_g (lw_at lw_m1 196 rfl) rfl
theorem q281 : (Jvm.Cond.soleField "StrengthenFirst" "imaged") ∈ lw_all := lw_g (lw_at lw_m1 197 rfl) rfl
theorem q282 : (Jvm.Cond.lays "StrengthenFirst" "StrengthenFirst" "latestFault" "I") ∈ lw_all := lw_g (lw_at lw_m1 198 rfl) rfl
theorem q283 : (Jvm.Cond.soleField "StrengthenFirst" "latestFault") ∈ lw_all := lw_g (lw_at lw_m1 199 rfl) rfl
theorem q284 : (Jvm.Cond.superclass "StrengthenFirst" "java/lang/Object") ∈ lw_all := lw_g (lw_at lw_m1 200 rfl) rfl
theorem q285 : (Jvm.Cond.methodLink "StrengthenFirstLaw" (13 : Nat) ({ cls := "StrengthenFirst", name := "row", desc := "(III)I" } : Jvm.MethodName)) ∈ lw_all := lw_g (lw_at lw_m1 201 rfl) rfl
theorem q286 : (Jvm.Cond.instanceMethod ({ cls := "StrengthenFirst", name := "row", desc := "(III)I" } : Jvm.MethodName)) ∈ lw_all := lw_g (lw_at lw_m1 202 rfl) rfl
theorem q287 : (Jvm.Cond.selects "StrengthenFirst" ({ cls := "StrengthenFirst", name := "row", desc := "(III)I" } : Jvm.MethodName) ({ cls := "StrengthenFirst", name := "row", desc := "(III)I" } : Jvm.MethodName)) ∈ lw_all := lw_g (lw_at lw_m1 203 rfl) rfl
theorem q288 : (Jvm.Cond.codeWith ({ cls := "StrengthenFirst", name := "row", desc := "(III)I" } : Jvm.MethodName) prog_1_method_15_code (5 : Nat) (Option.some Jvm.ClassFile.FieldType.int) [((0 : Nat), (62 : Nat), (63 : Nat), (21 : Nat))]) ∈ lw_all := lw_g (lw_at lw_m1 204 rfl) rfl
theorem q289 : (Jvm.Cond.classLink "StrengthenFirst" (21 : Nat) "StrengthenFirst$Refused") ∈ lw_all := lw_g (lw_at lw_m1 205 rfl) rfl
theorem q290 : (Jvm.Cond.methodLink "StrengthenFirst" (127 : Nat) ({ cls := "StrengthenFirst", name := "shelf", desc := "(I)LStrengthenFirst$Shelf;" } : Jvm.MethodName)) ∈ lw_all := lw_g (lw_at lw_m1 206 rfl) rfl
theorem q291 : (Jvm.Cond.privateMethod ({ cls := "StrengthenFirst", name := "shelf", desc := "(I)LStrengthenFirst$Shelf;" } : Jvm.MethodName)) ∈ lw_tbl := lw_at lw_m1 207 rfl
theorem q292 : (Jvm.Cond.instanceMethod ({ cls := "StrengthenFirst", name := "shelf", desc := "(I)LStrengthenFirst$Shelf;" } : Jvm.MethodName)) ∈ lw_all := lw_g (lw_at lw_m1 208 rfl) rfl
theorem q293 : (Jvm.Cond.codeWith ({ cls := "StrengthenFirst", name := "shelf", desc := "(I)LStrengthenFirst$Shelf;" } : Jvm.MethodName) prog_1_method_7_code (3 : Nat) (Option.some (Jvm.ClassFile.FieldType.object "StrengthenFirst$Shelf")) [((0 : Nat), (6 : Nat), (7 : Nat), (73 : Nat))]) ∈ lw_all := lw_g (lw_at lw_m1 209 rfl) rfl
theorem q294 : (Jvm.Cond.classLink "StrengthenFirst" (73 : Nat) "java/lang/ArrayIndexOutOfBoundsException") ∈ lw_all := lw_g (lw_at lw_m1 210 rfl) rfl
theorem q295 : (Jvm.Cond.instantiable "java/lang/ArrayIndexOutOfBoundsException" (6 : Nat)) ∈ lw_all := lw_g (lw_at lw_m1 211 rfl) rfl
theorem q296 : (Jvm.Cond.instanceMethod ({ cls := "java/lang/ArrayIndexOutOfBoundsException", name := "<init>", desc := "(Ljava/lang/String;)V" } : Jvm.MethodName)) ∈ lw_all := lw_g (lw_at lw_m1 212 rfl) rfl
theorem q297 : (Jvm.Cond.code ({ cls := "java/lang/ArrayIndexOutOfBoundsException", name := "<init>", desc := "(Ljava/lang/String;)V" } : Jvm.MethodName) prog_27_method_2_code (2 : Nat) (Option.none : Option Jvm.ClassFile.FieldType)) ∈ lw_all := lw_g (lw_at lw_m1 213 rfl) rfl
theorem q298 : (Jvm.Cond.methodLink "java/lang/ArrayIndexOutOfBoundsException" (7 : Nat) ({ cls := "java/lang/IndexOutOfBoundsException", name := "<init>", desc := "(Ljava/lang/String;)V" } : Jvm.MethodName)) ∈ lw_all := lw_g (lw_at lw_m1 214 rfl) rfl
theorem q299 : (Jvm.Cond.instanceMethod ({ cls := "java/lang/IndexOutOfBoundsException", name := "<init>", desc := "(Ljava/lang/String;)V" } : Jvm.MethodName)) ∈ lw_all := lw_g (lw_at lw_m1 215 rfl) rfl
theorem q300 : (Jvm.Cond.code ({ cls := "java/lang/IndexOutOfBoundsException", name := "<init>", desc := "(Ljava/lang/String;)V" } : Jvm.MethodName) prog_30_method_2_code (2 : Nat) (Option.none : Option Jvm.ClassFile.FieldType)) ∈ lw_all := lw_g (lw_at lw_m1 216 rfl) rfl
theorem q301 : (Jvm.Cond.methodLink "java/lang/IndexOutOfBoundsException" (7 : Nat) ({ cls := "java/lang/RuntimeException", name := "<init>", desc := "(Ljava/lang/String;)V" } : Jvm.MethodName)) ∈ lw_all := lw_g (lw_at lw_m1 217 rfl) rfl
theorem q302 : (Jvm.Cond.instanceMethod ({ cls := "java/lang/RuntimeException", name := "<init>", desc := "(Ljava/lang/String;)V" } : Jvm.MethodName)) ∈ lw_all := lw_g (lw_at lw_m1 218 rfl) rfl
theorem q303 : (Jvm.Cond.code ({ cls := "java/lang/RuntimeException", name := "<init>", desc := "(Ljava/lang/String;)V" } : Jvm.MethodName) prog_33_method_2_code (2 : Nat) (Option.none : Option Jvm.ClassFile.FieldType)) ∈ lw_all := lw_g (lw_at lw_m1 219 rfl) rfl
theorem q304 : (Jvm.Cond.methodLink "java/lang/RuntimeException" (7 : Nat) ({ cls := "java/lang/Exception", name := "<init>", desc := "(Ljava/lang/String;)V" } : Jvm.MethodName)) ∈ lw_all := lw_g (lw_at lw_m1 220 rfl) rfl
theorem q305 : (Jvm.Cond.instanceMethod ({ cls := "java/lang/Exception", name := "<init>", desc := "(Ljava/lang/String;)V" } : Jvm.MethodName)) ∈ lw_all := lw_g (lw_at lw_m1 221 rfl) rfl
theorem q306 : (Jvm.Cond.code ({ cls := "java/lang/Exception", name := "<init>", desc := "(Ljava/lang/String;)V" } : Jvm.MethodName) prog_29_method_2_code (2 : Nat) (Option.none : Option Jvm.ClassFile.FieldType)) ∈ lw_all := lw_g (lw_at lw_m1 222 rfl) rfl
theorem q307 : (Jvm.Cond.methodLink "java/lang/Exception" (7 : Nat) ({ cls := "java/lang/Throwable", name := "<init>", desc := "(Ljava/lang/String;)V" } : Jvm.MethodName)) ∈ lw_all := lw_g (lw_at lw_m1 223 rfl) rfl
theorem q308 : (Jvm.Cond.instanceMethod ({ cls := "java/lang/Throwable", name := "<init>", desc := "(Ljava/lang/String;)V" } : Jvm.MethodName)) ∈ lw_all := lw_g (lw_at lw_m1 224 rfl) rfl
theorem q309 : (Jvm.Cond.code ({ cls := "java/lang/Throwable", name := "<init>", desc := "(Ljava/lang/String;)V" } : Jvm.MethodName) prog_38_method_2_code (2 : Nat) (Option.none : Option Jvm.ClassFile.FieldType)) ∈ lw_all := lw_g (lw_at lw_m1 225 rfl) rfl
theorem q310 : (Jvm.Cond.methodLink "java/lang/Throwable" (1 : Nat) ({ cls := "java/lang/Object", name := "<init>", desc := "()V" } : Jvm.MethodName)) ∈ lw_all := lw_g (lw_at lw_m1 226 rfl) rfl
theorem q311 : (Jvm.Cond.fieldLink "java/lang/Throwable" (13 : Nat) "java/lang/Throwable" "UNASSIGNED_STACK" "[Ljava/lang/StackTraceElement;") ∈ lw_all := lw_g (lw_at lw_m1 227 rfl) rfl
theorem q312 : (Jvm.Cond.laysStatic "java/lang/Throwable" "UNASSIGNED_STACK" "[Ljava/lang/StackTraceElement;") ∈ lw_tbl := lw_at lw_m1 228 rfl
theorem q313 : (Jvm.Cond.fieldLink "java/lang/Throwable" (20 : Nat) "java/lang/Throwable" "SUPPRESSED_SENTINEL" "Ljava/util/List;") ∈ lw_all := lw_g (lw_at lw_m1 229 rfl) rfl
theorem q314 : (Jvm.Cond.laysStatic "java/lang/Throwable" "SUPPRESSED_SENTINEL" "Ljava/util/List;") ∈ lw_tbl := lw_at lw_m1 230 rfl
theorem q315 : (Jvm.Cond.methodLink "java/lang/Throwable" (27 : Nat) ({ cls := "java/lang/Throwable", name := "fillInStackTrace", desc := "()Ljava/lang/Throwable;" } : Jvm.MethodName)) ∈ lw_all := lw_g (lw_at lw_m1 231 rfl) rfl
theorem q316 : (Jvm.Cond.instanceMethod ({ cls := "java/lang/Throwable", name := "fillInStackTrace", desc := "()Ljava/lang/Throwable;" } : Jvm.MethodName)) ∈ lw_all := lw_g (lw_at lw_m1 232 rfl) rfl
theorem q317 : (Jvm.Cond.sameMethod "java/lang/Throwable" "java/lang/Throwable" "fillInStackTrace" "()Ljava/lang/Throwable;") ∈ lw_all := lw_g (lw_at lw_m1 233 rfl) rfl
theorem q318 : (Jvm.Cond.selects "StrengthenFirst$Faulty" ({ cls := "java/lang/Throwable", name := "fillInStackTrace", desc := "()Ljava/lang/Throwable;" } : Jvm.MethodName) ({ cls := "java/lang/Throwable", name := "fillInStackTrace", desc := "()Ljava/lang/Throwable;" } : Jvm.MethodName)) ∈ lw_all := lw_g (lw_at lw_m1 234 rfl) rfl
theorem q319 : (Jvm.Cond.selects "StrengthenFirst$Refused" ({ cls := "java/lang/Throwable", name := "fillInStackTrace", desc := "()Ljava/lang/Throwable;" } : Jvm.MethodName) ({ cls := "java/lang/Throwable", name := "fillInStackTrace", desc := "()Ljava/lang/Throwable;" } : Jvm.MethodName)) ∈ lw_all := lw_g (lw_at lw_m1 235 rfl) rfl
theorem q320 : (Jvm.Cond.selects "java/lang/ArrayIndexOutOfBoundsException" ({ cls := "java/lang/Throwable", name := "fillInStackTrace", desc := "()Ljava/lang/Throwable;" } : Jvm.MethodName) ({ cls := "java/lang/Throwable", name := "fillInStackTrace", desc := "()Ljava/lang/Throwable;" } : Jvm.MethodName)) ∈ lw_all := lw_g (lw_at lw_m1 236 rfl) rfl
theorem q321 : (Jvm.Cond.selects "java/lang/ClassCastException" ({ cls := "java/lang/Throwable", name := "fillInStackTrace", desc := "()Ljava/lang/Throwable;" } : Jvm.MethodName) ({ cls := "java/lang/Throwable", name := "fillInStackTrace", desc := "()Ljava/lang/Throwable;" } : Jvm.MethodName)) ∈ lw_all := lw_g (lw_at lw_m1 237 rfl) rfl
theorem q322 : (Jvm.Cond.selects "java/lang/NegativeArraySizeException" ({ cls := "java/lang/Throwable", name := "fillInStackTrace", desc := "()Ljava/lang/Throwable;" } : Jvm.MethodName) ({ cls := "java/lang/Throwable", name := "fillInStackTrace", desc := "()Ljava/lang/Throwable;" } : Jvm.MethodName)) ∈ lw_all := lw_g (lw_at lw_m1 238 rfl) rfl
theorem q323 : (Jvm.Cond.codeSync ({ cls := "java/lang/Throwable", name := "fillInStackTrace", desc := "()Ljava/lang/Throwable;" } : Jvm.MethodName) prog_38_method_18_code (1 : Nat) (Option.some (Jvm.ClassFile.FieldType.object "java/lang/Throwable"))) ∈ lw_all := lw_g (lw_at lw_m1 239 rfl) rfl
theorem q324 : (Jvm.Cond.methodLink "java/lang/Throwable" (202 : Nat) ({ cls := "java/lang/Throwable", name := "fillInStackTrace", desc := "(I)Ljava/lang/Throwable;" } : Jvm.MethodName)) ∈ lw_all := lw_g (lw_at lw_m2 0 rfl) rfl
theorem q325 : (Jvm.Cond.privateMethod ({ cls := "java/lang/Throwable", name := "fillInStackTrace", desc := "(I)Ljava/lang/Throwable;" } : Jvm.MethodName)) ∈ lw_tbl := lw_at lw_m2 1 rfl
theorem q326 : (Jvm.Cond.instanceMethod ({ cls := "java/lang/Throwable", name := "fillInStackTrace", desc := "(I)Ljava/lang/Throwable;" } : Jvm.MethodName)) ∈ lw_all := lw_g (lw_at lw_m2 2 rfl) rfl
theorem q327 : (Jvm.Cond.instantiable "java/lang/Throwable" (6 : Nat)) ∈ lw_all := lw_g (lw_at lw_m2 3 rfl) rfl
theorem q328 : (Jvm.Cond.native ({ cls := "java/lang/Throwable", name := "fillInStackTrace", desc := "(I)Ljava/lang/Throwable;" } : Jvm.MethodName)) ∈ lw_all := lw_g (lw_at lw_m2 4 rfl) rfl
theorem q329 : (Jvm.Cond.fieldLink "java/lang/Throwable" (198 : Nat) "java/lang/Throwable" "backtrace" "Ljava/lang/Object;") ∈ lw_all := lw_g (lw_at lw_m2 5 rfl) rfl
theorem q330 : (Jvm.Cond.fieldLink "java/lang/Throwable" (31 : Nat) "java/lang/Throwable" "detailMessage" "Ljava/lang/String;") ∈ lw_all := lw_g (lw_at lw_m2 6 rfl) rfl
theorem q331 : (Jvm.Cond.fieldLink "java/lang/Throwable" (7 : Nat) "java/lang/Throwable" "cause" "Ljava/lang/Throwable;") ∈ lw_all := lw_g (lw_at lw_m2 7 rfl) rfl
theorem q332 : (Jvm.Cond.fieldLink "java/lang/Throwable" (17 : Nat) "java/lang/Throwable" "stackTrace" "[Ljava/lang/StackTraceElement;") ∈ lw_all := lw_g (lw_at lw_m2 8 rfl) rfl
theorem q333 : (Jvm.Cond.fieldLink "java/lang/Throwable" (24 : Nat) "java/lang/Throwable" "suppressedExceptions" "Ljava/util/List;") ∈ lw_all := lw_g (lw_at lw_m2 9 rfl) rfl
theorem q334 : (Jvm.Cond.lays "java/lang/ArrayIndexOutOfBoundsException" "java/lang/Throwable" "backtrace" "Ljava/lang/Object;") ∈ lw_all := lw_g (lw_at lw_m2 10 rfl) rfl
theorem q335 : (Jvm.Cond.soleField "java/lang/Throwable" "backtrace") ∈ lw_all := lw_g (lw_at lw_m2 11 rfl) rfl
theorem q336 : (Jvm.Cond.lays "java/lang/ArrayIndexOutOfBoundsException" "java/lang/Throwable" "detailMessage" "Ljava/lang/String;") ∈ lw_all := lw_g (lw_at lw_m2 12 rfl) rfl
theorem q337 : (Jvm.Cond.soleField "java/lang/Throwable" "detailMessage") ∈ lw_all := lw_g (lw_at lw_m2 13 rfl) rfl
theorem q338 : (Jvm.Cond.lays "java/lang/ArrayIndexOutOfBoundsException" "java/lang/Throwable" "cause" "Ljava/lang/Throwable;") ∈ lw_all := lw_g (lw_at lw_m2 14 rfl) rfl
theorem q339 : (Jvm.Cond.soleField "java/lang/Throwable" "cause") ∈ lw_all := lw_g (lw_at lw_m2 15 rfl) rfl
theorem q340 : (Jvm.Cond.lays "java/lang/ArrayIndexOutOfBoundsException" "java/lang/Throwable" "stackTrace" "[Ljava/lang/StackTraceElement;") ∈ lw_all := lw_g (lw_at lw_m2 16 rfl) rfl
theorem q341 : (Jvm.Cond.soleField "java/lang/Throwable" "stackTrace") ∈ lw_all := lw_g (lw_at lw_m2 17 rfl) rfl
theorem q342 : (Jvm.Cond.lays "java/lang/ArrayIndexOutOfBoundsException" "java/lang/Throwable" "depth" "I") ∈ lw_all := lw_g (lw_at lw_m2 18 rfl) rfl
theorem q343 : (Jvm.Cond.soleField "java/lang/Throwable" "depth") ∈ lw_all := lw_g (lw_at lw_m2 19 rfl) rfl
theorem q344 : (Jvm.Cond.lays "java/lang/ArrayIndexOutOfBoundsException" "java/lang/Throwable" "suppressedExceptions" "Ljava/util/List;") ∈ lw_all := lw_g (lw_at lw_m2 20 rfl) rfl
theorem q345 : (Jvm.Cond.soleField "java/lang/Throwable" "suppressedExceptions") ∈ lw_all := lw_g (lw_at lw_m2 21 rfl) rfl
theorem q346 : (Jvm.Cond.superclass "java/lang/ArrayIndexOutOfBoundsException" "java/lang/IndexOutOfBoundsException") ∈ lw_all := lw_g (lw_at lw_m2 22 rfl) rfl
theorem q347 : (Jvm.Cond.castable "java/lang/ArrayIndexOutOfBoundsException" "java/lang/ArrayIndexOutOfBoundsException") ∈ lw_tbl := lw_at lw_m2 23 rfl
theorem q348 : (Jvm.Cond.declares ({ cls := "java/lang/IndexOutOfBoundsException", name := "<init>", desc := "()V" } : Jvm.MethodName)) ∈ lw_tbl := lw_at lw_m2 24 rfl
theorem q349 : (Jvm.Cond.declares ({ cls := "java/lang/IndexOutOfBoundsException", name := "<init>", desc := "(Ljava/lang/String;)V" } : Jvm.MethodName)) ∈ lw_tbl := lw_at lw_m2 25 rfl
theorem q350 : (Jvm.Cond.declares ({ cls := "java/lang/RuntimeException", name := "<init>", desc := "()V" } : Jvm.MethodName)) ∈ lw_tbl := lw_at lw_m2 26 rfl
theorem q351 : (Jvm.Cond.declares ({ cls := "java/lang/RuntimeException", name := "<init>", desc := "(Ljava/lang/String;)V" } : Jvm.MethodName)) ∈ lw_tbl := lw_at lw_m2 27 rfl
theorem q352 : (Jvm.Cond.declares ({ cls := "java/lang/Exception", name := "<init>", desc := "()V" } : Jvm.MethodName)) ∈ lw_tbl := lw_at lw_m2 28 rfl
theorem q353 : (Jvm.Cond.declares ({ cls := "java/lang/Exception", name := "<init>", desc := "(Ljava/lang/String;)V" } : Jvm.MethodName)) ∈ lw_tbl := lw_at lw_m2 29 rfl
theorem q354 : (Jvm.Cond.declares ({ cls := "java/lang/Throwable", name := "<init>", desc := "()V" } : Jvm.MethodName)) ∈ lw_tbl := lw_at lw_m2 30 rfl
theorem q355 : (Jvm.Cond.declares ({ cls := "java/lang/Throwable", name := "<init>", desc := "(Ljava/lang/String;)V" } : Jvm.MethodName)) ∈ lw_tbl := lw_at lw_m2 31 rfl
theorem q356 : (Jvm.Cond.selects "java/lang/ArrayIndexOutOfBoundsException" ({ cls := "java/lang/Throwable", name := "fillInStackTrace", desc := "(I)Ljava/lang/Throwable;" } : Jvm.MethodName) ({ cls := "java/lang/Throwable", name := "fillInStackTrace", desc := "(I)Ljava/lang/Throwable;" } : Jvm.MethodName)) ∈ lw_all := lw_g (lw_at lw_m2 32 rfl) rfl
theorem q357 : (Jvm.Cond.lays "java/lang/Throwable" "java/lang/Throwable" "cause" "Ljava/lang/Throwable;") ∈ lw_all := lw_g (lw_at lw_m2 33 rfl) rfl
theorem q358 : (Jvm.Cond.lays "java/lang/Throwable" "java/lang/Throwable" "stackTrace" "[Ljava/lang/StackTraceElement;") ∈ lw_all := lw_g (lw_at lw_m2 34 rfl) rfl
theorem q359 : (Jvm.Cond.lays "java/lang/Throwable" "java/lang/Throwable" "suppressedExceptions" "Ljava/util/List;") ∈ lw_all := lw_g (lw_at lw_m2 35 rfl) rfl
theorem q360 : (Jvm.Cond.lays "java/lang/Throwable" "java/lang/Throwable" "detailMessage" "Ljava/lang/String;") ∈ lw_all := lw_g (lw_at lw_m2 36 rfl) rfl
theorem q361 : (Jvm.Cond.lays "java/lang/Throwable" "java/lang/Throwable" "backtrace" "Ljava/lang/Object;") ∈ lw_all := lw_g (lw_at lw_m2 37 rfl) rfl
theorem q362 : (Jvm.Cond.fieldLink "java/lang/Throwable" (198 : Nat) "java/lang/Throwable" "backtrace" "Ljava/lang/Object;") ∈ lw_all := lw_g (lw_at lw_m2 38 rfl) rfl
theorem q363 : (Jvm.Cond.superclass "java/lang/Throwable" "java/lang/Object") ∈ lw_all := lw_g (lw_at lw_m2 39 rfl) rfl
theorem q364 : (Jvm.Cond.instanceMethod ({ cls := "java/lang/Throwable", name := "<init>", desc := "()V" } : Jvm.MethodName)) ∈ lw_all := lw_g (lw_at lw_m2 40 rfl) rfl
theorem q365 : (Jvm.Cond.code ({ cls := "java/lang/Throwable", name := "<init>", desc := "()V" } : Jvm.MethodName) prog_38_method_1_code (1 : Nat) (Option.none : Option Jvm.ClassFile.FieldType)) ∈ lw_all := lw_g (lw_at lw_m2 41 rfl) rfl
theorem q366 : (Jvm.Cond.instantiable "java/lang/String" (4 : Nat)) ∈ lw_all := lw_g (lw_at lw_m2 42 rfl) rfl
theorem q367 : (Jvm.Cond.arrayClass Jvm.ClassFile.FieldType.byte) ∈ lw_all := lw_g (lw_at lw_m2 43 rfl) rfl
theorem q368 : (Jvm.Cond.laysFinal "java/lang/String" "java/lang/String" "value" "[B") ∈ lw_all := lw_g (lw_at lw_m2 44 rfl) rfl
theorem q369 : (Jvm.Cond.soleField "java/lang/String" "value") ∈ lw_all := lw_g (lw_at lw_m2 45 rfl) rfl
theorem q370 : (Jvm.Cond.laysFinal "java/lang/String" "java/lang/String" "coder" "B") ∈ lw_all := lw_g (lw_at lw_m2 46 rfl) rfl
theorem q371 : (Jvm.Cond.soleField "java/lang/String" "coder") ∈ lw_all := lw_g (lw_at lw_m2 47 rfl) rfl
theorem q372 : (Jvm.Cond.instantiable "StrengthenFirst$Refused" (7 : Nat)) ∈ lw_all := lw_g (lw_at lw_m2 48 rfl) rfl
theorem q373 : (Jvm.Cond.castable "StrengthenFirst$Refused" "StrengthenFirst$Refused") ∈ lw_tbl := lw_at lw_m2 49 rfl
theorem q374 : (Jvm.Cond.selects "StrengthenFirst$Refused" ({ cls := "java/lang/Throwable", name := "fillInStackTrace", desc := "(I)Ljava/lang/Throwable;" } : Jvm.MethodName) ({ cls := "java/lang/Throwable", name := "fillInStackTrace", desc := "(I)Ljava/lang/Throwable;" } : Jvm.MethodName)) ∈ lw_all := lw_g (lw_at lw_m2 50 rfl) rfl
theorem q375 : (Jvm.Cond.lays "StrengthenFirst$Refused" "java/lang/Throwable" "cause" "Ljava/lang/Throwable;") ∈ lw_all := lw_g (lw_at lw_m2 51 rfl) rfl
theorem q376 : (Jvm.Cond.lays "StrengthenFirst$Refused" "java/lang/Throwable" "stackTrace" "[Ljava/lang/StackTraceElement;") ∈ lw_all := lw_g (lw_at lw_m2 52 rfl) rfl
theorem q377 : (Jvm.Cond.lays "StrengthenFirst$Refused" "java/lang/Throwable" "suppressedExceptions" "Ljava/util/List;") ∈ lw_all := lw_g (lw_at lw_m2 53 rfl) rfl
theorem q378 : (Jvm.Cond.lays "StrengthenFirst$Refused" "java/lang/Throwable" "detailMessage" "Ljava/lang/String;") ∈ lw_all := lw_g (lw_at lw_m2 54 rfl) rfl
theorem q379 : (Jvm.Cond.lays "StrengthenFirst$Refused" "java/lang/Throwable" "backtrace" "Ljava/lang/Object;") ∈ lw_all := lw_g (lw_at lw_m2 55 rfl) rfl
theorem q380 : (Jvm.Cond.methodLink "StrengthenFirst" (23 : Nat) ({ cls := "StrengthenFirst$Refused", name := "<init>", desc := "(I)V" } : Jvm.MethodName)) ∈ lw_all := lw_g (lw_at lw_m2 56 rfl) rfl
theorem q381 : (Jvm.Cond.instanceMethod ({ cls := "StrengthenFirst$Refused", name := "<init>", desc := "(I)V" } : Jvm.MethodName)) ∈ lw_all := lw_g (lw_at lw_m2 57 rfl) rfl
theorem q382 : (Jvm.Cond.code ({ cls := "StrengthenFirst$Refused", name := "<init>", desc := "(I)V" } : Jvm.MethodName) prog_13_method_1_code (2 : Nat) (Option.none : Option Jvm.ClassFile.FieldType)) ∈ lw_all := lw_g (lw_at lw_m2 58 rfl) rfl
theorem q383 : (Jvm.Cond.methodLink "StrengthenFirst$Refused" (1 : Nat) ({ cls := "java/lang/Exception", name := "<init>", desc := "(Ljava/lang/String;Ljava/lang/Throwable;ZZ)V" } : Jvm.MethodName)) ∈ lw_all := lw_g (lw_at lw_m2 59 rfl) rfl
theorem q384 : (Jvm.Cond.instanceMethod ({ cls := "java/lang/Exception", name := "<init>", desc := "(Ljava/lang/String;Ljava/lang/Throwable;ZZ)V" } : Jvm.MethodName)) ∈ lw_all := lw_g (lw_at lw_m2 60 rfl) rfl
theorem q385 : (Jvm.Cond.code ({ cls := "java/lang/Exception", name := "<init>", desc := "(Ljava/lang/String;Ljava/lang/Throwable;ZZ)V" } : Jvm.MethodName) prog_29_method_5_code (5 : Nat) (Option.none : Option Jvm.ClassFile.FieldType)) ∈ lw_all := lw_g (lw_at lw_m2 61 rfl) rfl
theorem q386 : (Jvm.Cond.methodLink "java/lang/Exception" (16 : Nat) ({ cls := "java/lang/Throwable", name := "<init>", desc := "(Ljava/lang/String;Ljava/lang/Throwable;ZZ)V" } : Jvm.MethodName)) ∈ lw_all := lw_g (lw_at lw_m2 62 rfl) rfl
theorem q387 : (Jvm.Cond.instanceMethod ({ cls := "java/lang/Throwable", name := "<init>", desc := "(Ljava/lang/String;Ljava/lang/Throwable;ZZ)V" } : Jvm.MethodName)) ∈ lw_all := lw_g (lw_at lw_m2 63 rfl) rfl
theorem q388 : (Jvm.Cond.code ({ cls := "java/lang/Throwable", name := "<init>", desc := "(Ljava/lang/String;Ljava/lang/Throwable;ZZ)V" } : Jvm.MethodName) prog_38_method_5_code (5 : Nat) (Option.none : Option Jvm.ClassFile.FieldType)) ∈ lw_all := lw_g (lw_at lw_m2 64 rfl) rfl
theorem q389 : (Jvm.Cond.fieldLink "StrengthenFirst$Refused" (7 : Nat) "StrengthenFirst$Refused" "why" "I") ∈ lw_all := lw_g (lw_at lw_m2 65 rfl) rfl
theorem q390 : (Jvm.Cond.fieldLink "StrengthenFirst" (70 : Nat) "StrengthenFirst$Refused" "why" "I") ∈ lw_all := lw_g (lw_at lw_m2 66 rfl) rfl
theorem q391 : (Jvm.Cond.laysFinal "StrengthenFirst$Refused" "StrengthenFirst$Refused" "why" "I") ∈ lw_all := lw_g (lw_at lw_m2 67 rfl) rfl
theorem q392 : (Jvm.Cond.soleField "StrengthenFirst$Refused" "why") ∈ lw_all := lw_g (lw_at lw_m2 68 rfl) rfl
theorem q393 : (Jvm.Cond.lays "StrengthenFirst$Refused" "java/lang/Throwable" "depth" "I") ∈ lw_all := lw_g (lw_at lw_m2 69 rfl) rfl
theorem q394 : (Jvm.Cond.superclass "StrengthenFirst$Refused" "java/lang/Exception") ∈ lw_all := lw_g (lw_at lw_m2 70 rfl) rfl
theorem q395 : (Jvm.Cond.methodLink "StrengthenFirst" (86 : Nat) ({ cls := "StrengthenFirst", name := "need", desc := "(ZI)V" } : Jvm.MethodName)) ∈ lw_all := lw_g (lw_at lw_m2 71 rfl) rfl
theorem q396 : (Jvm.Cond.static ({ cls := "StrengthenFirst", name := "need", desc := "(ZI)V" } : Jvm.MethodName)) ∈ lw_all := lw_g (lw_at lw_m2 72 rfl) rfl
theorem q397 : (Jvm.Cond.code ({ cls := "StrengthenFirst", name := "need", desc := "(ZI)V" } : Jvm.MethodName) prog_1_method_2_code (2 : Nat) (Option.none : Option Jvm.ClassFile.FieldType)) ∈ lw_all := lw_g (lw_at lw_m2 73 rfl) rfl
theorem q398 : (Jvm.Cond.constantLong "StrengthenFirst" (131 : Nat) (3 : Int64)) ∈ lw_all := lw_g (lw_at lw_m2 74 rfl) rfl
theorem q399 : (Jvm.Cond.methodLink "StrengthenFirst" (78 : Nat) ({ cls := "StrengthenFirst", name := "in", desc := "(JJJ)Z" } : Jvm.MethodName)) ∈ lw_all := lw_g (lw_at lw_m2 75 rfl) rfl
theorem q400 : (Jvm.Cond.static ({ cls := "StrengthenFirst", name := "in", desc := "(JJJ)Z" } : Jvm.MethodName)) ∈ lw_all := lw_g (lw_at lw_m2 76 rfl) rfl
theorem q401 : (Jvm.Cond.code ({ cls := "StrengthenFirst", name := "in", desc := "(JJJ)Z" } : Jvm.MethodName) prog_1_method_3_code (6 : Nat) (Option.some Jvm.ClassFile.FieldType.boolean)) ∈ lw_all := lw_g (lw_at lw_m2 77 rfl) rfl
theorem q402 : (Jvm.Cond.methodLink "StrengthenFirst" (133 : Nat) ({ cls := "StrengthenFirst", name := "newRow", desc := "(II)LStrengthenFirst$Row;" } : Jvm.MethodName)) ∈ lw_all := lw_g (lw_at lw_m2 78 rfl) rfl
theorem q403 : (Jvm.Cond.static ({ cls := "StrengthenFirst", name := "newRow", desc := "(II)LStrengthenFirst$Row;" } : Jvm.MethodName)) ∈ lw_all := lw_g (lw_at lw_m2 79 rfl) rfl
theorem q404 : (Jvm.Cond.codeWith ({ cls := "StrengthenFirst", name := "newRow", desc := "(II)LStrengthenFirst$Row;" } : Jvm.MethodName) prog_1_method_14_code (3 : Nat) (Option.some (Jvm.ClassFile.FieldType.object "StrengthenFirst$Row")) [((0 : Nat), (40 : Nat), (78 : Nat), (125 : Nat)), ((41 : Nat), (49 : Nat), (78 : Nat), (125 : Nat)), ((50 : Nat), (58 : Nat), (78 : Nat), (125 : Nat)), ((59 : Nat), (67 : Nat), (78 : Nat), (125 : Nat)), ((68 : Nat), (78 : Nat), (78 : Nat), (125 : Nat))]) ∈ lw_all := lw_g (lw_at lw_m2 80 rfl) rfl
theorem q405 : (Jvm.Cond.classLink "StrengthenFirst" (125 : Nat) "java/lang/NegativeArraySizeException") ∈ lw_all := lw_g (lw_at lw_m2 81 rfl) rfl
theorem q406 : (Jvm.Cond.instantiable "java/lang/NegativeArraySizeException" (6 : Nat)) ∈ lw_all := lw_g (lw_at lw_m2 82 rfl) rfl
theorem q407 : (Jvm.Cond.instanceMethod ({ cls := "java/lang/NegativeArraySizeException", name := "<init>", desc := "(Ljava/lang/String;)V" } : Jvm.MethodName)) ∈ lw_all := lw_g (lw_at lw_m2 83 rfl) rfl
theorem q408 : (Jvm.Cond.code ({ cls := "java/lang/NegativeArraySizeException", name := "<init>", desc := "(Ljava/lang/String;)V" } : Jvm.MethodName) prog_32_method_2_code (2 : Nat) (Option.none : Option Jvm.ClassFile.FieldType)) ∈ lw_all := lw_g (lw_at lw_m2 84 rfl) rfl
theorem q409 : (Jvm.Cond.methodLink "java/lang/NegativeArraySizeException" (7 : Nat) ({ cls := "java/lang/RuntimeException", name := "<init>", desc := "(Ljava/lang/String;)V" } : Jvm.MethodName)) ∈ lw_all := lw_g (lw_at lw_m2 85 rfl) rfl
theorem q410 : (Jvm.Cond.lays "java/lang/NegativeArraySizeException" "java/lang/Throwable" "backtrace" "Ljava/lang/Object;") ∈ lw_all := lw_g (lw_at lw_m2 86 rfl) rfl
theorem q411 : (Jvm.Cond.lays "java/lang/NegativeArraySizeException" "java/lang/Throwable" "detailMessage" "Ljava/lang/String;") ∈ lw_all := lw_g (lw_at lw_m2 87 rfl) rfl
theorem q412 : (Jvm.Cond.lays "java/lang/NegativeArraySizeException" "java/lang/Throwable" "cause" "Ljava/lang/Throwable;") ∈ lw_all := lw_g (lw_at lw_m2 88 rfl) rfl
theorem q413 : (Jvm.Cond.lays "java/lang/NegativeArraySizeException" "java/lang/Throwable" "stackTrace" "[Ljava/lang/StackTraceElement;") ∈ lw_all := lw_g (lw_at lw_m2 89 rfl) rfl
theorem q414 : (Jvm.Cond.lays "java/lang/NegativeArraySizeException" "java/lang/Throwable" "depth" "I") ∈ lw_all := lw_g (lw_at lw_m2 90 rfl) rfl
theorem q415 : (Jvm.Cond.lays "java/lang/NegativeArraySizeException" "java/lang/Throwable" "suppressedExceptions" "Ljava/util/List;") ∈ lw_all := lw_g (lw_at lw_m2 91 rfl) rfl
theorem q416 : (Jvm.Cond.superclass "java/lang/NegativeArraySizeException" "java/lang/RuntimeException") ∈ lw_all := lw_g (lw_at lw_m2 92 rfl) rfl
theorem q417 : (Jvm.Cond.castable "java/lang/NegativeArraySizeException" "java/lang/NegativeArraySizeException") ∈ lw_tbl := lw_at lw_m2 93 rfl
theorem q418 : (Jvm.Cond.selects "java/lang/NegativeArraySizeException" ({ cls := "java/lang/Throwable", name := "fillInStackTrace", desc := "(I)Ljava/lang/Throwable;" } : Jvm.MethodName) ({ cls := "java/lang/Throwable", name := "fillInStackTrace", desc := "(I)Ljava/lang/Throwable;" } : Jvm.MethodName)) ∈ lw_all := lw_g (lw_at lw_m2 94 rfl) rfl
theorem q419 : (Jvm.Cond.classLink "StrengthenFirst" (113 : Nat) "StrengthenFirst$Bytes") ∈ lw_all := lw_g (lw_at lw_m2 95 rfl) rfl
theorem q420 : (Jvm.Cond.instantiable "StrengthenFirst$Bytes" (1 : Nat)) ∈ lw_all := lw_g (lw_at lw_m2 96 rfl) rfl
theorem q421 : (Jvm.Cond.methodLink "StrengthenFirst" (115 : Nat) ({ cls := "StrengthenFirst$Bytes", name := "<init>", desc := "(I)V" } : Jvm.MethodName)) ∈ lw_all := lw_g (lw_at lw_m2 97 rfl) rfl
theorem q422 : (Jvm.Cond.instanceMethod ({ cls := "StrengthenFirst$Bytes", name := "<init>", desc := "(I)V" } : Jvm.MethodName)) ∈ lw_all := lw_g (lw_at lw_m2 98 rfl) rfl
theorem q423 : (Jvm.Cond.code ({ cls := "StrengthenFirst$Bytes", name := "<init>", desc := "(I)V" } : Jvm.MethodName) prog_3_method_1_code (2 : Nat) (Option.none : Option Jvm.ClassFile.FieldType)) ∈ lw_all := lw_g (lw_at lw_m2 99 rfl) rfl
theorem q424 : (Jvm.Cond.methodLink "StrengthenFirst$Bytes" (1 : Nat) ({ cls := "StrengthenFirst$Row", name := "<init>", desc := "()V" } : Jvm.MethodName)) ∈ lw_all := lw_g (lw_at lw_m2 100 rfl) rfl
theorem q425 : (Jvm.Cond.instanceMethod ({ cls := "StrengthenFirst$Row", name := "<init>", desc := "()V" } : Jvm.MethodName)) ∈ lw_all := lw_g (lw_at lw_m2 101 rfl) rfl
theorem q426 : (Jvm.Cond.code ({ cls := "StrengthenFirst$Row", name := "<init>", desc := "()V" } : Jvm.MethodName) prog_14_method_1_code (1 : Nat) (Option.none : Option Jvm.ClassFile.FieldType)) ∈ lw_all := lw_g (lw_at lw_m2 102 rfl) rfl
theorem q427 : (Jvm.Cond.methodLink "StrengthenFirst$Row" (1 : Nat) ({ cls := "java/lang/Object", name := "<init>", desc := "()V" } : Jvm.MethodName)) ∈ lw_all := lw_g (lw_at lw_m2 103 rfl) rfl
theorem q428 : (Jvm.Cond.fieldLink "StrengthenFirst$Bytes" (7 : Nat) "StrengthenFirst$Bytes" "e" "[B") ∈ lw_all := lw_g (lw_at lw_m2 104 rfl) rfl
theorem q429 : (Jvm.Cond.laysFinal "StrengthenFirst$Bytes" "StrengthenFirst$Bytes" "e" "[B") ∈ lw_all := lw_g (lw_at lw_m2 105 rfl) rfl
theorem q430 : (Jvm.Cond.soleField "StrengthenFirst$Bytes" "e") ∈ lw_all := lw_g (lw_at lw_m2 106 rfl) rfl
theorem q431 : (Jvm.Cond.superclass "StrengthenFirst$Bytes" "StrengthenFirst$Row") ∈ lw_all := lw_g (lw_at lw_m2 107 rfl) rfl
theorem q432 : (Jvm.Cond.classLink "StrengthenFirst" (116 : Nat) "StrengthenFirst$Shorts") ∈ lw_all := lw_g (lw_at lw_m2 108 rfl) rfl
theorem q433 : (Jvm.Cond.instantiable "StrengthenFirst$Shorts" (1 : Nat)) ∈ lw_all := lw_g (lw_at lw_m2 109 rfl) rfl
theorem q434 : (Jvm.Cond.methodLink "StrengthenFirst" (118 : Nat) ({ cls := "StrengthenFirst$Shorts", name := "<init>", desc := "(I)V" } : Jvm.MethodName)) ∈ lw_all := lw_g (lw_at lw_m2 110 rfl) rfl
theorem q435 : (Jvm.Cond.instanceMethod ({ cls := "StrengthenFirst$Shorts", name := "<init>", desc := "(I)V" } : Jvm.MethodName)) ∈ lw_all := lw_g (lw_at lw_m2 111 rfl) rfl
theorem q436 : (Jvm.Cond.code ({ cls := "StrengthenFirst$Shorts", name := "<init>", desc := "(I)V" } : Jvm.MethodName) prog_18_method_1_code (2 : Nat) (Option.none : Option Jvm.ClassFile.FieldType)) ∈ lw_all := lw_g (lw_at lw_m2 112 rfl) rfl
theorem q437 : (Jvm.Cond.methodLink "StrengthenFirst$Shorts" (1 : Nat) ({ cls := "StrengthenFirst$Row", name := "<init>", desc := "()V" } : Jvm.MethodName)) ∈ lw_all := lw_g (lw_at lw_m2 113 rfl) rfl
theorem q438 : (Jvm.Cond.fieldLink "StrengthenFirst$Shorts" (7 : Nat) "StrengthenFirst$Shorts" "e" "[S") ∈ lw_all := lw_g (lw_at lw_m2 114 rfl) rfl
theorem q439 : (Jvm.Cond.laysFinal "StrengthenFirst$Shorts" "StrengthenFirst$Shorts" "e" "[S") ∈ lw_all := lw_g (lw_at lw_m2 115 rfl) rfl
theorem q440 : (Jvm.Cond.soleField "StrengthenFirst$Shorts" "e") ∈ lw_all := lw_g (lw_at lw_m2 116 rfl) rfl
theorem q441 : (Jvm.Cond.superclass "StrengthenFirst$Shorts" "StrengthenFirst$Row") ∈ lw_all := lw_g (lw_at lw_m2 117 rfl) rfl
theorem q442 : (Jvm.Cond.arrayClass Jvm.ClassFile.FieldType.short) ∈ lw_all := lw_g (lw_at lw_m2 118 rfl) rfl
theorem q443 : (Jvm.Cond.classLink "StrengthenFirst" (119 : Nat) "StrengthenFirst$Ints") ∈ lw_all := lw_g (lw_at lw_m2 119 rfl) rfl
theorem q444 : (Jvm.Cond.instantiable "StrengthenFirst$Ints" (1 : Nat)) ∈ lw_all := lw_g (lw_at lw_m2 120 rfl) rfl
theorem q445 : (Jvm.Cond.methodLink "StrengthenFirst" (121 : Nat) ({ cls := "StrengthenFirst$Ints", name := "<init>", desc := "(I)V" } : Jvm.MethodName)) ∈ lw_all := lw_g (lw_at lw_m2 121 rfl) rfl
theorem q446 : (Jvm.Cond.instanceMethod ({ cls := "StrengthenFirst$Ints", name := "<init>", desc := "(I)V" } : Jvm.MethodName)) ∈ lw_all := lw_g (lw_at lw_m2 122 rfl) rfl
theorem q447 : (Jvm.Cond.code ({ cls := "StrengthenFirst$Ints", name := "<init>", desc := "(I)V" } : Jvm.MethodName) prog_7_method_1_code (2 : Nat) (Option.none : Option Jvm.ClassFile.FieldType)) ∈ lw_all := lw_g (lw_at lw_m2 123 rfl) rfl
theorem q448 : (Jvm.Cond.methodLink "StrengthenFirst$Ints" (1 : Nat) ({ cls := "StrengthenFirst$Row", name := "<init>", desc := "()V" } : Jvm.MethodName)) ∈ lw_all := lw_g (lw_at lw_m2 124 rfl) rfl
theorem q449 : (Jvm.Cond.fieldLink "StrengthenFirst$Ints" (7 : Nat) "StrengthenFirst$Ints" "e" "[I") ∈ lw_all := lw_g (lw_at lw_m2 125 rfl) rfl
theorem q450 : (Jvm.Cond.laysFinal "StrengthenFirst$Ints" "StrengthenFirst$Ints" "e" "[I") ∈ lw_all := lw_g (lw_at lw_m2 126 rfl) rfl
theorem q451 : (Jvm.Cond.soleField "StrengthenFirst$Ints" "e") ∈ lw_all := lw_g (lw_at lw_m2 127 rfl) rfl
theorem q452 : (Jvm.Cond.superclass "StrengthenFirst$Ints" "StrengthenFirst$Row") ∈ lw_all := lw_g (lw_at lw_m2 128 rfl) rfl
theorem q453 : (Jvm.Cond.classLink "StrengthenFirst" (122 : Nat) "StrengthenFirst$Longs") ∈ lw_all := lw_g (lw_at lw_m2 129 rfl) rfl
theorem q454 : (Jvm.Cond.instantiable "StrengthenFirst$Longs" (1 : Nat)) ∈ lw_all := lw_g (lw_at lw_m2 130 rfl) rfl
theorem q455 : (Jvm.Cond.methodLink "StrengthenFirst" (124 : Nat) ({ cls := "StrengthenFirst$Longs", name := "<init>", desc := "(I)V" } : Jvm.MethodName)) ∈ lw_all := lw_g (lw_at lw_m2 131 rfl) rfl
theorem q456 : (Jvm.Cond.instanceMethod ({ cls := "StrengthenFirst$Longs", name := "<init>", desc := "(I)V" } : Jvm.MethodName)) ∈ lw_all := lw_g (lw_at lw_m2 132 rfl) rfl
theorem q457 : (Jvm.Cond.code ({ cls := "StrengthenFirst$Longs", name := "<init>", desc := "(I)V" } : Jvm.MethodName) prog_8_method_1_code (2 : Nat) (Option.none : Option Jvm.ClassFile.FieldType)) ∈ lw_all := lw_g (lw_at lw_m2 133 rfl) rfl
theorem q458 : (Jvm.Cond.methodLink "StrengthenFirst$Longs" (1 : Nat) ({ cls := "StrengthenFirst$Row", name := "<init>", desc := "()V" } : Jvm.MethodName)) ∈ lw_all := lw_g (lw_at lw_m2 134 rfl) rfl
theorem q459 : (Jvm.Cond.fieldLink "StrengthenFirst$Longs" (7 : Nat) "StrengthenFirst$Longs" "e" "[J") ∈ lw_all := lw_g (lw_at lw_m2 135 rfl) rfl
theorem q460 : (Jvm.Cond.laysFinal "StrengthenFirst$Longs" "StrengthenFirst$Longs" "e" "[J") ∈ lw_all := lw_g (lw_at lw_m2 136 rfl) rfl
theorem q461 : (Jvm.Cond.soleField "StrengthenFirst$Longs" "e") ∈ lw_all := lw_g (lw_at lw_m2 137 rfl) rfl
theorem q462 : (Jvm.Cond.superclass "StrengthenFirst$Longs" "StrengthenFirst$Row") ∈ lw_all := lw_g (lw_at lw_m2 138 rfl) rfl
theorem q463 : (Jvm.Cond.methodLink "StrengthenFirst" (140 : Nat) ({ cls := "StrengthenFirst", name := "refused", desc := "(LStrengthenFirst$Refused;)I" } : Jvm.MethodName)) ∈ lw_all := lw_g (lw_at lw_m2 139 rfl) rfl
theorem q464 : (Jvm.Cond.privateMethod ({ cls := "StrengthenFirst", name := "refused", desc := "(LStrengthenFirst$Refused;)I" } : Jvm.MethodName)) ∈ lw_tbl := lw_at lw_m2 140 rfl
theorem q465 : (Jvm.Cond.instanceMethod ({ cls := "StrengthenFirst", name := "refused", desc := "(LStrengthenFirst$Refused;)I" } : Jvm.MethodName)) ∈ lw_all := lw_g (lw_at lw_m2 141 rfl) rfl
theorem q466 : (Jvm.Cond.code ({ cls := "StrengthenFirst", name := "refused", desc := "(LStrengthenFirst$Refused;)I" } : Jvm.MethodName) prog_1_method_5_code (2 : Nat) (Option.some Jvm.ClassFile.FieldType.int)) ∈ lw_all := lw_g (lw_at lw_m2 142 rfl) rfl
theorem q467 : (Jvm.Cond.methodLink "StrengthenFirstLaw" (20 : Nat) ({ cls := "StrengthenFirst", name := "set", desc := "(IIJ)I" } : Jvm.MethodName)) ∈ lw_all := lw_g (lw_at lw_m2 143 rfl) rfl
theorem q468 : (Jvm.Cond.instanceMethod ({ cls := "StrengthenFirst", name := "set", desc := "(IIJ)I" } : Jvm.MethodName)) ∈ lw_all := lw_g (lw_at lw_m2 144 rfl) rfl
theorem q469 : (Jvm.Cond.selects "StrengthenFirst" ({ cls := "StrengthenFirst", name := "set", desc := "(IIJ)I" } : Jvm.MethodName) ({ cls := "StrengthenFirst", name := "set", desc := "(IIJ)I" } : Jvm.MethodName)) ∈ lw_all := lw_g (lw_at lw_m2 145 rfl) rfl
theorem q470 : (Jvm.Cond.codeWith ({ cls := "StrengthenFirst", name := "set", desc := "(IIJ)I" } : Jvm.MethodName) prog_1_method_16_code (7 : Nat) (Option.some Jvm.ClassFile.FieldType.int) [((10 : Nat), (17 : Nat), (20 : Nat), (73 : Nat)), ((0 : Nat), (33 : Nat), (34 : Nat), (21 : Nat))]) ∈ lw_all := lw_g (lw_at lw_m2 146 rfl) rfl
theorem q471 : (Jvm.Cond.methodLink "StrengthenFirst" (144 : Nat) ({ cls := "StrengthenFirst$Shelf", name := "row", desc := "()LStrengthenFirst$Row;" } : Jvm.MethodName)) ∈ lw_all := lw_g (lw_at lw_m2 147 rfl) rfl
theorem q472 : (Jvm.Cond.instanceMethod ({ cls := "StrengthenFirst$Shelf", name := "row", desc := "()LStrengthenFirst$Row;" } : Jvm.MethodName)) ∈ lw_all := lw_g (lw_at lw_m2 148 rfl) rfl
theorem q473 : (Jvm.Cond.selects "StrengthenFirst$Shelf" ({ cls := "StrengthenFirst$Shelf", name := "row", desc := "()LStrengthenFirst$Row;" } : Jvm.MethodName) ({ cls := "StrengthenFirst$Shelf", name := "row", desc := "()LStrengthenFirst$Row;" } : Jvm.MethodName)) ∈ lw_all := lw_g (lw_at lw_m2 149 rfl) rfl
theorem q474 : (Jvm.Cond.codeWith ({ cls := "StrengthenFirst$Shelf", name := "row", desc := "()LStrengthenFirst$Row;" } : Jvm.MethodName) prog_17_method_2_code (2 : Nat) (Option.some (Jvm.ClassFile.FieldType.object "StrengthenFirst$Row")) [((0 : Nat), (23 : Nat), (24 : Nat), (21 : Nat))]) ∈ lw_all := lw_g (lw_at lw_m2 150 rfl) rfl
theorem q475 : (Jvm.Cond.classLink "StrengthenFirst$Shelf" (21 : Nat) "java/lang/ClassCastException") ∈ lw_all := lw_g (lw_at lw_m2 151 rfl) rfl
theorem q476 : (Jvm.Cond.instantiable "java/lang/ClassCastException" (6 : Nat)) ∈ lw_all := lw_g (lw_at lw_m2 152 rfl) rfl
theorem q477 : (Jvm.Cond.instanceMethod ({ cls := "java/lang/ClassCastException", name := "<init>", desc := "(Ljava/lang/String;)V" } : Jvm.MethodName)) ∈ lw_all := lw_g (lw_at lw_m2 153 rfl) rfl
theorem q478 : (Jvm.Cond.code ({ cls := "java/lang/ClassCastException", name := "<init>", desc := "(Ljava/lang/String;)V" } : Jvm.MethodName) prog_28_method_2_code (2 : Nat) (Option.none : Option Jvm.ClassFile.FieldType)) ∈ lw_all := lw_g (lw_at lw_m2 154 rfl) rfl
theorem q479 : (Jvm.Cond.methodLink "java/lang/ClassCastException" (7 : Nat) ({ cls := "java/lang/RuntimeException", name := "<init>", desc := "(Ljava/lang/String;)V" } : Jvm.MethodName)) ∈ lw_all := lw_g (lw_at lw_m2 155 rfl) rfl
theorem q480 : (Jvm.Cond.lays "java/lang/ClassCastException" "java/lang/Throwable" "backtrace" "Ljava/lang/Object;") ∈ lw_all := lw_g (lw_at lw_m2 156 rfl) rfl
theorem q481 : (Jvm.Cond.lays "java/lang/ClassCastException" "java/lang/Throwable" "detailMessage" "Ljava/lang/String;") ∈ lw_all := lw_g (lw_at lw_m2 157 rfl) rfl
theorem q482 : (Jvm.Cond.lays "java/lang/ClassCastException" "java/lang/Throwable" "cause" "Ljava/lang/Throwable;") ∈ lw_all := lw_g (lw_at lw_m2 158 rfl) rfl
theorem q483 : (Jvm.Cond.lays "java/lang/ClassCastException" "java/lang/Throwable" "stackTrace" "[Ljava/lang/StackTraceElement;") ∈ lw_all := lw_g (lw_at lw_m2 159 rfl) rfl
theorem q484 : (Jvm.Cond.lays "java/lang/ClassCastException" "java/lang/Throwable" "depth" "I") ∈ lw_all := lw_g (lw_at lw_m2 160 rfl) rfl
theorem q485 : (Jvm.Cond.lays "java/lang/ClassCastException" "java/lang/Throwable" "suppressedExceptions" "Ljava/util/List;") ∈ lw_all := lw_g (lw_at lw_m2 161 rfl) rfl
theorem q486 : (Jvm.Cond.superclass "java/lang/ClassCastException" "java/lang/RuntimeException") ∈ lw_all := lw_g (lw_at lw_m2 162 rfl) rfl
theorem q487 : (Jvm.Cond.castable "java/lang/ClassCastException" "java/lang/ClassCastException") ∈ lw_tbl := lw_at lw_m2 163 rfl
theorem q488 : (Jvm.Cond.selects "java/lang/ClassCastException" ({ cls := "java/lang/Throwable", name := "fillInStackTrace", desc := "(I)Ljava/lang/Throwable;" } : Jvm.MethodName) ({ cls := "java/lang/Throwable", name := "fillInStackTrace", desc := "(I)Ljava/lang/Throwable;" } : Jvm.MethodName)) ∈ lw_all := lw_g (lw_at lw_m2 164 rfl) rfl
theorem q489 : (Jvm.Cond.classLink "StrengthenFirst$Shelf" (15 : Nat) "StrengthenFirst$Row") ∈ lw_all := lw_g (lw_at lw_m2 165 rfl) rfl
theorem q490 : (Jvm.Cond.methodLink "StrengthenFirst$Shelf" (17 : Nat) ({ cls := "StrengthenFirst", name := "need", desc := "(ZI)V" } : Jvm.MethodName)) ∈ lw_all := lw_g (lw_at lw_m2 166 rfl) rfl
theorem q491 : (Jvm.Cond.classLink "StrengthenFirst$Shelf" (23 : Nat) "StrengthenFirst$Refused") ∈ lw_all := lw_g (lw_at lw_m2 167 rfl) rfl
theorem q492 : (Jvm.Cond.methodLink "StrengthenFirst$Shelf" (25 : Nat) ({ cls := "StrengthenFirst$Refused", name := "<init>", desc := "(I)V" } : Jvm.MethodName)) ∈ lw_all := lw_g (lw_at lw_m2 168 rfl) rfl
theorem q493 : (Jvm.Cond.methodLink "StrengthenFirst" (147 : Nat) ({ cls := "StrengthenFirst$Row", name := "put", desc := "(IJ)V" } : Jvm.MethodName)) ∈ lw_all := lw_g (lw_at lw_m2 169 rfl) rfl
theorem q494 : (Jvm.Cond.declares ({ cls := "StrengthenFirst$Row", name := "put", desc := "(IJ)V" } : Jvm.MethodName)) ∈ lw_tbl := lw_at lw_m2 170 rfl
theorem q495 : (Jvm.Cond.sameMethod "StrengthenFirst$Row" "StrengthenFirst$Row" "put" "(IJ)V") ∈ lw_all := lw_g (lw_at lw_m2 171 rfl) rfl
theorem q496 : (Jvm.Cond.selects "StrengthenFirst$Bytes" ({ cls := "StrengthenFirst$Row", name := "put", desc := "(IJ)V" } : Jvm.MethodName) ({ cls := "StrengthenFirst$Bytes", name := "put", desc := "(IJ)V" } : Jvm.MethodName)) ∈ lw_all := lw_g (lw_at lw_m2 172 rfl) rfl
theorem q497 : (Jvm.Cond.instanceMethod ({ cls := "StrengthenFirst$Bytes", name := "put", desc := "(IJ)V" } : Jvm.MethodName)) ∈ lw_all := lw_g (lw_at lw_m2 173 rfl) rfl
theorem q498 : (Jvm.Cond.code ({ cls := "StrengthenFirst$Bytes", name := "put", desc := "(IJ)V" } : Jvm.MethodName) prog_3_method_4_code (4 : Nat) (Option.none : Option Jvm.ClassFile.FieldType)) ∈ lw_all := lw_g (lw_at lw_m2 174 rfl) rfl
theorem q499 : (Jvm.Cond.selects "StrengthenFirst$Ints" ({ cls := "StrengthenFirst$Row", name := "put", desc := "(IJ)V" } : Jvm.MethodName) ({ cls := "StrengthenFirst$Ints", name := "put", desc := "(IJ)V" } : Jvm.MethodName)) ∈ lw_all := lw_g (lw_at lw_m2 175 rfl) rfl
theorem q500 : (Jvm.Cond.instanceMethod ({ cls := "StrengthenFirst$Ints", name := "put", desc := "(IJ)V" } : Jvm.MethodName)) ∈ lw_all := lw_g (lw_at lw_m2 176 rfl) rfl
theorem q501 : (Jvm.Cond.code ({ cls := "StrengthenFirst$Ints", name := "put", desc := "(IJ)V" } : Jvm.MethodName) prog_7_method_4_code (4 : Nat) (Option.none : Option Jvm.ClassFile.FieldType)) ∈ lw_all := lw_g (lw_at lw_m2 177 rfl) rfl
theorem q502 : (Jvm.Cond.selects "StrengthenFirst$Longs" ({ cls := "StrengthenFirst$Row", name := "put", desc := "(IJ)V" } : Jvm.MethodName) ({ cls := "StrengthenFirst$Longs", name := "put", desc := "(IJ)V" } : Jvm.MethodName)) ∈ lw_all := lw_g (lw_at lw_m2 178 rfl) rfl
theorem q503 : (Jvm.Cond.instanceMethod ({ cls := "StrengthenFirst$Longs", name := "put", desc := "(IJ)V" } : Jvm.MethodName)) ∈ lw_all := lw_g (lw_at lw_m2 179 rfl) rfl
theorem q504 : (Jvm.Cond.code ({ cls := "StrengthenFirst$Longs", name := "put", desc := "(IJ)V" } : Jvm.MethodName) prog_8_method_4_code (4 : Nat) (Option.none : Option Jvm.ClassFile.FieldType)) ∈ lw_all := lw_g (lw_at lw_m2 180 rfl) rfl
theorem q505 : (Jvm.Cond.selects "StrengthenFirst$Shorts" ({ cls := "StrengthenFirst$Row", name := "put", desc := "(IJ)V" } : Jvm.MethodName) ({ cls := "StrengthenFirst$Shorts", name := "put", desc := "(IJ)V" } : Jvm.MethodName)) ∈ lw_all := lw_g (lw_at lw_m2 181 rfl) rfl
theorem q506 : (Jvm.Cond.instanceMethod ({ cls := "StrengthenFirst$Shorts", name := "put", desc := "(IJ)V" } : Jvm.MethodName)) ∈ lw_all := lw_g (lw_at lw_m2 182 rfl) rfl
theorem q507 : (Jvm.Cond.code ({ cls := "StrengthenFirst$Shorts", name := "put", desc := "(IJ)V" } : Jvm.MethodName) prog_18_method_4_code (4 : Nat) (Option.none : Option Jvm.ClassFile.FieldType)) ∈ lw_all := lw_g (lw_at lw_m2 183 rfl) rfl
theorem q508 : (Jvm.Cond.methodLink "StrengthenFirstLaw" (25 : Nat) ({ cls := "StrengthenFirst", name := "copy", desc := "(IIIII)I" } : Jvm.MethodName)) ∈ lw_all := lw_g (lw_at lw_m2 184 rfl) rfl
theorem q509 : (Jvm.Cond.instanceMethod ({ cls := "StrengthenFirst", name := "copy", desc := "(IIIII)I" } : Jvm.MethodName)) ∈ lw_all := lw_g (lw_at lw_m2 185 rfl) rfl
theorem q510 : (Jvm.Cond.selects "StrengthenFirst" ({ cls := "StrengthenFirst", name := "copy", desc := "(IIIII)I" } : Jvm.MethodName) ({ cls := "StrengthenFirst", name := "copy", desc := "(IIIII)I" } : Jvm.MethodName)) ∈ lw_all := lw_g (lw_at lw_m2 186 rfl) rfl
theorem q511 : (Jvm.Cond.codeWith ({ cls := "StrengthenFirst", name := "copy", desc := "(IIIII)I" } : Jvm.MethodName) prog_1_method_17_code (11 : Nat) (Option.some Jvm.ClassFile.FieldType.int) [((114 : Nat), (132 : Nat), (135 : Nat), (158 : Nat)), ((0 : Nat), (148 : Nat), (149 : Nat), (21 : Nat))]) ∈ lw_all := lw_g (lw_at lw_m2 187 rfl) rfl
theorem q512 : (Jvm.Cond.classLink "StrengthenFirst" (158 : Nat) "java/lang/IndexOutOfBoundsException") ∈ lw_all := lw_g (lw_at lw_m2 188 rfl) rfl
theorem q513 : (Jvm.Cond.methodLink "StrengthenFirst" (151 : Nat) ({ cls := "StrengthenFirst$Shelf", name := "holdsRule", desc := "()Z" } : Jvm.MethodName)) ∈ lw_all := lw_g (lw_at lw_m2 189 rfl) rfl
theorem q514 : (Jvm.Cond.instanceMethod ({ cls := "StrengthenFirst$Shelf", name := "holdsRule", desc := "()Z" } : Jvm.MethodName)) ∈ lw_all := lw_g (lw_at lw_m2 190 rfl) rfl
theorem q515 : (Jvm.Cond.selects "StrengthenFirst$Shelf" ({ cls := "StrengthenFirst$Shelf", name := "holdsRule", desc := "()Z" } : Jvm.MethodName) ({ cls := "StrengthenFirst$Shelf", name := "holdsRule", desc := "()Z" } : Jvm.MethodName)) ∈ lw_all := lw_g (lw_at lw_m2 191 rfl) rfl
theorem q516 : (Jvm.Cond.code ({ cls := "StrengthenFirst$Shelf", name := "holdsRule", desc := "()Z" } : Jvm.MethodName) prog_17_method_4_code (1 : Nat) (Option.some Jvm.ClassFile.FieldType.boolean)) ∈ lw_all := lw_g (lw_at lw_m2 192 rfl) rfl
theorem q517 : (Jvm.Cond.classLink "StrengthenFirst$Shelf" (28 : Nat) "StrengthenFirst$Rule") ∈ lw_all := lw_g (lw_at lw_m2 193 rfl) rfl
theorem q518 : (Jvm.Cond.methodLink "StrengthenFirst" (155 : Nat) ({ cls := "StrengthenFirst$Row", name := "sort", desc := "()I" } : Jvm.MethodName)) ∈ lw_all := lw_g (lw_at lw_m2 194 rfl) rfl
theorem q519 : (Jvm.Cond.declares ({ cls := "StrengthenFirst$Row", name := "sort", desc := "()I" } : Jvm.MethodName)) ∈ lw_tbl := lw_at lw_m2 195 rfl
theorem q520 : (Jvm.Cond.sameMethod "StrengthenFirst$Row" "StrengthenFirst$Row" "sort" "()I") ∈ lw_all := lw_g (lw_at lw_m2 196 rfl) rfl
theorem q521 : (Jvm.Cond.selects "StrengthenFirst$Bytes" ({ cls := "StrengthenFirst$Row", name := "sort", desc := "()I" } : Jvm.MethodName) ({ cls := "StrengthenFirst$Bytes", name := "sort", desc := "()I" } : Jvm.MethodName)) ∈ lw_all := lw_g (lw_at lw_m2 197 rfl) rfl
theorem q522 : (Jvm.Cond.instanceMethod ({ cls := "StrengthenFirst$Bytes", name := "sort", desc := "()I" } : Jvm.MethodName)) ∈ lw_all := lw_g (lw_at lw_m2 198 rfl) rfl
theorem q523 : (Jvm.Cond.code ({ cls := "StrengthenFirst$Bytes", name := "sort", desc := "()I" } : Jvm.MethodName) prog_3_method_2_code (1 : Nat) (Option.some Jvm.ClassFile.FieldType.int)) ∈ lw_all := lw_g (lw_at lw_m2 199 rfl) rfl
theorem q524 : (Jvm.Cond.selects "StrengthenFirst$Ints" ({ cls := "StrengthenFirst$Row", name := "sort", desc := "()I" } : Jvm.MethodName) ({ cls := "StrengthenFirst$Ints", name := "sort", desc := "()I" } : Jvm.MethodName)) ∈ lw_all := lw_g (lw_at lw_m2 200 rfl) rfl
theorem q525 : (Jvm.Cond.instanceMethod ({ cls := "StrengthenFirst$Ints", name := "sort", desc := "()I" } : Jvm.MethodName)) ∈ lw_all := lw_g (lw_at lw_m2 201 rfl) rfl
theorem q526 : (Jvm.Cond.code ({ cls := "StrengthenFirst$Ints", name := "sort", desc := "()I" } : Jvm.MethodName) prog_7_method_2_code (1 : Nat) (Option.some Jvm.ClassFile.FieldType.int)) ∈ lw_all := lw_g (lw_at lw_m2 202 rfl) rfl
theorem q527 : (Jvm.Cond.selects "StrengthenFirst$Longs" ({ cls := "StrengthenFirst$Row", name := "sort", desc := "()I" } : Jvm.MethodName) ({ cls := "StrengthenFirst$Longs", name := "sort", desc := "()I" } : Jvm.MethodName)) ∈ lw_all := lw_g (lw_at lw_m2 203 rfl) rfl
theorem q528 : (Jvm.Cond.instanceMethod ({ cls := "StrengthenFirst$Longs", name := "sort", desc := "()I" } : Jvm.MethodName)) ∈ lw_all := lw_g (lw_at lw_m2 204 rfl) rfl
theorem q529 : (Jvm.Cond.code ({ cls := "StrengthenFirst$Longs", name := "sort", desc := "()I" } : Jvm.MethodName) prog_8_method_2_code (1 : Nat) (Option.some Jvm.ClassFile.FieldType.int)) ∈ lw_all := lw_g (lw_at lw_m2 205 rfl) rfl
theorem q530 : (Jvm.Cond.selects "StrengthenFirst$Shorts" ({ cls := "StrengthenFirst$Row", name := "sort", desc := "()I" } : Jvm.MethodName) ({ cls := "StrengthenFirst$Shorts", name := "sort", desc := "()I" } : Jvm.MethodName)) ∈ lw_all := lw_g (lw_at lw_m2 206 rfl) rfl
theorem q531 : (Jvm.Cond.instanceMethod ({ cls := "StrengthenFirst$Shorts", name := "sort", desc := "()I" } : Jvm.MethodName)) ∈ lw_all := lw_g (lw_at lw_m2 207 rfl) rfl
theorem q532 : (Jvm.Cond.code ({ cls := "StrengthenFirst$Shorts", name := "sort", desc := "()I" } : Jvm.MethodName) prog_18_method_2_code (1 : Nat) (Option.some Jvm.ClassFile.FieldType.int)) ∈ lw_all := lw_g (lw_at lw_m2 208 rfl) rfl
theorem q533 : (Jvm.Cond.methodLink "StrengthenFirst" (7 : Nat) ({ cls := "StrengthenFirst$Row", name := "held", desc := "()Ljava/lang/Object;" } : Jvm.MethodName)) ∈ lw_all := lw_g (lw_at lw_m2 209 rfl) rfl
theorem q534 : (Jvm.Cond.declares ({ cls := "StrengthenFirst$Row", name := "held", desc := "()Ljava/lang/Object;" } : Jvm.MethodName)) ∈ lw_tbl := lw_at lw_m2 210 rfl
theorem q535 : (Jvm.Cond.sameMethod "StrengthenFirst$Row" "StrengthenFirst$Row" "held" "()Ljava/lang/Object;") ∈ lw_all := lw_g (lw_at lw_m2 211 rfl) rfl
theorem q536 : (Jvm.Cond.selects "StrengthenFirst$Bytes" ({ cls := "StrengthenFirst$Row", name := "held", desc := "()Ljava/lang/Object;" } : Jvm.MethodName) ({ cls := "StrengthenFirst$Bytes", name := "held", desc := "()Ljava/lang/Object;" } : Jvm.MethodName)) ∈ lw_all := lw_g (lw_at lw_m2 212 rfl) rfl
theorem q537 : (Jvm.Cond.instanceMethod ({ cls := "StrengthenFirst$Bytes", name := "held", desc := "()Ljava/lang/Object;" } : Jvm.MethodName)) ∈ lw_all := lw_g (lw_at lw_m2 213 rfl) rfl
theorem q538 : (Jvm.Cond.code ({ cls := "StrengthenFirst$Bytes", name := "held", desc := "()Ljava/lang/Object;" } : Jvm.MethodName) prog_3_method_8_code (1 : Nat) (Option.some (Jvm.ClassFile.FieldType.object "java/lang/Object"))) ∈ lw_all := lw_g (lw_at lw_m2 214 rfl) rfl
theorem q539 : (Jvm.Cond.selects "StrengthenFirst$Ints" ({ cls := "StrengthenFirst$Row", name := "held", desc := "()Ljava/lang/Object;" } : Jvm.MethodName) ({ cls := "StrengthenFirst$Ints", name := "held", desc := "()Ljava/lang/Object;" } : Jvm.MethodName)) ∈ lw_all := lw_g (lw_at lw_m2 215 rfl) rfl
theorem q540 : (Jvm.Cond.instanceMethod ({ cls := "StrengthenFirst$Ints", name := "held", desc := "()Ljava/lang/Object;" } : Jvm.MethodName)) ∈ lw_all := lw_g (lw_at lw_m2 216 rfl) rfl
theorem q541 : (Jvm.Cond.code ({ cls := "StrengthenFirst$Ints", name := "held", desc := "()Ljava/lang/Object;" } : Jvm.MethodName) prog_7_method_8_code (1 : Nat) (Option.some (Jvm.ClassFile.FieldType.object "java/lang/Object"))) ∈ lw_all := lw_g (lw_at lw_m2 217 rfl) rfl
theorem q542 : (Jvm.Cond.selects "StrengthenFirst$Longs" ({ cls := "StrengthenFirst$Row", name := "held", desc := "()Ljava/lang/Object;" } : Jvm.MethodName) ({ cls := "StrengthenFirst$Longs", name := "held", desc := "()Ljava/lang/Object;" } : Jvm.MethodName)) ∈ lw_all := lw_g (lw_at lw_m2 218 rfl) rfl
theorem q543 : (Jvm.Cond.instanceMethod ({ cls := "StrengthenFirst$Longs", name := "held", desc := "()Ljava/lang/Object;" } : Jvm.MethodName)) ∈ lw_all := lw_g (lw_at lw_m2 219 rfl) rfl
theorem q544 : (Jvm.Cond.code ({ cls := "StrengthenFirst$Longs", name := "held", desc := "()Ljava/lang/Object;" } : Jvm.MethodName) prog_8_method_8_code (1 : Nat) (Option.some (Jvm.ClassFile.FieldType.object "java/lang/Object"))) ∈ lw_all := lw_g (lw_at lw_m2 220 rfl) rfl
theorem q545 : (Jvm.Cond.selects "StrengthenFirst$Shorts" ({ cls := "StrengthenFirst$Row", name := "held", desc := "()Ljava/lang/Object;" } : Jvm.MethodName) ({ cls := "StrengthenFirst$Shorts", name := "held", desc := "()Ljava/lang/Object;" } : Jvm.MethodName)) ∈ lw_all := lw_g (lw_at lw_m2 221 rfl) rfl
theorem q546 : (Jvm.Cond.instanceMethod ({ cls := "StrengthenFirst$Shorts", name := "held", desc := "()Ljava/lang/Object;" } : Jvm.MethodName)) ∈ lw_all := lw_g (lw_at lw_m2 222 rfl) rfl
theorem q547 : (Jvm.Cond.code ({ cls := "StrengthenFirst$Shorts", name := "held", desc := "()Ljava/lang/Object;" } : Jvm.MethodName) prog_18_method_8_code (1 : Nat) (Option.some (Jvm.ClassFile.FieldType.object "java/lang/Object"))) ∈ lw_all := lw_g (lw_at lw_m2 223 rfl) rfl
theorem q548 : (Jvm.Cond.methodLink "StrengthenFirst" (15 : Nat) ({ cls := "java/lang/System", name := "arraycopy", desc := "(Ljava/lang/Object;ILjava/lang/Object;II)V" } : Jvm.MethodName)) ∈ lw_all := lw_g (lw_at lw_m2 224 rfl) rfl
theorem q549 : (Jvm.Cond.static ({ cls := "java/lang/System", name := "arraycopy", desc := "(Ljava/lang/Object;ILjava/lang/Object;II)V" } : Jvm.MethodName)) ∈ lw_all := lw_g (lw_at lw_m2 225 rfl) rfl
theorem q550 : (Jvm.Cond.native ({ cls := "java/lang/System", name := "arraycopy", desc := "(Ljava/lang/Object;ILjava/lang/Object;II)V" } : Jvm.MethodName)) ∈ lw_all := lw_g (lw_at lw_m2 226 rfl) rfl
theorem q551 : (Jvm.Cond.methodLink "StrengthenFirstLaw" (30 : Nat) ({ cls := "StrengthenFirst", name := "element", desc := "(II)J" } : Jvm.MethodName)) ∈ lw_all := lw_g (lw_at lw_m2 227 rfl) rfl
theorem q552 : (Jvm.Cond.instanceMethod ({ cls := "StrengthenFirst", name := "element", desc := "(II)J" } : Jvm.MethodName)) ∈ lw_all := lw_g (lw_at lw_m2 228 rfl) rfl
theorem q553 : (Jvm.Cond.selects "StrengthenFirst" ({ cls := "StrengthenFirst", name := "element", desc := "(II)J" } : Jvm.MethodName) ({ cls := "StrengthenFirst", name := "element", desc := "(II)J" } : Jvm.MethodName)) ∈ lw_all := lw_g (lw_at lw_m2 229 rfl) rfl
theorem q554 : (Jvm.Cond.codeWith ({ cls := "StrengthenFirst", name := "element", desc := "(II)J" } : Jvm.MethodName) prog_1_method_18_code (4 : Nat) (Option.some Jvm.ClassFile.FieldType.long) [((0 : Nat), (12 : Nat), (13 : Nat), (21 : Nat)), ((0 : Nat), (12 : Nat), (16 : Nat), (73 : Nat))]) ∈ lw_all := lw_g (lw_at lw_m2 230 rfl) rfl
theorem q555 : (Jvm.Cond.methodLink "StrengthenFirst" (160 : Nat) ({ cls := "StrengthenFirst$Row", name := "get", desc := "(I)J" } : Jvm.MethodName)) ∈ lw_all := lw_g (lw_at lw_m2 231 rfl) rfl
theorem q556 : (Jvm.Cond.declares ({ cls := "StrengthenFirst$Row", name := "get", desc := "(I)J" } : Jvm.MethodName)) ∈ lw_tbl := lw_at lw_m2 232 rfl
theorem q557 : (Jvm.Cond.sameMethod "StrengthenFirst$Row" "StrengthenFirst$Row" "get" "(I)J") ∈ lw_all := lw_g (lw_at lw_m2 233 rfl) rfl
theorem q558 : (Jvm.Cond.selects "StrengthenFirst$Bytes" ({ cls := "StrengthenFirst$Row", name := "get", desc := "(I)J" } : Jvm.MethodName) ({ cls := "StrengthenFirst$Bytes", name := "get", desc := "(I)J" } : Jvm.MethodName)) ∈ lw_all := lw_g (lw_at lw_m2 234 rfl) rfl
theorem q559 : (Jvm.Cond.instanceMethod ({ cls := "StrengthenFirst$Bytes", name := "get", desc := "(I)J" } : Jvm.MethodName)) ∈ lw_all := lw_g (lw_at lw_m2 235 rfl) rfl
theorem q560 : (Jvm.Cond.code ({ cls := "StrengthenFirst$Bytes", name := "get", desc := "(I)J" } : Jvm.MethodName) prog_3_method_5_code (2 : Nat) (Option.some Jvm.ClassFile.FieldType.long)) ∈ lw_all := lw_g (lw_at lw_m2 236 rfl) rfl
theorem q561 : (Jvm.Cond.selects "StrengthenFirst$Ints" ({ cls := "StrengthenFirst$Row", name := "get", desc := "(I)J" } : Jvm.MethodName) ({ cls := "StrengthenFirst$Ints", name := "get", desc := "(I)J" } : Jvm.MethodName)) ∈ lw_all := lw_g (lw_at lw_m2 237 rfl) rfl
theorem q562 : (Jvm.Cond.instanceMethod ({ cls := "StrengthenFirst$Ints", name := "get", desc := "(I)J" } : Jvm.MethodName)) ∈ lw_all := lw_g (lw_at lw_m2 238 rfl) rfl
theorem q563 : (Jvm.Cond.code ({ cls := "StrengthenFirst$Ints", name := "get", desc := "(I)J" } : Jvm.MethodName) prog_7_method_5_code (2 : Nat) (Option.some Jvm.ClassFile.FieldType.long)) ∈ lw_all := lw_g (lw_at lw_m2 239 rfl) rfl
theorem q564 : (Jvm.Cond.selects "StrengthenFirst$Longs" ({ cls := "StrengthenFirst$Row", name := "get", desc := "(I)J" } : Jvm.MethodName) ({ cls := "StrengthenFirst$Longs", name := "get", desc := "(I)J" } : Jvm.MethodName)) ∈ lw_all := lw_g (lw_at lw_m3 0 rfl) rfl
theorem q565 : (Jvm.Cond.instanceMethod ({ cls := "StrengthenFirst$Longs", name := "get", desc := "(I)J" } : Jvm.MethodName)) ∈ lw_all := lw_g (lw_at lw_m3 1 rfl) rfl
theorem q566 : (Jvm.Cond.code ({ cls := "StrengthenFirst$Longs", name := "get", desc := "(I)J" } : Jvm.MethodName) prog_8_method_5_code (2 : Nat) (Option.some Jvm.ClassFile.FieldType.long)) ∈ lw_all := lw_g (lw_at lw_m3 2 rfl) rfl
theorem q567 : (Jvm.Cond.selects "StrengthenFirst$Shorts" ({ cls := "StrengthenFirst$Row", name := "get", desc := "(I)J" } : Jvm.MethodName) ({ cls := "StrengthenFirst$Shorts", name := "get", desc := "(I)J" } : Jvm.MethodName)) ∈ lw_all := lw_g (lw_at lw_m3 3 rfl) rfl
theorem q568 : (Jvm.Cond.instanceMethod ({ cls := "StrengthenFirst$Shorts", name := "get", desc := "(I)J" } : Jvm.MethodName)) ∈ lw_all := lw_g (lw_at lw_m3 4 rfl) rfl
theorem q569 : (Jvm.Cond.code ({ cls := "StrengthenFirst$Shorts", name := "get", desc := "(I)J" } : Jvm.MethodName) prog_18_method_5_code (2 : Nat) (Option.some Jvm.ClassFile.FieldType.long)) ∈ lw_all := lw_g (lw_at lw_m3 5 rfl) rfl
theorem q570 : (Jvm.Cond.methodLink "StrengthenFirstLaw" (35 : Nat) ({ cls := "StrengthenFirst", name := "rule", desc := "(III)I" } : Jvm.MethodName)) ∈ lw_all := lw_g (lw_at lw_m3 6 rfl) rfl
theorem q571 : (Jvm.Cond.instanceMethod ({ cls := "StrengthenFirst", name := "rule", desc := "(III)I" } : Jvm.MethodName)) ∈ lw_all := lw_g (lw_at lw_m3 7 rfl) rfl
theorem q572 : (Jvm.Cond.selects "StrengthenFirst" ({ cls := "StrengthenFirst", name := "rule", desc := "(III)I" } : Jvm.MethodName) ({ cls := "StrengthenFirst", name := "rule", desc := "(III)I" } : Jvm.MethodName)) ∈ lw_all := lw_g (lw_at lw_m3 8 rfl) rfl
theorem q573 : (Jvm.Cond.codeWith ({ cls := "StrengthenFirst", name := "rule", desc := "(III)I" } : Jvm.MethodName) prog_1_method_20_code (5 : Nat) (Option.some Jvm.ClassFile.FieldType.int) [((0 : Nat), (19 : Nat), (75 : Nat), (21 : Nat)), ((20 : Nat), (74 : Nat), (75 : Nat), (21 : Nat))]) ∈ lw_all := lw_g (lw_at lw_m3 9 rfl) rfl
theorem q574 : (Jvm.Cond.constantLong "StrengthenFirst" (193 : Nat) (6 : Int64)) ∈ lw_all := lw_g (lw_at lw_m3 10 rfl) rfl
theorem q575 : (Jvm.Cond.constantLong "StrengthenFirst" (195 : Nat) (99 : Int64)) ∈ lw_all := lw_g (lw_at lw_m3 11 rfl) rfl
theorem q576 : (Jvm.Cond.methodLink "StrengthenFirst" (197 : Nat) ({ cls := "StrengthenFirst", name := "newRule", desc := "(III)LStrengthenFirst$Rule;" } : Jvm.MethodName)) ∈ lw_all := lw_g (lw_at lw_m3 12 rfl) rfl
theorem q577 : (Jvm.Cond.privateMethod ({ cls := "StrengthenFirst", name := "newRule", desc := "(III)LStrengthenFirst$Rule;" } : Jvm.MethodName)) ∈ lw_tbl := lw_at lw_m3 13 rfl
theorem q578 : (Jvm.Cond.instanceMethod ({ cls := "StrengthenFirst", name := "newRule", desc := "(III)LStrengthenFirst$Rule;" } : Jvm.MethodName)) ∈ lw_all := lw_g (lw_at lw_m3 14 rfl) rfl
theorem q579 : (Jvm.Cond.code ({ cls := "StrengthenFirst", name := "newRule", desc := "(III)LStrengthenFirst$Rule;" } : Jvm.MethodName) prog_1_method_19_code (7 : Nat) (Option.some (Jvm.ClassFile.FieldType.object "StrengthenFirst$Rule"))) ∈ lw_all := lw_g (lw_at lw_m3 15 rfl) rfl
theorem q580 : (Jvm.Cond.classLink "StrengthenFirst" (164 : Nat) "StrengthenFirst$Full") ∈ lw_all := lw_g (lw_at lw_m3 16 rfl) rfl
theorem q581 : (Jvm.Cond.instantiable "StrengthenFirst$Full" (2 : Nat)) ∈ lw_all := lw_g (lw_at lw_m3 17 rfl) rfl
theorem q582 : (Jvm.Cond.methodLink "StrengthenFirst" (166 : Nat) ({ cls := "StrengthenFirst$Full", name := "<init>", desc := "(II)V" } : Jvm.MethodName)) ∈ lw_all := lw_g (lw_at lw_m3 18 rfl) rfl
theorem q583 : (Jvm.Cond.instanceMethod ({ cls := "StrengthenFirst$Full", name := "<init>", desc := "(II)V" } : Jvm.MethodName)) ∈ lw_all := lw_g (lw_at lw_m3 19 rfl) rfl
theorem q584 : (Jvm.Cond.code ({ cls := "StrengthenFirst$Full", name := "<init>", desc := "(II)V" } : Jvm.MethodName) prog_5_method_1_code (3 : Nat) (Option.none : Option Jvm.ClassFile.FieldType)) ∈ lw_all := lw_g (lw_at lw_m3 20 rfl) rfl
theorem q585 : (Jvm.Cond.methodLink "StrengthenFirst$Full" (3 : Nat) ({ cls := "StrengthenFirst$Rule", name := "<init>", desc := "(II)V" } : Jvm.MethodName)) ∈ lw_all := lw_g (lw_at lw_m3 21 rfl) rfl
theorem q586 : (Jvm.Cond.instanceMethod ({ cls := "StrengthenFirst$Rule", name := "<init>", desc := "(II)V" } : Jvm.MethodName)) ∈ lw_all := lw_g (lw_at lw_m3 22 rfl) rfl
theorem q587 : (Jvm.Cond.code ({ cls := "StrengthenFirst$Rule", name := "<init>", desc := "(II)V" } : Jvm.MethodName) prog_15_method_1_code (3 : Nat) (Option.none : Option Jvm.ClassFile.FieldType)) ∈ lw_all := lw_g (lw_at lw_m3 23 rfl) rfl
theorem q588 : (Jvm.Cond.methodLink "StrengthenFirst$Rule" (3 : Nat) ({ cls := "java/lang/Object", name := "<init>", desc := "()V" } : Jvm.MethodName)) ∈ lw_all := lw_g (lw_at lw_m3 24 rfl) rfl
theorem q589 : (Jvm.Cond.fieldLink "StrengthenFirst$Rule" (9 : Nat) "StrengthenFirst$Rule" "shelf" "I") ∈ lw_all := lw_g (lw_at lw_m3 25 rfl) rfl
theorem q590 : (Jvm.Cond.fieldLink "StrengthenFirst$Street" (32 : Nat) "StrengthenFirst$Street" "shelf" "I") ∈ lw_all := lw_g (lw_at lw_m3 26 rfl) rfl
theorem q591 : (Jvm.Cond.sameField "StrengthenFirst$Street" "StrengthenFirst$Rule" "shelf" "I") ∈ lw_all := lw_g (lw_at lw_m3 27 rfl) rfl
theorem q592 : (Jvm.Cond.fieldLink "StrengthenFirst$Rule" (15 : Nat) "StrengthenFirst$Rule" "by" "I") ∈ lw_all := lw_g (lw_at lw_m3 28 rfl) rfl
theorem q593 : (Jvm.Cond.fieldLink "StrengthenFirst$Full" (25 : Nat) "StrengthenFirst$Full" "by" "I") ∈ lw_all := lw_g (lw_at lw_m3 29 rfl) rfl
theorem q594 : (Jvm.Cond.sameField "StrengthenFirst$Full" "StrengthenFirst$Rule" "by" "I") ∈ lw_all := lw_g (lw_at lw_m3 30 rfl) rfl
theorem q595 : (Jvm.Cond.fieldLink "StrengthenFirst$Saves" (62 : Nat) "StrengthenFirst$Saves" "by" "I") ∈ lw_all := lw_g (lw_at lw_m3 31 rfl) rfl
theorem q596 : (Jvm.Cond.sameField "StrengthenFirst$Saves" "StrengthenFirst$Rule" "by" "I") ∈ lw_all := lw_g (lw_at lw_m3 32 rfl) rfl
theorem q597 : (Jvm.Cond.fieldLink "StrengthenFirst$Told" (61 : Nat) "StrengthenFirst$Told" "by" "I") ∈ lw_all := lw_g (lw_at lw_m3 33 rfl) rfl
theorem q598 : (Jvm.Cond.sameField "StrengthenFirst$Told" "StrengthenFirst$Rule" "by" "I") ∈ lw_all := lw_g (lw_at lw_m3 34 rfl) rfl
theorem q599 : (Jvm.Cond.laysFinal "StrengthenFirst$Full" "StrengthenFirst$Rule" "shelf" "I") ∈ lw_all := lw_g (lw_at lw_m3 35 rfl) rfl
theorem q600 : (Jvm.Cond.soleField "StrengthenFirst$Rule" "shelf") ∈ lw_all := lw_g (lw_at lw_m3 36 rfl) rfl
theorem q601 : (Jvm.Cond.laysFinal "StrengthenFirst$Full" "StrengthenFirst$Rule" "by" "I") ∈ lw_all := lw_g (lw_at lw_m3 37 rfl) rfl
theorem q602 : (Jvm.Cond.soleField "StrengthenFirst$Rule" "by") ∈ lw_all := lw_g (lw_at lw_m3 38 rfl) rfl
theorem q603 : (Jvm.Cond.superclass "StrengthenFirst$Full" "StrengthenFirst$Rule") ∈ lw_all := lw_g (lw_at lw_m3 39 rfl) rfl
theorem q604 : (Jvm.Cond.classLink "StrengthenFirst" (169 : Nat) "StrengthenFirst$Weak") ∈ lw_all := lw_g (lw_at lw_m3 40 rfl) rfl
theorem q605 : (Jvm.Cond.instantiable "StrengthenFirst$Weak" (2 : Nat)) ∈ lw_all := lw_g (lw_at lw_m3 41 rfl) rfl
theorem q606 : (Jvm.Cond.methodLink "StrengthenFirst" (171 : Nat) ({ cls := "StrengthenFirst$Weak", name := "<init>", desc := "(II)V" } : Jvm.MethodName)) ∈ lw_all := lw_g (lw_at lw_m3 42 rfl) rfl
theorem q607 : (Jvm.Cond.instanceMethod ({ cls := "StrengthenFirst$Weak", name := "<init>", desc := "(II)V" } : Jvm.MethodName)) ∈ lw_all := lw_g (lw_at lw_m3 43 rfl) rfl
theorem q608 : (Jvm.Cond.code ({ cls := "StrengthenFirst$Weak", name := "<init>", desc := "(II)V" } : Jvm.MethodName) prog_24_method_1_code (3 : Nat) (Option.none : Option Jvm.ClassFile.FieldType)) ∈ lw_all := lw_g (lw_at lw_m3 44 rfl) rfl
theorem q609 : (Jvm.Cond.methodLink "StrengthenFirst$Weak" (3 : Nat) ({ cls := "StrengthenFirst$Rule", name := "<init>", desc := "(II)V" } : Jvm.MethodName)) ∈ lw_all := lw_g (lw_at lw_m3 45 rfl) rfl
theorem q610 : (Jvm.Cond.laysFinal "StrengthenFirst$Weak" "StrengthenFirst$Rule" "shelf" "I") ∈ lw_all := lw_g (lw_at lw_m3 46 rfl) rfl
theorem q611 : (Jvm.Cond.laysFinal "StrengthenFirst$Weak" "StrengthenFirst$Rule" "by" "I") ∈ lw_all := lw_g (lw_at lw_m3 47 rfl) rfl
theorem q612 : (Jvm.Cond.superclass "StrengthenFirst$Weak" "StrengthenFirst$Rule") ∈ lw_all := lw_g (lw_at lw_m3 48 rfl) rfl
theorem q613 : (Jvm.Cond.classLink "StrengthenFirst" (172 : Nat) "StrengthenFirst$Street") ∈ lw_all := lw_g (lw_at lw_m3 49 rfl) rfl
theorem q614 : (Jvm.Cond.instantiable "StrengthenFirst$Street" (2 : Nat)) ∈ lw_all := lw_g (lw_at lw_m3 50 rfl) rfl
theorem q615 : (Jvm.Cond.methodLink "StrengthenFirst" (174 : Nat) ({ cls := "StrengthenFirst$Street", name := "<init>", desc := "(II)V" } : Jvm.MethodName)) ∈ lw_all := lw_g (lw_at lw_m3 51 rfl) rfl
theorem q616 : (Jvm.Cond.instanceMethod ({ cls := "StrengthenFirst$Street", name := "<init>", desc := "(II)V" } : Jvm.MethodName)) ∈ lw_all := lw_g (lw_at lw_m3 52 rfl) rfl
theorem q617 : (Jvm.Cond.code ({ cls := "StrengthenFirst$Street", name := "<init>", desc := "(II)V" } : Jvm.MethodName) prog_19_method_1_code (3 : Nat) (Option.none : Option Jvm.ClassFile.FieldType)) ∈ lw_all := lw_g (lw_at lw_m3 53 rfl) rfl
theorem q618 : (Jvm.Cond.methodLink "StrengthenFirst$Street" (3 : Nat) ({ cls := "StrengthenFirst$Full", name := "<init>", desc := "(II)V" } : Jvm.MethodName)) ∈ lw_all := lw_g (lw_at lw_m3 54 rfl) rfl
theorem q619 : (Jvm.Cond.laysFinal "StrengthenFirst$Street" "StrengthenFirst$Rule" "shelf" "I") ∈ lw_all := lw_g (lw_at lw_m3 55 rfl) rfl
theorem q620 : (Jvm.Cond.laysFinal "StrengthenFirst$Street" "StrengthenFirst$Rule" "by" "I") ∈ lw_all := lw_g (lw_at lw_m3 56 rfl) rfl
theorem q621 : (Jvm.Cond.superclass "StrengthenFirst$Street" "StrengthenFirst$Full") ∈ lw_all := lw_g (lw_at lw_m3 57 rfl) rfl
theorem q622 : (Jvm.Cond.classLink "StrengthenFirst" (175 : Nat) "StrengthenFirst$Saves") ∈ lw_all := lw_g (lw_at lw_m3 58 rfl) rfl
theorem q623 : (Jvm.Cond.instantiable "StrengthenFirst$Saves" (2 : Nat)) ∈ lw_all := lw_g (lw_at lw_m3 59 rfl) rfl
theorem q624 : (Jvm.Cond.methodLink "StrengthenFirst" (177 : Nat) ({ cls := "StrengthenFirst$Saves", name := "<init>", desc := "(II)V" } : Jvm.MethodName)) ∈ lw_all := lw_g (lw_at lw_m3 60 rfl) rfl
theorem q625 : (Jvm.Cond.instanceMethod ({ cls := "StrengthenFirst$Saves", name := "<init>", desc := "(II)V" } : Jvm.MethodName)) ∈ lw_all := lw_g (lw_at lw_m3 61 rfl) rfl
theorem q626 : (Jvm.Cond.code ({ cls := "StrengthenFirst$Saves", name := "<init>", desc := "(II)V" } : Jvm.MethodName) prog_16_method_1_code (3 : Nat) (Option.none : Option Jvm.ClassFile.FieldType)) ∈ lw_all := lw_g (lw_at lw_m3 62 rfl) rfl
theorem q627 : (Jvm.Cond.methodLink "StrengthenFirst$Saves" (3 : Nat) ({ cls := "StrengthenFirst$Rule", name := "<init>", desc := "(II)V" } : Jvm.MethodName)) ∈ lw_all := lw_g (lw_at lw_m3 63 rfl) rfl
theorem q628 : (Jvm.Cond.laysFinal "StrengthenFirst$Saves" "StrengthenFirst$Rule" "shelf" "I") ∈ lw_all := lw_g (lw_at lw_m3 64 rfl) rfl
theorem q629 : (Jvm.Cond.laysFinal "StrengthenFirst$Saves" "StrengthenFirst$Rule" "by" "I") ∈ lw_all := lw_g (lw_at lw_m3 65 rfl) rfl
theorem q630 : (Jvm.Cond.superclass "StrengthenFirst$Saves" "StrengthenFirst$Rule") ∈ lw_all := lw_g (lw_at lw_m3 66 rfl) rfl
theorem q631 : (Jvm.Cond.classLink "StrengthenFirst" (178 : Nat) "StrengthenFirst$Prop") ∈ lw_all := lw_g (lw_at lw_m3 67 rfl) rfl
theorem q632 : (Jvm.Cond.instantiable "StrengthenFirst$Prop" (2 : Nat)) ∈ lw_all := lw_g (lw_at lw_m3 68 rfl) rfl
theorem q633 : (Jvm.Cond.methodLink "StrengthenFirst" (180 : Nat) ({ cls := "StrengthenFirst$Prop", name := "<init>", desc := "(II)V" } : Jvm.MethodName)) ∈ lw_all := lw_g (lw_at lw_m3 69 rfl) rfl
theorem q634 : (Jvm.Cond.instanceMethod ({ cls := "StrengthenFirst$Prop", name := "<init>", desc := "(II)V" } : Jvm.MethodName)) ∈ lw_all := lw_g (lw_at lw_m3 70 rfl) rfl
theorem q635 : (Jvm.Cond.code ({ cls := "StrengthenFirst$Prop", name := "<init>", desc := "(II)V" } : Jvm.MethodName) prog_11_method_1_code (3 : Nat) (Option.none : Option Jvm.ClassFile.FieldType)) ∈ lw_all := lw_g (lw_at lw_m3 71 rfl) rfl
theorem q636 : (Jvm.Cond.methodLink "StrengthenFirst$Prop" (3 : Nat) ({ cls := "StrengthenFirst$Weak", name := "<init>", desc := "(II)V" } : Jvm.MethodName)) ∈ lw_all := lw_g (lw_at lw_m3 72 rfl) rfl
theorem q637 : (Jvm.Cond.laysFinal "StrengthenFirst$Prop" "StrengthenFirst$Rule" "shelf" "I") ∈ lw_all := lw_g (lw_at lw_m3 73 rfl) rfl
theorem q638 : (Jvm.Cond.laysFinal "StrengthenFirst$Prop" "StrengthenFirst$Rule" "by" "I") ∈ lw_all := lw_g (lw_at lw_m3 74 rfl) rfl
theorem q639 : (Jvm.Cond.superclass "StrengthenFirst$Prop" "StrengthenFirst$Weak") ∈ lw_all := lw_g (lw_at lw_m3 75 rfl) rfl
theorem q640 : (Jvm.Cond.methodLink "StrengthenFirst" (11 : Nat) ({ cls := "StrengthenFirst$Row", name := "length", desc := "()I" } : Jvm.MethodName)) ∈ lw_all := lw_g (lw_at lw_m3 76 rfl) rfl
theorem q641 : (Jvm.Cond.declares ({ cls := "StrengthenFirst$Row", name := "length", desc := "()I" } : Jvm.MethodName)) ∈ lw_tbl := lw_at lw_m3 77 rfl
theorem q642 : (Jvm.Cond.sameMethod "StrengthenFirst$Row" "StrengthenFirst$Row" "length" "()I") ∈ lw_all := lw_g (lw_at lw_m3 78 rfl) rfl
theorem q643 : (Jvm.Cond.selects "StrengthenFirst$Bytes" ({ cls := "StrengthenFirst$Row", name := "length", desc := "()I" } : Jvm.MethodName) ({ cls := "StrengthenFirst$Bytes", name := "length", desc := "()I" } : Jvm.MethodName)) ∈ lw_all := lw_g (lw_at lw_m3 79 rfl) rfl
theorem q644 : (Jvm.Cond.instanceMethod ({ cls := "StrengthenFirst$Bytes", name := "length", desc := "()I" } : Jvm.MethodName)) ∈ lw_all := lw_g (lw_at lw_m3 80 rfl) rfl
theorem q645 : (Jvm.Cond.code ({ cls := "StrengthenFirst$Bytes", name := "length", desc := "()I" } : Jvm.MethodName) prog_3_method_3_code (1 : Nat) (Option.some Jvm.ClassFile.FieldType.int)) ∈ lw_all := lw_g (lw_at lw_m3 81 rfl) rfl
theorem q646 : (Jvm.Cond.selects "StrengthenFirst$Ints" ({ cls := "StrengthenFirst$Row", name := "length", desc := "()I" } : Jvm.MethodName) ({ cls := "StrengthenFirst$Ints", name := "length", desc := "()I" } : Jvm.MethodName)) ∈ lw_all := lw_g (lw_at lw_m3 82 rfl) rfl
theorem q647 : (Jvm.Cond.instanceMethod ({ cls := "StrengthenFirst$Ints", name := "length", desc := "()I" } : Jvm.MethodName)) ∈ lw_all := lw_g (lw_at lw_m3 83 rfl) rfl
theorem q648 : (Jvm.Cond.code ({ cls := "StrengthenFirst$Ints", name := "length", desc := "()I" } : Jvm.MethodName) prog_7_method_3_code (1 : Nat) (Option.some Jvm.ClassFile.FieldType.int)) ∈ lw_all := lw_g (lw_at lw_m3 84 rfl) rfl
theorem q649 : (Jvm.Cond.selects "StrengthenFirst$Longs" ({ cls := "StrengthenFirst$Row", name := "length", desc := "()I" } : Jvm.MethodName) ({ cls := "StrengthenFirst$Longs", name := "length", desc := "()I" } : Jvm.MethodName)) ∈ lw_all := lw_g (lw_at lw_m3 85 rfl) rfl
theorem q650 : (Jvm.Cond.instanceMethod ({ cls := "StrengthenFirst$Longs", name := "length", desc := "()I" } : Jvm.MethodName)) ∈ lw_all := lw_g (lw_at lw_m3 86 rfl) rfl
theorem q651 : (Jvm.Cond.code ({ cls := "StrengthenFirst$Longs", name := "length", desc := "()I" } : Jvm.MethodName) prog_8_method_3_code (1 : Nat) (Option.some Jvm.ClassFile.FieldType.int)) ∈ lw_all := lw_g (lw_at lw_m3 87 rfl) rfl
theorem q652 : (Jvm.Cond.selects "StrengthenFirst$Shorts" ({ cls := "StrengthenFirst$Row", name := "length", desc := "()I" } : Jvm.MethodName) ({ cls := "StrengthenFirst$Shorts", name := "length", desc := "()I" } : Jvm.MethodName)) ∈ lw_all := lw_g (lw_at lw_m3 88 rfl) rfl
theorem q653 : (Jvm.Cond.instanceMethod ({ cls := "StrengthenFirst$Shorts", name := "length", desc := "()I" } : Jvm.MethodName)) ∈ lw_all := lw_g (lw_at lw_m3 89 rfl) rfl
theorem q654 : (Jvm.Cond.code ({ cls := "StrengthenFirst$Shorts", name := "length", desc := "()I" } : Jvm.MethodName) prog_18_method_3_code (1 : Nat) (Option.some Jvm.ClassFile.FieldType.int)) ∈ lw_all := lw_g (lw_at lw_m3 90 rfl) rfl
theorem q655 : (Jvm.Cond.methodLink "StrengthenFirst" (181 : Nat) ({ cls := "StrengthenFirst$Row", name := "asInt", desc := "(I)I" } : Jvm.MethodName)) ∈ lw_all := lw_g (lw_at lw_m3 91 rfl) rfl
theorem q656 : (Jvm.Cond.instanceMethod ({ cls := "StrengthenFirst$Row", name := "asInt", desc := "(I)I" } : Jvm.MethodName)) ∈ lw_all := lw_g (lw_at lw_m3 92 rfl) rfl
theorem q657 : (Jvm.Cond.sameMethod "StrengthenFirst$Row" "StrengthenFirst$Row" "asInt" "(I)I") ∈ lw_all := lw_g (lw_at lw_m3 93 rfl) rfl
theorem q658 : (Jvm.Cond.selects "StrengthenFirst$Bytes" ({ cls := "StrengthenFirst$Row", name := "asInt", desc := "(I)I" } : Jvm.MethodName) ({ cls := "StrengthenFirst$Row", name := "asInt", desc := "(I)I" } : Jvm.MethodName)) ∈ lw_all := lw_g (lw_at lw_m3 94 rfl) rfl
theorem q659 : (Jvm.Cond.selects "StrengthenFirst$Ints" ({ cls := "StrengthenFirst$Row", name := "asInt", desc := "(I)I" } : Jvm.MethodName) ({ cls := "StrengthenFirst$Row", name := "asInt", desc := "(I)I" } : Jvm.MethodName)) ∈ lw_all := lw_g (lw_at lw_m3 95 rfl) rfl
theorem q660 : (Jvm.Cond.selects "StrengthenFirst$Longs" ({ cls := "StrengthenFirst$Row", name := "asInt", desc := "(I)I" } : Jvm.MethodName) ({ cls := "StrengthenFirst$Row", name := "asInt", desc := "(I)I" } : Jvm.MethodName)) ∈ lw_all := lw_g (lw_at lw_m3 96 rfl) rfl
theorem q661 : (Jvm.Cond.selects "StrengthenFirst$Shorts" ({ cls := "StrengthenFirst$Row", name := "asInt", desc := "(I)I" } : Jvm.MethodName) ({ cls := "StrengthenFirst$Row", name := "asInt", desc := "(I)I" } : Jvm.MethodName)) ∈ lw_all := lw_g (lw_at lw_m3 97 rfl) rfl
theorem q662 : (Jvm.Cond.code ({ cls := "StrengthenFirst$Row", name := "asInt", desc := "(I)I" } : Jvm.MethodName) prog_14_method_9_code (2 : Nat) (Option.some Jvm.ClassFile.FieldType.int)) ∈ lw_all := lw_g (lw_at lw_m3 98 rfl) rfl
theorem q663 : (Jvm.Cond.methodLink "StrengthenFirst$Row" (7 : Nat) ({ cls := "StrengthenFirst$Row", name := "get", desc := "(I)J" } : Jvm.MethodName)) ∈ lw_all := lw_g (lw_at lw_m3 99 rfl) rfl
theorem q664 : (Jvm.Cond.classLink "StrengthenFirst" (185 : Nat) "StrengthenFirst$Told") ∈ lw_all := lw_g (lw_at lw_m3 100 rfl) rfl
theorem q665 : (Jvm.Cond.instantiable "StrengthenFirst$Told" (3 : Nat)) ∈ lw_all := lw_g (lw_at lw_m3 101 rfl) rfl
theorem q666 : (Jvm.Cond.methodLink "StrengthenFirst" (187 : Nat) ({ cls := "StrengthenFirst$Told", name := "<init>", desc := "(II[I)V" } : Jvm.MethodName)) ∈ lw_all := lw_g (lw_at lw_m3 102 rfl) rfl
theorem q667 : (Jvm.Cond.instanceMethod ({ cls := "StrengthenFirst$Told", name := "<init>", desc := "(II[I)V" } : Jvm.MethodName)) ∈ lw_all := lw_g (lw_at lw_m3 103 rfl) rfl
theorem q668 : (Jvm.Cond.code ({ cls := "StrengthenFirst$Told", name := "<init>", desc := "(II[I)V" } : Jvm.MethodName) prog_21_method_1_code (4 : Nat) (Option.none : Option Jvm.ClassFile.FieldType)) ∈ lw_all := lw_g (lw_at lw_m3 104 rfl) rfl
theorem q669 : (Jvm.Cond.methodLink "StrengthenFirst$Told" (3 : Nat) ({ cls := "StrengthenFirst$Rule", name := "<init>", desc := "(II)V" } : Jvm.MethodName)) ∈ lw_all := lw_g (lw_at lw_m3 105 rfl) rfl
theorem q670 : (Jvm.Cond.fieldLink "StrengthenFirst$Told" (9 : Nat) "StrengthenFirst$Told" "row" "[I") ∈ lw_all := lw_g (lw_at lw_m3 106 rfl) rfl
theorem q671 : (Jvm.Cond.laysFinal "StrengthenFirst$Told" "StrengthenFirst$Told" "row" "[I") ∈ lw_all := lw_g (lw_at lw_m3 107 rfl) rfl
theorem q672 : (Jvm.Cond.soleField "StrengthenFirst$Told" "row") ∈ lw_all := lw_g (lw_at lw_m3 108 rfl) rfl
theorem q673 : (Jvm.Cond.laysFinal "StrengthenFirst$Told" "StrengthenFirst$Rule" "shelf" "I") ∈ lw_all := lw_g (lw_at lw_m3 109 rfl) rfl
theorem q674 : (Jvm.Cond.laysFinal "StrengthenFirst$Told" "StrengthenFirst$Rule" "by" "I") ∈ lw_all := lw_g (lw_at lw_m3 110 rfl) rfl
theorem q675 : (Jvm.Cond.superclass "StrengthenFirst$Told" "StrengthenFirst$Rule") ∈ lw_all := lw_g (lw_at lw_m3 111 rfl) rfl
theorem q676 : (Jvm.Cond.classLink "StrengthenFirst" (190 : Nat) "StrengthenFirst$Rule") ∈ lw_all := lw_g (lw_at lw_m3 112 rfl) rfl
theorem q677 : (Jvm.Cond.instantiable "StrengthenFirst$Rule" (2 : Nat)) ∈ lw_all := lw_g (lw_at lw_m3 113 rfl) rfl
theorem q678 : (Jvm.Cond.methodLink "StrengthenFirst" (192 : Nat) ({ cls := "StrengthenFirst$Rule", name := "<init>", desc := "(II)V" } : Jvm.MethodName)) ∈ lw_all := lw_g (lw_at lw_m3 114 rfl) rfl
theorem q679 : (Jvm.Cond.laysFinal "StrengthenFirst$Rule" "StrengthenFirst$Rule" "shelf" "I") ∈ lw_all := lw_g (lw_at lw_m3 115 rfl) rfl
theorem q680 : (Jvm.Cond.laysFinal "StrengthenFirst$Rule" "StrengthenFirst$Rule" "by" "I") ∈ lw_all := lw_g (lw_at lw_m3 116 rfl) rfl
theorem q681 : (Jvm.Cond.superclass "StrengthenFirst$Rule" "java/lang/Object") ∈ lw_all := lw_g (lw_at lw_m3 117 rfl) rfl
theorem q682 : (Jvm.Cond.methodLink "StrengthenFirstLaw" (39 : Nat) ({ cls := "StrengthenFirst", name := "holds", desc := "(I)I" } : Jvm.MethodName)) ∈ lw_all := lw_g (lw_at lw_m3 118 rfl) rfl
theorem q683 : (Jvm.Cond.instanceMethod ({ cls := "StrengthenFirst", name := "holds", desc := "(I)I" } : Jvm.MethodName)) ∈ lw_all := lw_g (lw_at lw_m3 119 rfl) rfl
theorem q684 : (Jvm.Cond.selects "StrengthenFirst" ({ cls := "StrengthenFirst", name := "holds", desc := "(I)I" } : Jvm.MethodName) ({ cls := "StrengthenFirst", name := "holds", desc := "(I)I" } : Jvm.MethodName)) ∈ lw_all := lw_g (lw_at lw_m3 120 rfl) rfl
theorem q685 : (Jvm.Cond.code ({ cls := "StrengthenFirst", name := "holds", desc := "(I)I" } : Jvm.MethodName) prog_1_method_21_code (3 : Nat) (Option.some Jvm.ClassFile.FieldType.int)) ∈ lw_all := lw_g (lw_at lw_m3 121 rfl) rfl
theorem q686 : (Jvm.Cond.methodLink "StrengthenFirst" (201 : Nat) ({ cls := "StrengthenFirst$Rule", name := "kind", desc := "()I" } : Jvm.MethodName)) ∈ lw_all := lw_g (lw_at lw_m3 122 rfl) rfl
theorem q687 : (Jvm.Cond.instanceMethod ({ cls := "StrengthenFirst$Rule", name := "kind", desc := "()I" } : Jvm.MethodName)) ∈ lw_all := lw_g (lw_at lw_m3 123 rfl) rfl
theorem q688 : (Jvm.Cond.selects "StrengthenFirst$Rule" ({ cls := "StrengthenFirst$Rule", name := "kind", desc := "()I" } : Jvm.MethodName) ({ cls := "StrengthenFirst$Rule", name := "kind", desc := "()I" } : Jvm.MethodName)) ∈ lw_all := lw_g (lw_at lw_m3 124 rfl) rfl
theorem q689 : (Jvm.Cond.sameMethod "StrengthenFirst$Rule" "StrengthenFirst$Rule" "kind" "()I") ∈ lw_all := lw_g (lw_at lw_m3 125 rfl) rfl
theorem q690 : (Jvm.Cond.selects "StrengthenFirst$Full" ({ cls := "StrengthenFirst$Rule", name := "kind", desc := "()I" } : Jvm.MethodName) ({ cls := "StrengthenFirst$Full", name := "kind", desc := "()I" } : Jvm.MethodName)) ∈ lw_all := lw_g (lw_at lw_m3 126 rfl) rfl
theorem q691 : (Jvm.Cond.instanceMethod ({ cls := "StrengthenFirst$Full", name := "kind", desc := "()I" } : Jvm.MethodName)) ∈ lw_all := lw_g (lw_at lw_m3 127 rfl) rfl
theorem q692 : (Jvm.Cond.code ({ cls := "StrengthenFirst$Full", name := "kind", desc := "()I" } : Jvm.MethodName) prog_5_method_2_code (1 : Nat) (Option.some Jvm.ClassFile.FieldType.int)) ∈ lw_all := lw_g (lw_at lw_m3 128 rfl) rfl
theorem q693 : (Jvm.Cond.selects "StrengthenFirst$Prop" ({ cls := "StrengthenFirst$Rule", name := "kind", desc := "()I" } : Jvm.MethodName) ({ cls := "StrengthenFirst$Prop", name := "kind", desc := "()I" } : Jvm.MethodName)) ∈ lw_all := lw_g (lw_at lw_m3 129 rfl) rfl
theorem q694 : (Jvm.Cond.instanceMethod ({ cls := "StrengthenFirst$Prop", name := "kind", desc := "()I" } : Jvm.MethodName)) ∈ lw_all := lw_g (lw_at lw_m3 130 rfl) rfl
theorem q695 : (Jvm.Cond.code ({ cls := "StrengthenFirst$Prop", name := "kind", desc := "()I" } : Jvm.MethodName) prog_11_method_2_code (1 : Nat) (Option.some Jvm.ClassFile.FieldType.int)) ∈ lw_all := lw_g (lw_at lw_m3 131 rfl) rfl
theorem q696 : (Jvm.Cond.selects "StrengthenFirst$Saves" ({ cls := "StrengthenFirst$Rule", name := "kind", desc := "()I" } : Jvm.MethodName) ({ cls := "StrengthenFirst$Saves", name := "kind", desc := "()I" } : Jvm.MethodName)) ∈ lw_all := lw_g (lw_at lw_m3 132 rfl) rfl
theorem q697 : (Jvm.Cond.instanceMethod ({ cls := "StrengthenFirst$Saves", name := "kind", desc := "()I" } : Jvm.MethodName)) ∈ lw_all := lw_g (lw_at lw_m3 133 rfl) rfl
theorem q698 : (Jvm.Cond.code ({ cls := "StrengthenFirst$Saves", name := "kind", desc := "()I" } : Jvm.MethodName) prog_16_method_2_code (1 : Nat) (Option.some Jvm.ClassFile.FieldType.int)) ∈ lw_all := lw_g (lw_at lw_m3 134 rfl) rfl
theorem q699 : (Jvm.Cond.selects "StrengthenFirst$Street" ({ cls := "StrengthenFirst$Rule", name := "kind", desc := "()I" } : Jvm.MethodName) ({ cls := "StrengthenFirst$Street", name := "kind", desc := "()I" } : Jvm.MethodName)) ∈ lw_all := lw_g (lw_at lw_m3 135 rfl) rfl
theorem q700 : (Jvm.Cond.instanceMethod ({ cls := "StrengthenFirst$Street", name := "kind", desc := "()I" } : Jvm.MethodName)) ∈ lw_all := lw_g (lw_at lw_m3 136 rfl) rfl
theorem q701 : (Jvm.Cond.code ({ cls := "StrengthenFirst$Street", name := "kind", desc := "()I" } : Jvm.MethodName) prog_19_method_2_code (1 : Nat) (Option.some Jvm.ClassFile.FieldType.int)) ∈ lw_all := lw_g (lw_at lw_m3 137 rfl) rfl
theorem q702 : (Jvm.Cond.selects "StrengthenFirst$Told" ({ cls := "StrengthenFirst$Rule", name := "kind", desc := "()I" } : Jvm.MethodName) ({ cls := "StrengthenFirst$Told", name := "kind", desc := "()I" } : Jvm.MethodName)) ∈ lw_all := lw_g (lw_at lw_m3 138 rfl) rfl
theorem q703 : (Jvm.Cond.instanceMethod ({ cls := "StrengthenFirst$Told", name := "kind", desc := "()I" } : Jvm.MethodName)) ∈ lw_all := lw_g (lw_at lw_m3 139 rfl) rfl
theorem q704 : (Jvm.Cond.code ({ cls := "StrengthenFirst$Told", name := "kind", desc := "()I" } : Jvm.MethodName) prog_21_method_2_code (1 : Nat) (Option.some Jvm.ClassFile.FieldType.int)) ∈ lw_all := lw_g (lw_at lw_m3 140 rfl) rfl
theorem q705 : (Jvm.Cond.selects "StrengthenFirst$Weak" ({ cls := "StrengthenFirst$Rule", name := "kind", desc := "()I" } : Jvm.MethodName) ({ cls := "StrengthenFirst$Weak", name := "kind", desc := "()I" } : Jvm.MethodName)) ∈ lw_all := lw_g (lw_at lw_m3 141 rfl) rfl
theorem q706 : (Jvm.Cond.instanceMethod ({ cls := "StrengthenFirst$Weak", name := "kind", desc := "()I" } : Jvm.MethodName)) ∈ lw_all := lw_g (lw_at lw_m3 142 rfl) rfl
theorem q707 : (Jvm.Cond.code ({ cls := "StrengthenFirst$Weak", name := "kind", desc := "()I" } : Jvm.MethodName) prog_24_method_2_code (1 : Nat) (Option.some Jvm.ClassFile.FieldType.int)) ∈ lw_all := lw_g (lw_at lw_m3 143 rfl) rfl
theorem q708 : (Jvm.Cond.code ({ cls := "StrengthenFirst$Rule", name := "kind", desc := "()I" } : Jvm.MethodName) prog_15_method_2_code (1 : Nat) (Option.some Jvm.ClassFile.FieldType.int)) ∈ lw_all := lw_g (lw_at lw_m3 144 rfl) rfl
theorem q709 : (Jvm.Cond.classLink "StrengthenFirst" (2 : Nat) "StrengthenFirst$Row") ∈ lw_all := lw_g (lw_at lw_m3 145 rfl) rfl
theorem q710 : (Jvm.Cond.methodLink "StrengthenFirstLaw" (44 : Nat) ({ cls := "StrengthenFirst", name := "says", desc := "(II)I" } : Jvm.MethodName)) ∈ lw_all := lw_g (lw_at lw_m3 146 rfl) rfl
theorem q711 : (Jvm.Cond.instanceMethod ({ cls := "StrengthenFirst", name := "says", desc := "(II)I" } : Jvm.MethodName)) ∈ lw_all := lw_g (lw_at lw_m3 147 rfl) rfl
theorem q712 : (Jvm.Cond.selects "StrengthenFirst" ({ cls := "StrengthenFirst", name := "says", desc := "(II)I" } : Jvm.MethodName) ({ cls := "StrengthenFirst", name := "says", desc := "(II)I" } : Jvm.MethodName)) ∈ lw_all := lw_g (lw_at lw_m3 148 rfl) rfl
theorem q713 : (Jvm.Cond.codeWith ({ cls := "StrengthenFirst", name := "says", desc := "(II)I" } : Jvm.MethodName) prog_1_method_22_code (4 : Nat) (Option.some Jvm.ClassFile.FieldType.int) [((0 : Nat), (32 : Nat), (33 : Nat), (21 : Nat))]) ∈ lw_all := lw_g (lw_at lw_m3 149 rfl) rfl
theorem q714 : (Jvm.Cond.methodLink "StrengthenFirst" (204 : Nat) ({ cls := "StrengthenFirst$Shelf", name := "says", desc := "(ILStrengthenFirst$Town;LStrengthenFirst$Sums;)I" } : Jvm.MethodName)) ∈ lw_all := lw_g (lw_at lw_m3 150 rfl) rfl
theorem q715 : (Jvm.Cond.instanceMethod ({ cls := "StrengthenFirst$Shelf", name := "says", desc := "(ILStrengthenFirst$Town;LStrengthenFirst$Sums;)I" } : Jvm.MethodName)) ∈ lw_all := lw_g (lw_at lw_m3 151 rfl) rfl
theorem q716 : (Jvm.Cond.selects "StrengthenFirst$Shelf" ({ cls := "StrengthenFirst$Shelf", name := "says", desc := "(ILStrengthenFirst$Town;LStrengthenFirst$Sums;)I" } : Jvm.MethodName) ({ cls := "StrengthenFirst$Shelf", name := "says", desc := "(ILStrengthenFirst$Town;LStrengthenFirst$Sums;)I" } : Jvm.MethodName)) ∈ lw_all := lw_g (lw_at lw_m3 152 rfl) rfl
theorem q717 : (Jvm.Cond.codeWith ({ cls := "StrengthenFirst$Shelf", name := "says", desc := "(ILStrengthenFirst$Town;LStrengthenFirst$Sums;)I" } : Jvm.MethodName) prog_17_method_5_code (5 : Nat) (Option.some Jvm.ClassFile.FieldType.int) [((0 : Nat), (247 : Nat), (248 : Nat), (21 : Nat))]) ∈ lw_all := lw_g (lw_at lw_m3 153 rfl) rfl
theorem q718 : (Jvm.Cond.classLink "StrengthenFirst$Shelf" (30 : Nat) "StrengthenFirst$Full") ∈ lw_all := lw_g (lw_at lw_m3 154 rfl) rfl
theorem q719 : (Jvm.Cond.methodLink "StrengthenFirst$Shelf" (32 : Nat) ({ cls := "StrengthenFirst$Full", name := "firstOf", desc := "(LStrengthenFirst$Town;LStrengthenFirst$Sums;)I" } : Jvm.MethodName)) ∈ lw_all := lw_g (lw_at lw_m3 155 rfl) rfl
theorem q720 : (Jvm.Cond.sameMethod "StrengthenFirst$Full" "StrengthenFirst$Rule" "firstOf" "(LStrengthenFirst$Town;LStrengthenFirst$Sums;)I") ∈ lw_all := lw_g (lw_at lw_m3 156 rfl) rfl
theorem q721 : (Jvm.Cond.declares ({ cls := "StrengthenFirst$Rule", name := "firstOf", desc := "(LStrengthenFirst$Town;LStrengthenFirst$Sums;)I" } : Jvm.MethodName)) ∈ lw_tbl := lw_at lw_m3 157 rfl
theorem q722 : (Jvm.Cond.selects "StrengthenFirst$Full" ({ cls := "StrengthenFirst$Full", name := "firstOf", desc := "(LStrengthenFirst$Town;LStrengthenFirst$Sums;)I" } : Jvm.MethodName) ({ cls := "StrengthenFirst$Rule", name := "firstOf", desc := "(LStrengthenFirst$Town;LStrengthenFirst$Sums;)I" } : Jvm.MethodName)) ∈ lw_all := lw_g (lw_at lw_m3 158 rfl) rfl
theorem q723 : (Jvm.Cond.selects "StrengthenFirst$Street" ({ cls := "StrengthenFirst$Full", name := "firstOf", desc := "(LStrengthenFirst$Town;LStrengthenFirst$Sums;)I" } : Jvm.MethodName) ({ cls := "StrengthenFirst$Rule", name := "firstOf", desc := "(LStrengthenFirst$Town;LStrengthenFirst$Sums;)I" } : Jvm.MethodName)) ∈ lw_all := lw_g (lw_at lw_m3 159 rfl) rfl
theorem q724 : (Jvm.Cond.instanceMethod ({ cls := "StrengthenFirst$Rule", name := "firstOf", desc := "(LStrengthenFirst$Town;LStrengthenFirst$Sums;)I" } : Jvm.MethodName)) ∈ lw_all := lw_g (lw_at lw_m3 160 rfl) rfl
theorem q725 : (Jvm.Cond.code ({ cls := "StrengthenFirst$Rule", name := "firstOf", desc := "(LStrengthenFirst$Town;LStrengthenFirst$Sums;)I" } : Jvm.MethodName) prog_15_method_7_code (4 : Nat) (Option.some Jvm.ClassFile.FieldType.int)) ∈ lw_all := lw_g (lw_at lw_m3 161 rfl) rfl
theorem q726 : (Jvm.Cond.methodLink "StrengthenFirst$Rule" (51 : Nat) ({ cls := "StrengthenFirst$Rule", name := "order", desc := "(LStrengthenFirst$Town;LStrengthenFirst$Sums;)LStrengthenFirst$Order;" } : Jvm.MethodName)) ∈ lw_all := lw_g (lw_at lw_m3 162 rfl) rfl
theorem q727 : (Jvm.Cond.instanceMethod ({ cls := "StrengthenFirst$Rule", name := "order", desc := "(LStrengthenFirst$Town;LStrengthenFirst$Sums;)LStrengthenFirst$Order;" } : Jvm.MethodName)) ∈ lw_all := lw_g (lw_at lw_m3 163 rfl) rfl
theorem q728 : (Jvm.Cond.selects "StrengthenFirst$Rule" ({ cls := "StrengthenFirst$Rule", name := "order", desc := "(LStrengthenFirst$Town;LStrengthenFirst$Sums;)LStrengthenFirst$Order;" } : Jvm.MethodName) ({ cls := "StrengthenFirst$Rule", name := "order", desc := "(LStrengthenFirst$Town;LStrengthenFirst$Sums;)LStrengthenFirst$Order;" } : Jvm.MethodName)) ∈ lw_all := lw_g (lw_at lw_m3 164 rfl) rfl
theorem q729 : (Jvm.Cond.sameMethod "StrengthenFirst$Rule" "StrengthenFirst$Rule" "order" "(LStrengthenFirst$Town;LStrengthenFirst$Sums;)LStrengthenFirst$Order;") ∈ lw_all := lw_g (lw_at lw_m3 165 rfl) rfl
theorem q730 : (Jvm.Cond.selects "StrengthenFirst$Full" ({ cls := "StrengthenFirst$Rule", name := "order", desc := "(LStrengthenFirst$Town;LStrengthenFirst$Sums;)LStrengthenFirst$Order;" } : Jvm.MethodName) ({ cls := "StrengthenFirst$Rule", name := "order", desc := "(LStrengthenFirst$Town;LStrengthenFirst$Sums;)LStrengthenFirst$Order;" } : Jvm.MethodName)) ∈ lw_all := lw_g (lw_at lw_m3 166 rfl) rfl
theorem q731 : (Jvm.Cond.selects "StrengthenFirst$Prop" ({ cls := "StrengthenFirst$Rule", name := "order", desc := "(LStrengthenFirst$Town;LStrengthenFirst$Sums;)LStrengthenFirst$Order;" } : Jvm.MethodName) ({ cls := "StrengthenFirst$Rule", name := "order", desc := "(LStrengthenFirst$Town;LStrengthenFirst$Sums;)LStrengthenFirst$Order;" } : Jvm.MethodName)) ∈ lw_all := lw_g (lw_at lw_m3 167 rfl) rfl
theorem q732 : (Jvm.Cond.selects "StrengthenFirst$Saves" ({ cls := "StrengthenFirst$Rule", name := "order", desc := "(LStrengthenFirst$Town;LStrengthenFirst$Sums;)LStrengthenFirst$Order;" } : Jvm.MethodName) ({ cls := "StrengthenFirst$Saves", name := "order", desc := "(LStrengthenFirst$Town;LStrengthenFirst$Sums;)LStrengthenFirst$Order;" } : Jvm.MethodName)) ∈ lw_all := lw_g (lw_at lw_m3 168 rfl) rfl
theorem q733 : (Jvm.Cond.instanceMethod ({ cls := "StrengthenFirst$Saves", name := "order", desc := "(LStrengthenFirst$Town;LStrengthenFirst$Sums;)LStrengthenFirst$Order;" } : Jvm.MethodName)) ∈ lw_all := lw_g (lw_at lw_m3 169 rfl) rfl
theorem q734 : (Jvm.Cond.code ({ cls := "StrengthenFirst$Saves", name := "order", desc := "(LStrengthenFirst$Town;LStrengthenFirst$Sums;)LStrengthenFirst$Order;" } : Jvm.MethodName) prog_16_method_3_code (5 : Nat) (Option.some (Jvm.ClassFile.FieldType.object "StrengthenFirst$Order"))) ∈ lw_all := lw_g (lw_at lw_m3 170 rfl) rfl
theorem q735 : (Jvm.Cond.classLink "StrengthenFirst$Saves" (9 : Nat) "StrengthenFirst$Order") ∈ lw_all := lw_g (lw_at lw_m3 171 rfl) rfl
theorem q736 : (Jvm.Cond.instantiable "StrengthenFirst$Order" (2 : Nat)) ∈ lw_all := lw_g (lw_at lw_m3 172 rfl) rfl
theorem q737 : (Jvm.Cond.methodLink "StrengthenFirst$Saves" (11 : Nat) ({ cls := "StrengthenFirst$Order", name := "<init>", desc := "()V" } : Jvm.MethodName)) ∈ lw_all := lw_g (lw_at lw_m3 173 rfl) rfl
theorem q738 : (Jvm.Cond.instanceMethod ({ cls := "StrengthenFirst$Order", name := "<init>", desc := "()V" } : Jvm.MethodName)) ∈ lw_all := lw_g (lw_at lw_m3 174 rfl) rfl
theorem q739 : (Jvm.Cond.code ({ cls := "StrengthenFirst$Order", name := "<init>", desc := "()V" } : Jvm.MethodName) prog_9_method_1_code (1 : Nat) (Option.none : Option Jvm.ClassFile.FieldType)) ∈ lw_all := lw_g (lw_at lw_m3 175 rfl) rfl
theorem q740 : (Jvm.Cond.methodLink "StrengthenFirst$Order" (3 : Nat) ({ cls := "java/lang/Object", name := "<init>", desc := "()V" } : Jvm.MethodName)) ∈ lw_all := lw_g (lw_at lw_m3 176 rfl) rfl
theorem q741 : (Jvm.Cond.fieldLink "StrengthenFirst$Order" (9 : Nat) "StrengthenFirst$Order" "houses" "[I") ∈ lw_all := lw_g (lw_at lw_m3 177 rfl) rfl
theorem q742 : (Jvm.Cond.fieldLink "StrengthenFirst$Saves" (40 : Nat) "StrengthenFirst$Order" "houses" "[I") ∈ lw_all := lw_g (lw_at lw_m3 178 rfl) rfl
theorem q743 : (Jvm.Cond.fieldLink "StrengthenFirst$Rule" (58 : Nat) "StrengthenFirst$Order" "houses" "[I") ∈ lw_all := lw_g (lw_at lw_m3 179 rfl) rfl
theorem q744 : (Jvm.Cond.fieldLink "StrengthenFirst" (345 : Nat) "StrengthenFirst$Order" "houses" "[I") ∈ lw_all := lw_g (lw_at lw_m3 180 rfl) rfl
theorem q745 : (Jvm.Cond.fieldLink "StrengthenFirst$Order" (15 : Nat) "StrengthenFirst$Order" "many" "I") ∈ lw_all := lw_g (lw_at lw_m3 181 rfl) rfl
theorem q746 : (Jvm.Cond.fieldLink "StrengthenFirst$Saves" (43 : Nat) "StrengthenFirst$Order" "many" "I") ∈ lw_all := lw_g (lw_at lw_m3 182 rfl) rfl
theorem q747 : (Jvm.Cond.fieldLink "StrengthenFirst$Rule" (55 : Nat) "StrengthenFirst$Order" "many" "I") ∈ lw_all := lw_g (lw_at lw_m3 183 rfl) rfl
theorem q748 : (Jvm.Cond.fieldLink "StrengthenFirst" (340 : Nat) "StrengthenFirst$Order" "many" "I") ∈ lw_all := lw_g (lw_at lw_m3 184 rfl) rfl
theorem q749 : (Jvm.Cond.laysFinal "StrengthenFirst$Order" "StrengthenFirst$Order" "houses" "[I") ∈ lw_all := lw_g (lw_at lw_m3 185 rfl) rfl
theorem q750 : (Jvm.Cond.soleField "StrengthenFirst$Order" "houses") ∈ lw_all := lw_g (lw_at lw_m3 186 rfl) rfl
theorem q751 : (Jvm.Cond.lays "StrengthenFirst$Order" "StrengthenFirst$Order" "many" "I") ∈ lw_all := lw_g (lw_at lw_m3 187 rfl) rfl
theorem q752 : (Jvm.Cond.soleField "StrengthenFirst$Order" "many") ∈ lw_all := lw_g (lw_at lw_m3 188 rfl) rfl
theorem q753 : (Jvm.Cond.superclass "StrengthenFirst$Order" "java/lang/Object") ∈ lw_all := lw_g (lw_at lw_m3 189 rfl) rfl
theorem q754 : (Jvm.Cond.methodLink "StrengthenFirst$Saves" (14 : Nat) ({ cls := "StrengthenFirst$Town", name := "again", desc := "()LStrengthenFirst$Town;" } : Jvm.MethodName)) ∈ lw_all := lw_g (lw_at lw_m3 190 rfl) rfl
theorem q755 : (Jvm.Cond.instanceMethod ({ cls := "StrengthenFirst$Town", name := "again", desc := "()LStrengthenFirst$Town;" } : Jvm.MethodName)) ∈ lw_all := lw_g (lw_at lw_m3 191 rfl) rfl
theorem q756 : (Jvm.Cond.selects "StrengthenFirst$Town" ({ cls := "StrengthenFirst$Town", name := "again", desc := "()LStrengthenFirst$Town;" } : Jvm.MethodName) ({ cls := "StrengthenFirst$Town", name := "again", desc := "()LStrengthenFirst$Town;" } : Jvm.MethodName)) ∈ lw_all := lw_g (lw_at lw_m3 192 rfl) rfl
theorem q757 : (Jvm.Cond.code ({ cls := "StrengthenFirst$Town", name := "again", desc := "()LStrengthenFirst$Town;" } : Jvm.MethodName) prog_22_method_2_code (3 : Nat) (Option.some (Jvm.ClassFile.FieldType.object "StrengthenFirst$Town"))) ∈ lw_all := lw_g (lw_at lw_m3 193 rfl) rfl
theorem q758 : (Jvm.Cond.classLink "StrengthenFirst$Town" (10 : Nat) "StrengthenFirst$Town") ∈ lw_all := lw_g (lw_at lw_m3 194 rfl) rfl
theorem q759 : (Jvm.Cond.methodLink "StrengthenFirst$Town" (37 : Nat) ({ cls := "StrengthenFirst$Town", name := "<init>", desc := "()V" } : Jvm.MethodName)) ∈ lw_all := lw_g (lw_at lw_m3 195 rfl) rfl
theorem q760 : (Jvm.Cond.methodLink "StrengthenFirst$Town" (56 : Nat) ({ cls := "java/lang/System", name := "arraycopy", desc := "(Ljava/lang/Object;ILjava/lang/Object;II)V" } : Jvm.MethodName)) ∈ lw_all := lw_g (lw_at lw_m3 196 rfl) rfl
theorem q761 : (Jvm.Cond.methodLink "StrengthenFirst$Town" (62 : Nat) ({ cls := "StrengthenFirst$House", name := "again", desc := "()LStrengthenFirst$House;" } : Jvm.MethodName)) ∈ lw_all := lw_g (lw_at lw_m3 197 rfl) rfl
theorem q762 : (Jvm.Cond.instanceMethod ({ cls := "StrengthenFirst$House", name := "again", desc := "()LStrengthenFirst$House;" } : Jvm.MethodName)) ∈ lw_all := lw_g (lw_at lw_m3 198 rfl) rfl
theorem q763 : (Jvm.Cond.selects "StrengthenFirst$House" ({ cls := "StrengthenFirst$House", name := "again", desc := "()LStrengthenFirst$House;" } : Jvm.MethodName) ({ cls := "StrengthenFirst$House", name := "again", desc := "()LStrengthenFirst$House;" } : Jvm.MethodName)) ∈ lw_all := lw_g (lw_at lw_m3 199 rfl) rfl
theorem q764 : (Jvm.Cond.code ({ cls := "StrengthenFirst$House", name := "again", desc := "()LStrengthenFirst$House;" } : Jvm.MethodName) prog_6_method_3_code (2 : Nat) (Option.some (Jvm.ClassFile.FieldType.object "StrengthenFirst$House"))) ∈ lw_all := lw_g (lw_at lw_m3 200 rfl) rfl
theorem q765 : (Jvm.Cond.classLink "StrengthenFirst$House" (10 : Nat) "StrengthenFirst$House") ∈ lw_all := lw_g (lw_at lw_m3 201 rfl) rfl
theorem q766 : (Jvm.Cond.instantiable "StrengthenFirst$House" (10 : Nat)) ∈ lw_all := lw_g (lw_at lw_m3 202 rfl) rfl
theorem q767 : (Jvm.Cond.methodLink "StrengthenFirst$House" (44 : Nat) ({ cls := "StrengthenFirst$House", name := "<init>", desc := "(IIIIII)V" } : Jvm.MethodName)) ∈ lw_all := lw_g (lw_at lw_m3 203 rfl) rfl
theorem q768 : (Jvm.Cond.instanceMethod ({ cls := "StrengthenFirst$House", name := "<init>", desc := "(IIIIII)V" } : Jvm.MethodName)) ∈ lw_all := lw_g (lw_at lw_m3 204 rfl) rfl
theorem q769 : (Jvm.Cond.code ({ cls := "StrengthenFirst$House", name := "<init>", desc := "(IIIIII)V" } : Jvm.MethodName) prog_6_method_1_code (7 : Nat) (Option.none : Option Jvm.ClassFile.FieldType)) ∈ lw_all := lw_g (lw_at lw_m3 205 rfl) rfl
theorem q770 : (Jvm.Cond.methodLink "StrengthenFirst$House" (3 : Nat) ({ cls := "java/lang/Object", name := "<init>", desc := "()V" } : Jvm.MethodName)) ∈ lw_all := lw_g (lw_at lw_m3 206 rfl) rfl
theorem q771 : (Jvm.Cond.fieldLink "StrengthenFirst$House" (18 : Nat) "StrengthenFirst$House" "index" "I") ∈ lw_all := lw_g (lw_at lw_m3 207 rfl) rfl
theorem q772 : (Jvm.Cond.fieldLink "StrengthenFirst$Order" (19 : Nat) "StrengthenFirst$House" "index" "I") ∈ lw_all := lw_g (lw_at lw_m3 208 rfl) rfl
theorem q773 : (Jvm.Cond.fieldLink "StrengthenFirst$Reader" (133 : Nat) "StrengthenFirst$House" "index" "I") ∈ lw_all := lw_g (lw_at lw_m3 209 rfl) rfl
theorem q774 : (Jvm.Cond.fieldLink "StrengthenFirst" (227 : Nat) "StrengthenFirst$House" "index" "I") ∈ lw_all := lw_g (lw_at lw_m3 210 rfl) rfl
theorem q775 : (Jvm.Cond.fieldLink "StrengthenFirst$House" (21 : Nat) "StrengthenFirst$House" "corner" "I") ∈ lw_all := lw_g (lw_at lw_m3 211 rfl) rfl
theorem q776 : (Jvm.Cond.fieldLink "StrengthenFirst$Sums" (42 : Nat) "StrengthenFirst$House" "corner" "I") ∈ lw_all := lw_g (lw_at lw_m3 212 rfl) rfl
theorem q777 : (Jvm.Cond.fieldLink "StrengthenFirst" (237 : Nat) "StrengthenFirst$House" "corner" "I") ∈ lw_all := lw_g (lw_at lw_m3 213 rfl) rfl
theorem q778 : (Jvm.Cond.fieldLink "StrengthenFirst$House" (24 : Nat) "StrengthenFirst$House" "weak" "I") ∈ lw_all := lw_g (lw_at lw_m3 214 rfl) rfl
theorem q779 : (Jvm.Cond.fieldLink "StrengthenFirst$Weak" (9 : Nat) "StrengthenFirst$House" "weak" "I") ∈ lw_all := lw_g (lw_at lw_m3 215 rfl) rfl
theorem q780 : (Jvm.Cond.fieldLink "StrengthenFirst$Town" (75 : Nat) "StrengthenFirst$House" "weak" "I") ∈ lw_all := lw_g (lw_at lw_m3 216 rfl) rfl
theorem q781 : (Jvm.Cond.fieldLink "StrengthenFirst" (240 : Nat) "StrengthenFirst$House" "weak" "I") ∈ lw_all := lw_g (lw_at lw_m3 217 rfl) rfl
theorem q782 : (Jvm.Cond.fieldLink "StrengthenFirst$House" (33 : Nat) "StrengthenFirst$House" "cost" "I") ∈ lw_all := lw_g (lw_at lw_m3 218 rfl) rfl
theorem q783 : (Jvm.Cond.fieldLink "StrengthenFirst$Plan" (52 : Nat) "StrengthenFirst$House" "cost" "I") ∈ lw_all := lw_g (lw_at lw_m3 219 rfl) rfl
theorem q784 : (Jvm.Cond.fieldLink "StrengthenFirst$Saves" (59 : Nat) "StrengthenFirst$House" "cost" "I") ∈ lw_all := lw_g (lw_at lw_m3 220 rfl) rfl
theorem q785 : (Jvm.Cond.fieldLink "StrengthenFirst$Best" (94 : Nat) "StrengthenFirst$House" "cost" "I") ∈ lw_all := lw_g (lw_at lw_m3 221 rfl) rfl
theorem q786 : (Jvm.Cond.fieldLink "StrengthenFirst" (249 : Nat) "StrengthenFirst$House" "cost" "I") ∈ lw_all := lw_g (lw_at lw_m3 222 rfl) rfl
theorem q787 : (Jvm.Cond.fieldLink "StrengthenFirst$House" (27 : Nat) "StrengthenFirst$House" "day" "I") ∈ lw_all := lw_g (lw_at lw_m3 223 rfl) rfl
theorem q788 : (Jvm.Cond.fieldLink "StrengthenFirst$Sums" (47 : Nat) "StrengthenFirst$House" "day" "I") ∈ lw_all := lw_g (lw_at lw_m3 224 rfl) rfl
theorem q789 : (Jvm.Cond.fieldLink "StrengthenFirst$Town" (91 : Nat) "StrengthenFirst$House" "day" "I") ∈ lw_all := lw_g (lw_at lw_m3 225 rfl) rfl
theorem q790 : (Jvm.Cond.fieldLink "StrengthenFirst" (243 : Nat) "StrengthenFirst$House" "day" "I") ∈ lw_all := lw_g (lw_at lw_m3 226 rfl) rfl
theorem q791 : (Jvm.Cond.fieldLink "StrengthenFirst$House" (30 : Nat) "StrengthenFirst$House" "night" "I") ∈ lw_all := lw_g (lw_at lw_m3 227 rfl) rfl
theorem q792 : (Jvm.Cond.fieldLink "StrengthenFirst$Sums" (50 : Nat) "StrengthenFirst$House" "night" "I") ∈ lw_all := lw_g (lw_at lw_m3 228 rfl) rfl
theorem q793 : (Jvm.Cond.fieldLink "StrengthenFirst$Town" (94 : Nat) "StrengthenFirst$House" "night" "I") ∈ lw_all := lw_g (lw_at lw_m3 229 rfl) rfl
theorem q794 : (Jvm.Cond.fieldLink "StrengthenFirst" (246 : Nat) "StrengthenFirst$House" "night" "I") ∈ lw_all := lw_g (lw_at lw_m3 230 rfl) rfl
theorem q795 : (Jvm.Cond.fieldLink "StrengthenFirst$House" (9 : Nat) "StrengthenFirst$House" "front" "I") ∈ lw_all := lw_g (lw_at lw_m3 231 rfl) rfl
theorem q796 : (Jvm.Cond.fieldLink "StrengthenFirst$Street" (9 : Nat) "StrengthenFirst$House" "front" "I") ∈ lw_all := lw_g (lw_at lw_m3 232 rfl) rfl
theorem q797 : (Jvm.Cond.fieldLink "StrengthenFirst$Town" (97 : Nat) "StrengthenFirst$House" "front" "I") ∈ lw_all := lw_g (lw_at lw_m3 233 rfl) rfl
theorem q798 : (Jvm.Cond.fieldLink "StrengthenFirst$Sums" (74 : Nat) "StrengthenFirst$House" "front" "I") ∈ lw_all := lw_g (lw_at lw_m3 234 rfl) rfl
theorem q799 : (Jvm.Cond.fieldLink "StrengthenFirst$Reader" (126 : Nat) "StrengthenFirst$House" "front" "I") ∈ lw_all := lw_g (lw_at lw_m3 235 rfl) rfl
theorem q800 : (Jvm.Cond.fieldLink "StrengthenFirst" (252 : Nat) "StrengthenFirst$House" "front" "I") ∈ lw_all := lw_g (lw_at lw_m3 236 rfl) rfl
theorem q801 : (Jvm.Cond.fieldLink "StrengthenFirst$House" (15 : Nat) "StrengthenFirst$House" "next" "I") ∈ lw_all := lw_g (lw_at lw_m3 237 rfl) rfl
theorem q802 : (Jvm.Cond.fieldLink "StrengthenFirst$Town" (69 : Nat) "StrengthenFirst$House" "next" "I") ∈ lw_all := lw_g (lw_at lw_m3 238 rfl) rfl
theorem q803 : (Jvm.Cond.fieldLink "StrengthenFirst$Reader" (136 : Nat) "StrengthenFirst$House" "next" "I") ∈ lw_all := lw_g (lw_at lw_m3 239 rfl) rfl
theorem q804 : (Jvm.Cond.fieldLink "StrengthenFirst" (255 : Nat) "StrengthenFirst$House" "next" "I") ∈ lw_all := lw_g (lw_at lw_m4 0 rfl) rfl
theorem q805 : (Jvm.Cond.fieldLink "StrengthenFirst$Best" (45 : Nat) "StrengthenFirst$House" "steps" "I") ∈ lw_all := lw_g (lw_at lw_m4 1 rfl) rfl
theorem q806 : (Jvm.Cond.fieldLink "StrengthenFirst$Plan" (47 : Nat) "StrengthenFirst$House" "steps" "I") ∈ lw_all := lw_g (lw_at lw_m4 2 rfl) rfl
theorem q807 : (Jvm.Cond.fieldLink "StrengthenFirst$Weak" (15 : Nat) "StrengthenFirst$House" "steps" "I") ∈ lw_all := lw_g (lw_at lw_m4 3 rfl) rfl
theorem q808 : (Jvm.Cond.fieldLink "StrengthenFirst$House" (47 : Nat) "StrengthenFirst$House" "steps" "I") ∈ lw_all := lw_g (lw_at lw_m4 4 rfl) rfl
theorem q809 : (Jvm.Cond.fieldLink "StrengthenFirst$Saves" (47 : Nat) "StrengthenFirst$House" "steps" "I") ∈ lw_all := lw_g (lw_at lw_m4 5 rfl) rfl
theorem q810 : (Jvm.Cond.fieldLink "StrengthenFirst$Told" (34 : Nat) "StrengthenFirst$House" "steps" "I") ∈ lw_all := lw_g (lw_at lw_m4 6 rfl) rfl
theorem q811 : (Jvm.Cond.fieldLink "StrengthenFirst$Rule" (34 : Nat) "StrengthenFirst$House" "steps" "I") ∈ lw_all := lw_g (lw_at lw_m4 7 rfl) rfl
theorem q812 : (Jvm.Cond.fieldLink "StrengthenFirst$Town" (72 : Nat) "StrengthenFirst$House" "steps" "I") ∈ lw_all := lw_g (lw_at lw_m4 8 rfl) rfl
theorem q813 : (Jvm.Cond.fieldLink "StrengthenFirst" (258 : Nat) "StrengthenFirst$House" "steps" "I") ∈ lw_all := lw_g (lw_at lw_m4 9 rfl) rfl
theorem q814 : (Jvm.Cond.fieldLink "StrengthenFirst$Prop" (9 : Nat) "StrengthenFirst$House" "propped" "Z") ∈ lw_all := lw_g (lw_at lw_m4 10 rfl) rfl
theorem q815 : (Jvm.Cond.fieldLink "StrengthenFirst$House" (50 : Nat) "StrengthenFirst$House" "propped" "Z") ∈ lw_all := lw_g (lw_at lw_m4 11 rfl) rfl
theorem q816 : (Jvm.Cond.fieldLink "StrengthenFirst$Town" (78 : Nat) "StrengthenFirst$House" "propped" "Z") ∈ lw_all := lw_g (lw_at lw_m4 12 rfl) rfl
theorem q817 : (Jvm.Cond.fieldLink "StrengthenFirst" (261 : Nat) "StrengthenFirst$House" "propped" "Z") ∈ lw_all := lw_g (lw_at lw_m4 13 rfl) rfl
theorem q818 : (Jvm.Cond.laysFinal "StrengthenFirst$House" "StrengthenFirst$House" "index" "I") ∈ lw_all := lw_g (lw_at lw_m4 14 rfl) rfl
theorem q819 : (Jvm.Cond.soleField "StrengthenFirst$House" "index") ∈ lw_all := lw_g (lw_at lw_m4 15 rfl) rfl
theorem q820 : (Jvm.Cond.laysFinal "StrengthenFirst$House" "StrengthenFirst$House" "corner" "I") ∈ lw_all := lw_g (lw_at lw_m4 16 rfl) rfl
theorem q821 : (Jvm.Cond.soleField "StrengthenFirst$House" "corner") ∈ lw_all := lw_g (lw_at lw_m4 17 rfl) rfl
theorem q822 : (Jvm.Cond.laysFinal "StrengthenFirst$House" "StrengthenFirst$House" "weak" "I") ∈ lw_all := lw_g (lw_at lw_m4 18 rfl) rfl
theorem q823 : (Jvm.Cond.soleField "StrengthenFirst$House" "weak") ∈ lw_all := lw_g (lw_at lw_m4 19 rfl) rfl
theorem q824 : (Jvm.Cond.laysFinal "StrengthenFirst$House" "StrengthenFirst$House" "cost" "I") ∈ lw_all := lw_g (lw_at lw_m4 20 rfl) rfl
theorem q825 : (Jvm.Cond.soleField "StrengthenFirst$House" "cost") ∈ lw_all := lw_g (lw_at lw_m4 21 rfl) rfl
theorem q826 : (Jvm.Cond.lays "StrengthenFirst$House" "StrengthenFirst$House" "day" "I") ∈ lw_all := lw_g (lw_at lw_m4 22 rfl) rfl
theorem q827 : (Jvm.Cond.soleField "StrengthenFirst$House" "day") ∈ lw_all := lw_g (lw_at lw_m4 23 rfl) rfl
theorem q828 : (Jvm.Cond.lays "StrengthenFirst$House" "StrengthenFirst$House" "night" "I") ∈ lw_all := lw_g (lw_at lw_m4 24 rfl) rfl
theorem q829 : (Jvm.Cond.soleField "StrengthenFirst$House" "night") ∈ lw_all := lw_g (lw_at lw_m4 25 rfl) rfl
theorem q830 : (Jvm.Cond.lays "StrengthenFirst$House" "StrengthenFirst$House" "front" "I") ∈ lw_all := lw_g (lw_at lw_m4 26 rfl) rfl
theorem q831 : (Jvm.Cond.soleField "StrengthenFirst$House" "front") ∈ lw_all := lw_g (lw_at lw_m4 27 rfl) rfl
theorem q832 : (Jvm.Cond.lays "StrengthenFirst$House" "StrengthenFirst$House" "next" "I") ∈ lw_all := lw_g (lw_at lw_m4 28 rfl) rfl
theorem q833 : (Jvm.Cond.soleField "StrengthenFirst$House" "next") ∈ lw_all := lw_g (lw_at lw_m4 29 rfl) rfl
theorem q834 : (Jvm.Cond.lays "StrengthenFirst$House" "StrengthenFirst$House" "steps" "I") ∈ lw_all := lw_g (lw_at lw_m4 30 rfl) rfl
theorem q835 : (Jvm.Cond.soleField "StrengthenFirst$House" "steps") ∈ lw_all := lw_g (lw_at lw_m4 31 rfl) rfl
theorem q836 : (Jvm.Cond.lays "StrengthenFirst$House" "StrengthenFirst$House" "propped" "Z") ∈ lw_all := lw_g (lw_at lw_m4 32 rfl) rfl
theorem q837 : (Jvm.Cond.soleField "StrengthenFirst$House" "propped") ∈ lw_all := lw_g (lw_at lw_m4 33 rfl) rfl
theorem q838 : (Jvm.Cond.superclass "StrengthenFirst$House" "java/lang/Object") ∈ lw_all := lw_g (lw_at lw_m4 34 rfl) rfl
theorem q839 : (Jvm.Cond.methodLink "StrengthenFirst$Saves" (20 : Nat) ({ cls := "StrengthenFirst$Sums", name := "of", desc := "(LStrengthenFirst$Town;)LStrengthenFirst$Sums;" } : Jvm.MethodName)) ∈ lw_all := lw_g (lw_at lw_m4 35 rfl) rfl
theorem q840 : (Jvm.Cond.instanceMethod ({ cls := "StrengthenFirst$Sums", name := "of", desc := "(LStrengthenFirst$Town;)LStrengthenFirst$Sums;" } : Jvm.MethodName)) ∈ lw_all := lw_g (lw_at lw_m4 36 rfl) rfl
theorem q841 : (Jvm.Cond.selects "StrengthenFirst$Sums" ({ cls := "StrengthenFirst$Sums", name := "of", desc := "(LStrengthenFirst$Town;)LStrengthenFirst$Sums;" } : Jvm.MethodName) ({ cls := "StrengthenFirst$Sums", name := "of", desc := "(LStrengthenFirst$Town;)LStrengthenFirst$Sums;" } : Jvm.MethodName)) ∈ lw_all := lw_g (lw_at lw_m4 37 rfl) rfl
theorem q842 : (Jvm.Cond.code ({ cls := "StrengthenFirst$Sums", name := "of", desc := "(LStrengthenFirst$Town;)LStrengthenFirst$Sums;" } : Jvm.MethodName) prog_20_method_2_code (3 : Nat) (Option.some (Jvm.ClassFile.FieldType.object "StrengthenFirst$Sums"))) ∈ lw_all := lw_g (lw_at lw_m4 38 rfl) rfl
theorem q843 : (Jvm.Cond.methodLink "StrengthenFirst$Sums" (35 : Nat) ({ cls := "StrengthenFirst$Town", name := "cut", desc := "(I)I" } : Jvm.MethodName)) ∈ lw_all := lw_g (lw_at lw_m4 39 rfl) rfl
theorem q844 : (Jvm.Cond.instanceMethod ({ cls := "StrengthenFirst$Town", name := "cut", desc := "(I)I" } : Jvm.MethodName)) ∈ lw_all := lw_g (lw_at lw_m4 40 rfl) rfl
theorem q845 : (Jvm.Cond.selects "StrengthenFirst$Town" ({ cls := "StrengthenFirst$Town", name := "cut", desc := "(I)I" } : Jvm.MethodName) ({ cls := "StrengthenFirst$Town", name := "cut", desc := "(I)I" } : Jvm.MethodName)) ∈ lw_all := lw_g (lw_at lw_m4 41 rfl) rfl
theorem q846 : (Jvm.Cond.code ({ cls := "StrengthenFirst$Town", name := "cut", desc := "(I)I" } : Jvm.MethodName) prog_22_method_8_code (7 : Nat) (Option.some Jvm.ClassFile.FieldType.int)) ∈ lw_all := lw_g (lw_at lw_m4 42 rfl) rfl
theorem q847 : (Jvm.Cond.methodLink "StrengthenFirst$Saves" (26 : Nat) ({ cls := "StrengthenFirst$Sums", name := "weighed", desc := "()LStrengthenFirst$Sums;" } : Jvm.MethodName)) ∈ lw_all := lw_g (lw_at lw_m4 43 rfl) rfl
theorem q848 : (Jvm.Cond.instanceMethod ({ cls := "StrengthenFirst$Sums", name := "weighed", desc := "()LStrengthenFirst$Sums;" } : Jvm.MethodName)) ∈ lw_all := lw_g (lw_at lw_m4 44 rfl) rfl
theorem q849 : (Jvm.Cond.selects "StrengthenFirst$Sums" ({ cls := "StrengthenFirst$Sums", name := "weighed", desc := "()LStrengthenFirst$Sums;" } : Jvm.MethodName) ({ cls := "StrengthenFirst$Sums", name := "weighed", desc := "()LStrengthenFirst$Sums;" } : Jvm.MethodName)) ∈ lw_all := lw_g (lw_at lw_m4 45 rfl) rfl
theorem q850 : (Jvm.Cond.code ({ cls := "StrengthenFirst$Sums", name := "weighed", desc := "()LStrengthenFirst$Sums;" } : Jvm.MethodName) prog_20_method_10_code (3 : Nat) (Option.some (Jvm.ClassFile.FieldType.object "StrengthenFirst$Sums"))) ∈ lw_all := lw_g (lw_at lw_m4 46 rfl) rfl
theorem q851 : (Jvm.Cond.methodLink "StrengthenFirst$Sums" (68 : Nat) ({ cls := "StrengthenFirst$Sums", name := "worth", desc := "(II)I" } : Jvm.MethodName)) ∈ lw_all := lw_g (lw_at lw_m4 47 rfl) rfl
theorem q852 : (Jvm.Cond.privateMethod ({ cls := "StrengthenFirst$Sums", name := "worth", desc := "(II)I" } : Jvm.MethodName)) ∈ lw_tbl := lw_at lw_m4 48 rfl
theorem q853 : (Jvm.Cond.instanceMethod ({ cls := "StrengthenFirst$Sums", name := "worth", desc := "(II)I" } : Jvm.MethodName)) ∈ lw_all := lw_g (lw_at lw_m4 49 rfl) rfl
theorem q854 : (Jvm.Cond.code ({ cls := "StrengthenFirst$Sums", name := "worth", desc := "(II)I" } : Jvm.MethodName) prog_20_method_4_code (3 : Nat) (Option.some Jvm.ClassFile.FieldType.int)) ∈ lw_all := lw_g (lw_at lw_m4 50 rfl) rfl
theorem q855 : (Jvm.Cond.methodLink "StrengthenFirst$Sums" (53 : Nat) ({ cls := "StrengthenFirst$Sums", name := "count", desc := "(IIZ)I" } : Jvm.MethodName)) ∈ lw_all := lw_g (lw_at lw_m4 51 rfl) rfl
theorem q856 : (Jvm.Cond.privateMethod ({ cls := "StrengthenFirst$Sums", name := "count", desc := "(IIZ)I" } : Jvm.MethodName)) ∈ lw_tbl := lw_at lw_m4 52 rfl
theorem q857 : (Jvm.Cond.instanceMethod ({ cls := "StrengthenFirst$Sums", name := "count", desc := "(IIZ)I" } : Jvm.MethodName)) ∈ lw_all := lw_g (lw_at lw_m4 53 rfl) rfl
theorem q858 : (Jvm.Cond.code ({ cls := "StrengthenFirst$Sums", name := "count", desc := "(IIZ)I" } : Jvm.MethodName) prog_20_method_3_code (9 : Nat) (Option.some Jvm.ClassFile.FieldType.int)) ∈ lw_all := lw_g (lw_at lw_m4 54 rfl) rfl
theorem q859 : (Jvm.Cond.methodLink "StrengthenFirst$Saves" (30 : Nat) ({ cls := "StrengthenFirst$Saves", name := "next", desc := "(LStrengthenFirst$Town;LStrengthenFirst$Sums;LStrengthenFirst$Order;)Z" } : Jvm.MethodName)) ∈ lw_all := lw_g (lw_at lw_m4 55 rfl) rfl
theorem q860 : (Jvm.Cond.privateMethod ({ cls := "StrengthenFirst$Saves", name := "next", desc := "(LStrengthenFirst$Town;LStrengthenFirst$Sums;LStrengthenFirst$Order;)Z" } : Jvm.MethodName)) ∈ lw_tbl := lw_at lw_m4 56 rfl
theorem q861 : (Jvm.Cond.instanceMethod ({ cls := "StrengthenFirst$Saves", name := "next", desc := "(LStrengthenFirst$Town;LStrengthenFirst$Sums;LStrengthenFirst$Order;)Z" } : Jvm.MethodName)) ∈ lw_all := lw_g (lw_at lw_m4 57 rfl) rfl
theorem q862 : (Jvm.Cond.code ({ cls := "StrengthenFirst$Saves", name := "next", desc := "(LStrengthenFirst$Town;LStrengthenFirst$Sums;LStrengthenFirst$Order;)Z" } : Jvm.MethodName) prog_16_method_4_code (11 : Nat) (Option.some Jvm.ClassFile.FieldType.boolean)) ∈ lw_all := lw_g (lw_at lw_m4 58 rfl) rfl
theorem q863 : (Jvm.Cond.methodLink "StrengthenFirst$Saves" (65 : Nat) ({ cls := "StrengthenFirst$Order", name := "has", desc := "(I)Z" } : Jvm.MethodName)) ∈ lw_all := lw_g (lw_at lw_m4 59 rfl) rfl
theorem q864 : (Jvm.Cond.instanceMethod ({ cls := "StrengthenFirst$Order", name := "has", desc := "(I)Z" } : Jvm.MethodName)) ∈ lw_all := lw_g (lw_at lw_m4 60 rfl) rfl
theorem q865 : (Jvm.Cond.selects "StrengthenFirst$Order" ({ cls := "StrengthenFirst$Order", name := "has", desc := "(I)Z" } : Jvm.MethodName) ({ cls := "StrengthenFirst$Order", name := "has", desc := "(I)Z" } : Jvm.MethodName)) ∈ lw_all := lw_g (lw_at lw_m4 61 rfl) rfl
theorem q866 : (Jvm.Cond.code ({ cls := "StrengthenFirst$Order", name := "has", desc := "(I)Z" } : Jvm.MethodName) prog_9_method_3_code (3 : Nat) (Option.some Jvm.ClassFile.FieldType.boolean)) ∈ lw_all := lw_g (lw_at lw_m4 62 rfl) rfl
theorem q867 : (Jvm.Cond.methodLink "StrengthenFirst$Saves" (69 : Nat) ({ cls := "StrengthenFirst$Sums", name := "mean", desc := "()J" } : Jvm.MethodName)) ∈ lw_all := lw_g (lw_at lw_m4 63 rfl) rfl
theorem q868 : (Jvm.Cond.instanceMethod ({ cls := "StrengthenFirst$Sums", name := "mean", desc := "()J" } : Jvm.MethodName)) ∈ lw_all := lw_g (lw_at lw_m4 64 rfl) rfl
theorem q869 : (Jvm.Cond.selects "StrengthenFirst$Sums" ({ cls := "StrengthenFirst$Sums", name := "mean", desc := "()J" } : Jvm.MethodName) ({ cls := "StrengthenFirst$Sums", name := "mean", desc := "()J" } : Jvm.MethodName)) ∈ lw_all := lw_g (lw_at lw_m4 65 rfl) rfl
theorem q870 : (Jvm.Cond.code ({ cls := "StrengthenFirst$Sums", name := "mean", desc := "()J" } : Jvm.MethodName) prog_20_method_11_code (7 : Nat) (Option.some Jvm.ClassFile.FieldType.long)) ∈ lw_all := lw_g (lw_at lw_m4 66 rfl) rfl
theorem q871 : (Jvm.Cond.methodLink "StrengthenFirst$Sums" (64 : Nat) ({ cls := "StrengthenFirst$Sums", name := "find", desc := "(I)V" } : Jvm.MethodName)) ∈ lw_all := lw_g (lw_at lw_m4 67 rfl) rfl
theorem q872 : (Jvm.Cond.privateMethod ({ cls := "StrengthenFirst$Sums", name := "find", desc := "(I)V" } : Jvm.MethodName)) ∈ lw_tbl := lw_at lw_m4 68 rfl
theorem q873 : (Jvm.Cond.instanceMethod ({ cls := "StrengthenFirst$Sums", name := "find", desc := "(I)V" } : Jvm.MethodName)) ∈ lw_all := lw_g (lw_at lw_m4 69 rfl) rfl
theorem q874 : (Jvm.Cond.code ({ cls := "StrengthenFirst$Sums", name := "find", desc := "(I)V" } : Jvm.MethodName) prog_20_method_5_code (5 : Nat) (Option.none : Option Jvm.ClassFile.FieldType)) ∈ lw_all := lw_g (lw_at lw_m4 70 rfl) rfl
theorem q875 : (Jvm.Cond.methodLink "StrengthenFirst$Sums" (60 : Nat) ({ cls := "StrengthenFirst$Town", name := "falls", desc := "(LStrengthenFirst$House;I)I" } : Jvm.MethodName)) ∈ lw_all := lw_g (lw_at lw_m4 71 rfl) rfl
theorem q876 : (Jvm.Cond.instanceMethod ({ cls := "StrengthenFirst$Town", name := "falls", desc := "(LStrengthenFirst$House;I)I" } : Jvm.MethodName)) ∈ lw_all := lw_g (lw_at lw_m4 72 rfl) rfl
theorem q877 : (Jvm.Cond.selects "StrengthenFirst$Town" ({ cls := "StrengthenFirst$Town", name := "falls", desc := "(LStrengthenFirst$House;I)I" } : Jvm.MethodName) ({ cls := "StrengthenFirst$Town", name := "falls", desc := "(LStrengthenFirst$House;I)I" } : Jvm.MethodName)) ∈ lw_all := lw_g (lw_at lw_m4 73 rfl) rfl
theorem q878 : (Jvm.Cond.code ({ cls := "StrengthenFirst$Town", name := "falls", desc := "(LStrengthenFirst$House;I)I" } : Jvm.MethodName) prog_22_method_6_code (5 : Nat) (Option.some Jvm.ClassFile.FieldType.int)) ∈ lw_all := lw_g (lw_at lw_m4 74 rfl) rfl
theorem q879 : (Jvm.Cond.methodLink "StrengthenFirst$Town" (82 : Nat) ({ cls := "java/lang/Math", name := "min", desc := "(II)I" } : Jvm.MethodName)) ∈ lw_all := lw_g (lw_at lw_m4 75 rfl) rfl
theorem q880 : (Jvm.Cond.static ({ cls := "java/lang/Math", name := "min", desc := "(II)I" } : Jvm.MethodName)) ∈ lw_all := lw_g (lw_at lw_m4 76 rfl) rfl
theorem q881 : (Jvm.Cond.code ({ cls := "java/lang/Math", name := "min", desc := "(II)I" } : Jvm.MethodName) prog_31_method_69_code (2 : Nat) (Option.some Jvm.ClassFile.FieldType.int)) ∈ lw_all := lw_g (lw_at lw_m4 77 rfl) rfl
theorem q882 : (Jvm.Cond.methodLink "StrengthenFirst$Town" (88 : Nat) ({ cls := "java/lang/Math", name := "max", desc := "(II)I" } : Jvm.MethodName)) ∈ lw_all := lw_g (lw_at lw_m4 78 rfl) rfl
theorem q883 : (Jvm.Cond.static ({ cls := "java/lang/Math", name := "max", desc := "(II)I" } : Jvm.MethodName)) ∈ lw_all := lw_g (lw_at lw_m4 79 rfl) rfl
theorem q884 : (Jvm.Cond.code ({ cls := "java/lang/Math", name := "max", desc := "(II)I" } : Jvm.MethodName) prog_31_method_65_code (2 : Nat) (Option.some Jvm.ClassFile.FieldType.int)) ∈ lw_all := lw_g (lw_at lw_m4 80 rfl) rfl
theorem q885 : (Jvm.Cond.methodLink "StrengthenFirst$Saves" (73 : Nat) ({ cls := "StrengthenFirst$Order", name := "add", desc := "(LStrengthenFirst$House;)V" } : Jvm.MethodName)) ∈ lw_all := lw_g (lw_at lw_m4 81 rfl) rfl
theorem q886 : (Jvm.Cond.instanceMethod ({ cls := "StrengthenFirst$Order", name := "add", desc := "(LStrengthenFirst$House;)V" } : Jvm.MethodName)) ∈ lw_all := lw_g (lw_at lw_m4 82 rfl) rfl
theorem q887 : (Jvm.Cond.selects "StrengthenFirst$Order" ({ cls := "StrengthenFirst$Order", name := "add", desc := "(LStrengthenFirst$House;)V" } : Jvm.MethodName) ({ cls := "StrengthenFirst$Order", name := "add", desc := "(LStrengthenFirst$House;)V" } : Jvm.MethodName)) ∈ lw_all := lw_g (lw_at lw_m4 83 rfl) rfl
theorem q888 : (Jvm.Cond.code ({ cls := "StrengthenFirst$Order", name := "add", desc := "(LStrengthenFirst$House;)V" } : Jvm.MethodName) prog_9_method_2_code (2 : Nat) (Option.none : Option Jvm.ClassFile.FieldType)) ∈ lw_all := lw_g (lw_at lw_m4 84 rfl) rfl
theorem q889 : (Jvm.Cond.methodLink "StrengthenFirst$Saves" (52 : Nat) ({ cls := "StrengthenFirst$Saves", name := "fill", desc := "(LStrengthenFirst$Town;LStrengthenFirst$Order;)V" } : Jvm.MethodName)) ∈ lw_all := lw_g (lw_at lw_m4 85 rfl) rfl
theorem q890 : (Jvm.Cond.sameMethod "StrengthenFirst$Saves" "StrengthenFirst$Rule" "fill" "(LStrengthenFirst$Town;LStrengthenFirst$Order;)V") ∈ lw_all := lw_g (lw_at lw_m4 86 rfl) rfl
theorem q891 : (Jvm.Cond.declares ({ cls := "StrengthenFirst$Rule", name := "fill", desc := "(LStrengthenFirst$Town;LStrengthenFirst$Order;)V" } : Jvm.MethodName)) ∈ lw_tbl := lw_at lw_m4 87 rfl
theorem q892 : (Jvm.Cond.selects "StrengthenFirst$Saves" ({ cls := "StrengthenFirst$Saves", name := "fill", desc := "(LStrengthenFirst$Town;LStrengthenFirst$Order;)V" } : Jvm.MethodName) ({ cls := "StrengthenFirst$Rule", name := "fill", desc := "(LStrengthenFirst$Town;LStrengthenFirst$Order;)V" } : Jvm.MethodName)) ∈ lw_all := lw_g (lw_at lw_m4 88 rfl) rfl
theorem q893 : (Jvm.Cond.instanceMethod ({ cls := "StrengthenFirst$Rule", name := "fill", desc := "(LStrengthenFirst$Town;LStrengthenFirst$Order;)V" } : Jvm.MethodName)) ∈ lw_all := lw_g (lw_at lw_m4 89 rfl) rfl
theorem q894 : (Jvm.Cond.code ({ cls := "StrengthenFirst$Rule", name := "fill", desc := "(LStrengthenFirst$Town;LStrengthenFirst$Order;)V" } : Jvm.MethodName) prog_15_method_5_code (8 : Nat) (Option.none : Option Jvm.ClassFile.FieldType)) ∈ lw_all := lw_g (lw_at lw_m4 90 rfl) rfl
theorem q895 : (Jvm.Cond.methodLink "StrengthenFirst$Rule" (39 : Nat) ({ cls := "StrengthenFirst$Order", name := "has", desc := "(I)Z" } : Jvm.MethodName)) ∈ lw_all := lw_g (lw_at lw_m4 91 rfl) rfl
theorem q896 : (Jvm.Cond.methodLink "StrengthenFirst$Rule" (43 : Nat) ({ cls := "StrengthenFirst$Rule", name := "isAhead", desc := "(LStrengthenFirst$Town;LStrengthenFirst$House;LStrengthenFirst$House;)Z" } : Jvm.MethodName)) ∈ lw_all := lw_g (lw_at lw_m4 92 rfl) rfl
theorem q897 : (Jvm.Cond.instanceMethod ({ cls := "StrengthenFirst$Rule", name := "isAhead", desc := "(LStrengthenFirst$Town;LStrengthenFirst$House;LStrengthenFirst$House;)Z" } : Jvm.MethodName)) ∈ lw_all := lw_g (lw_at lw_m4 93 rfl) rfl
theorem q898 : (Jvm.Cond.selects "StrengthenFirst$Rule" ({ cls := "StrengthenFirst$Rule", name := "isAhead", desc := "(LStrengthenFirst$Town;LStrengthenFirst$House;LStrengthenFirst$House;)Z" } : Jvm.MethodName) ({ cls := "StrengthenFirst$Rule", name := "isAhead", desc := "(LStrengthenFirst$Town;LStrengthenFirst$House;LStrengthenFirst$House;)Z" } : Jvm.MethodName)) ∈ lw_all := lw_g (lw_at lw_m4 94 rfl) rfl
theorem q899 : (Jvm.Cond.sameMethod "StrengthenFirst$Rule" "StrengthenFirst$Rule" "isAhead" "(LStrengthenFirst$Town;LStrengthenFirst$House;LStrengthenFirst$House;)Z") ∈ lw_all := lw_g (lw_at lw_m4 95 rfl) rfl
theorem q900 : (Jvm.Cond.selects "StrengthenFirst$Full" ({ cls := "StrengthenFirst$Rule", name := "isAhead", desc := "(LStrengthenFirst$Town;LStrengthenFirst$House;LStrengthenFirst$House;)Z" } : Jvm.MethodName) ({ cls := "StrengthenFirst$Full", name := "isAhead", desc := "(LStrengthenFirst$Town;LStrengthenFirst$House;LStrengthenFirst$House;)Z" } : Jvm.MethodName)) ∈ lw_all := lw_g (lw_at lw_m4 96 rfl) rfl
theorem q901 : (Jvm.Cond.instanceMethod ({ cls := "StrengthenFirst$Full", name := "isAhead", desc := "(LStrengthenFirst$Town;LStrengthenFirst$House;LStrengthenFirst$House;)Z" } : Jvm.MethodName)) ∈ lw_all := lw_g (lw_at lw_m4 97 rfl) rfl
theorem q902 : (Jvm.Cond.code ({ cls := "StrengthenFirst$Full", name := "isAhead", desc := "(LStrengthenFirst$Town;LStrengthenFirst$House;LStrengthenFirst$House;)Z" } : Jvm.MethodName) prog_5_method_3_code (4 : Nat) (Option.some Jvm.ClassFile.FieldType.boolean)) ∈ lw_all := lw_g (lw_at lw_m4 98 rfl) rfl
theorem q903 : (Jvm.Cond.methodLink "StrengthenFirst$Full" (9 : Nat) ({ cls := "StrengthenFirst$Town", name := "people", desc := "(LStrengthenFirst$House;)I" } : Jvm.MethodName)) ∈ lw_all := lw_g (lw_at lw_m4 99 rfl) rfl
theorem q904 : (Jvm.Cond.instanceMethod ({ cls := "StrengthenFirst$Town", name := "people", desc := "(LStrengthenFirst$House;)I" } : Jvm.MethodName)) ∈ lw_all := lw_g (lw_at lw_m4 100 rfl) rfl
theorem q905 : (Jvm.Cond.selects "StrengthenFirst$Town" ({ cls := "StrengthenFirst$Town", name := "people", desc := "(LStrengthenFirst$House;)I" } : Jvm.MethodName) ({ cls := "StrengthenFirst$Town", name := "people", desc := "(LStrengthenFirst$House;)I" } : Jvm.MethodName)) ∈ lw_all := lw_g (lw_at lw_m4 101 rfl) rfl
theorem q906 : (Jvm.Cond.code ({ cls := "StrengthenFirst$Town", name := "people", desc := "(LStrengthenFirst$House;)I" } : Jvm.MethodName) prog_22_method_7_code (2 : Nat) (Option.some Jvm.ClassFile.FieldType.int)) ∈ lw_all := lw_g (lw_at lw_m4 102 rfl) rfl
theorem q907 : (Jvm.Cond.selects "StrengthenFirst$Prop" ({ cls := "StrengthenFirst$Rule", name := "isAhead", desc := "(LStrengthenFirst$Town;LStrengthenFirst$House;LStrengthenFirst$House;)Z" } : Jvm.MethodName) ({ cls := "StrengthenFirst$Prop", name := "isAhead", desc := "(LStrengthenFirst$Town;LStrengthenFirst$House;LStrengthenFirst$House;)Z" } : Jvm.MethodName)) ∈ lw_all := lw_g (lw_at lw_m4 103 rfl) rfl
theorem q908 : (Jvm.Cond.instanceMethod ({ cls := "StrengthenFirst$Prop", name := "isAhead", desc := "(LStrengthenFirst$Town;LStrengthenFirst$House;LStrengthenFirst$House;)Z" } : Jvm.MethodName)) ∈ lw_all := lw_g (lw_at lw_m4 104 rfl) rfl
theorem q909 : (Jvm.Cond.code ({ cls := "StrengthenFirst$Prop", name := "isAhead", desc := "(LStrengthenFirst$Town;LStrengthenFirst$House;LStrengthenFirst$House;)Z" } : Jvm.MethodName) prog_11_method_3_code (4 : Nat) (Option.some Jvm.ClassFile.FieldType.boolean)) ∈ lw_all := lw_g (lw_at lw_m4 105 rfl) rfl
theorem q910 : (Jvm.Cond.methodLink "StrengthenFirst$Prop" (15 : Nat) ({ cls := "StrengthenFirst$Weak", name := "isAhead", desc := "(LStrengthenFirst$Town;LStrengthenFirst$House;LStrengthenFirst$House;)Z" } : Jvm.MethodName)) ∈ lw_all := lw_g (lw_at lw_m4 106 rfl) rfl
theorem q911 : (Jvm.Cond.instanceMethod ({ cls := "StrengthenFirst$Weak", name := "isAhead", desc := "(LStrengthenFirst$Town;LStrengthenFirst$House;LStrengthenFirst$House;)Z" } : Jvm.MethodName)) ∈ lw_all := lw_g (lw_at lw_m4 107 rfl) rfl
theorem q912 : (Jvm.Cond.code ({ cls := "StrengthenFirst$Weak", name := "isAhead", desc := "(LStrengthenFirst$Town;LStrengthenFirst$House;LStrengthenFirst$House;)Z" } : Jvm.MethodName) prog_24_method_3_code (4 : Nat) (Option.some Jvm.ClassFile.FieldType.boolean)) ∈ lw_all := lw_g (lw_at lw_m4 108 rfl) rfl
theorem q913 : (Jvm.Cond.selects "StrengthenFirst$Saves" ({ cls := "StrengthenFirst$Rule", name := "isAhead", desc := "(LStrengthenFirst$Town;LStrengthenFirst$House;LStrengthenFirst$House;)Z" } : Jvm.MethodName) ({ cls := "StrengthenFirst$Rule", name := "isAhead", desc := "(LStrengthenFirst$Town;LStrengthenFirst$House;LStrengthenFirst$House;)Z" } : Jvm.MethodName)) ∈ lw_all := lw_g (lw_at lw_m4 109 rfl) rfl
theorem q914 : (Jvm.Cond.selects "StrengthenFirst$Street" ({ cls := "StrengthenFirst$Rule", name := "isAhead", desc := "(LStrengthenFirst$Town;LStrengthenFirst$House;LStrengthenFirst$House;)Z" } : Jvm.MethodName) ({ cls := "StrengthenFirst$Street", name := "isAhead", desc := "(LStrengthenFirst$Town;LStrengthenFirst$House;LStrengthenFirst$House;)Z" } : Jvm.MethodName)) ∈ lw_all := lw_g (lw_at lw_m4 110 rfl) rfl
theorem q915 : (Jvm.Cond.instanceMethod ({ cls := "StrengthenFirst$Street", name := "isAhead", desc := "(LStrengthenFirst$Town;LStrengthenFirst$House;LStrengthenFirst$House;)Z" } : Jvm.MethodName)) ∈ lw_all := lw_g (lw_at lw_m4 111 rfl) rfl
theorem q916 : (Jvm.Cond.code ({ cls := "StrengthenFirst$Street", name := "isAhead", desc := "(LStrengthenFirst$Town;LStrengthenFirst$House;LStrengthenFirst$House;)Z" } : Jvm.MethodName) prog_19_method_3_code (6 : Nat) (Option.some Jvm.ClassFile.FieldType.boolean)) ∈ lw_all := lw_g (lw_at lw_m4 112 rfl) rfl
theorem q917 : (Jvm.Cond.methodLink "StrengthenFirst$Street" (15 : Nat) ({ cls := "StrengthenFirst$Full", name := "isAhead", desc := "(LStrengthenFirst$Town;LStrengthenFirst$House;LStrengthenFirst$House;)Z" } : Jvm.MethodName)) ∈ lw_all := lw_g (lw_at lw_m4 113 rfl) rfl
theorem q918 : (Jvm.Cond.selects "StrengthenFirst$Told" ({ cls := "StrengthenFirst$Rule", name := "isAhead", desc := "(LStrengthenFirst$Town;LStrengthenFirst$House;LStrengthenFirst$House;)Z" } : Jvm.MethodName) ({ cls := "StrengthenFirst$Rule", name := "isAhead", desc := "(LStrengthenFirst$Town;LStrengthenFirst$House;LStrengthenFirst$House;)Z" } : Jvm.MethodName)) ∈ lw_all := lw_g (lw_at lw_m4 114 rfl) rfl
theorem q919 : (Jvm.Cond.selects "StrengthenFirst$Weak" ({ cls := "StrengthenFirst$Rule", name := "isAhead", desc := "(LStrengthenFirst$Town;LStrengthenFirst$House;LStrengthenFirst$House;)Z" } : Jvm.MethodName) ({ cls := "StrengthenFirst$Weak", name := "isAhead", desc := "(LStrengthenFirst$Town;LStrengthenFirst$House;LStrengthenFirst$House;)Z" } : Jvm.MethodName)) ∈ lw_all := lw_g (lw_at lw_m4 115 rfl) rfl
theorem q920 : (Jvm.Cond.code ({ cls := "StrengthenFirst$Rule", name := "isAhead", desc := "(LStrengthenFirst$Town;LStrengthenFirst$House;LStrengthenFirst$House;)Z" } : Jvm.MethodName) prog_15_method_3_code (4 : Nat) (Option.some Jvm.ClassFile.FieldType.boolean)) ∈ lw_all := lw_g (lw_at lw_m4 116 rfl) rfl
theorem q921 : (Jvm.Cond.methodLink "StrengthenFirst$Rule" (47 : Nat) ({ cls := "StrengthenFirst$Order", name := "add", desc := "(LStrengthenFirst$House;)V" } : Jvm.MethodName)) ∈ lw_all := lw_g (lw_at lw_m4 117 rfl) rfl
theorem q922 : (Jvm.Cond.selects "StrengthenFirst$Street" ({ cls := "StrengthenFirst$Rule", name := "order", desc := "(LStrengthenFirst$Town;LStrengthenFirst$Sums;)LStrengthenFirst$Order;" } : Jvm.MethodName) ({ cls := "StrengthenFirst$Rule", name := "order", desc := "(LStrengthenFirst$Town;LStrengthenFirst$Sums;)LStrengthenFirst$Order;" } : Jvm.MethodName)) ∈ lw_all := lw_g (lw_at lw_m4 118 rfl) rfl
theorem q923 : (Jvm.Cond.selects "StrengthenFirst$Told" ({ cls := "StrengthenFirst$Rule", name := "order", desc := "(LStrengthenFirst$Town;LStrengthenFirst$Sums;)LStrengthenFirst$Order;" } : Jvm.MethodName) ({ cls := "StrengthenFirst$Told", name := "order", desc := "(LStrengthenFirst$Town;LStrengthenFirst$Sums;)LStrengthenFirst$Order;" } : Jvm.MethodName)) ∈ lw_all := lw_g (lw_at lw_m4 119 rfl) rfl
theorem q924 : (Jvm.Cond.instanceMethod ({ cls := "StrengthenFirst$Told", name := "order", desc := "(LStrengthenFirst$Town;LStrengthenFirst$Sums;)LStrengthenFirst$Order;" } : Jvm.MethodName)) ∈ lw_all := lw_g (lw_at lw_m4 120 rfl) rfl
theorem q925 : (Jvm.Cond.code ({ cls := "StrengthenFirst$Told", name := "order", desc := "(LStrengthenFirst$Town;LStrengthenFirst$Sums;)LStrengthenFirst$Order;" } : Jvm.MethodName) prog_21_method_3_code (9 : Nat) (Option.some (Jvm.ClassFile.FieldType.object "StrengthenFirst$Order"))) ∈ lw_all := lw_g (lw_at lw_m4 121 rfl) rfl
theorem q926 : (Jvm.Cond.classLink "StrengthenFirst$Told" (15 : Nat) "StrengthenFirst$Order") ∈ lw_all := lw_g (lw_at lw_m4 122 rfl) rfl
theorem q927 : (Jvm.Cond.methodLink "StrengthenFirst$Told" (17 : Nat) ({ cls := "StrengthenFirst$Order", name := "<init>", desc := "()V" } : Jvm.MethodName)) ∈ lw_all := lw_g (lw_at lw_m4 123 rfl) rfl
theorem q928 : (Jvm.Cond.methodLink "StrengthenFirst$Told" (26 : Nat) ({ cls := "StrengthenFirst", name := "in", desc := "(JJJ)Z" } : Jvm.MethodName)) ∈ lw_all := lw_g (lw_at lw_m4 124 rfl) rfl
theorem q929 : (Jvm.Cond.methodLink "StrengthenFirst$Told" (39 : Nat) ({ cls := "StrengthenFirst$Order", name := "has", desc := "(I)Z" } : Jvm.MethodName)) ∈ lw_all := lw_g (lw_at lw_m4 125 rfl) rfl
theorem q930 : (Jvm.Cond.methodLink "StrengthenFirst$Told" (43 : Nat) ({ cls := "StrengthenFirst$Order", name := "add", desc := "(LStrengthenFirst$House;)V" } : Jvm.MethodName)) ∈ lw_all := lw_g (lw_at lw_m4 126 rfl) rfl
theorem q931 : (Jvm.Cond.methodLink "StrengthenFirst$Told" (47 : Nat) ({ cls := "StrengthenFirst$Told", name := "fill", desc := "(LStrengthenFirst$Town;LStrengthenFirst$Order;)V" } : Jvm.MethodName)) ∈ lw_all := lw_g (lw_at lw_m4 127 rfl) rfl
theorem q932 : (Jvm.Cond.sameMethod "StrengthenFirst$Told" "StrengthenFirst$Rule" "fill" "(LStrengthenFirst$Town;LStrengthenFirst$Order;)V") ∈ lw_all := lw_g (lw_at lw_m4 128 rfl) rfl
theorem q933 : (Jvm.Cond.selects "StrengthenFirst$Told" ({ cls := "StrengthenFirst$Told", name := "fill", desc := "(LStrengthenFirst$Town;LStrengthenFirst$Order;)V" } : Jvm.MethodName) ({ cls := "StrengthenFirst$Rule", name := "fill", desc := "(LStrengthenFirst$Town;LStrengthenFirst$Order;)V" } : Jvm.MethodName)) ∈ lw_all := lw_g (lw_at lw_m4 129 rfl) rfl
theorem q934 : (Jvm.Cond.selects "StrengthenFirst$Weak" ({ cls := "StrengthenFirst$Rule", name := "order", desc := "(LStrengthenFirst$Town;LStrengthenFirst$Sums;)LStrengthenFirst$Order;" } : Jvm.MethodName) ({ cls := "StrengthenFirst$Rule", name := "order", desc := "(LStrengthenFirst$Town;LStrengthenFirst$Sums;)LStrengthenFirst$Order;" } : Jvm.MethodName)) ∈ lw_all := lw_g (lw_at lw_m4 130 rfl) rfl
theorem q935 : (Jvm.Cond.code ({ cls := "StrengthenFirst$Rule", name := "order", desc := "(LStrengthenFirst$Town;LStrengthenFirst$Sums;)LStrengthenFirst$Order;" } : Jvm.MethodName) prog_15_method_4_code (4 : Nat) (Option.some (Jvm.ClassFile.FieldType.object "StrengthenFirst$Order"))) ∈ lw_all := lw_g (lw_at lw_m4 131 rfl) rfl
theorem q936 : (Jvm.Cond.classLink "StrengthenFirst$Rule" (18 : Nat) "StrengthenFirst$Order") ∈ lw_all := lw_g (lw_at lw_m4 132 rfl) rfl
theorem q937 : (Jvm.Cond.methodLink "StrengthenFirst$Rule" (20 : Nat) ({ cls := "StrengthenFirst$Order", name := "<init>", desc := "()V" } : Jvm.MethodName)) ∈ lw_all := lw_g (lw_at lw_m4 133 rfl) rfl
theorem q938 : (Jvm.Cond.methodLink "StrengthenFirst$Rule" (21 : Nat) ({ cls := "StrengthenFirst$Rule", name := "fill", desc := "(LStrengthenFirst$Town;LStrengthenFirst$Order;)V" } : Jvm.MethodName)) ∈ lw_all := lw_g (lw_at lw_m4 134 rfl) rfl
theorem q939 : (Jvm.Cond.classLink "StrengthenFirst$Shelf" (36 : Nat) "StrengthenFirst$Weak") ∈ lw_all := lw_g (lw_at lw_m4 135 rfl) rfl
theorem q940 : (Jvm.Cond.methodLink "StrengthenFirst$Shelf" (38 : Nat) ({ cls := "StrengthenFirst$Weak", name := "lastOf", desc := "(LStrengthenFirst$Town;LStrengthenFirst$Sums;)I" } : Jvm.MethodName)) ∈ lw_all := lw_g (lw_at lw_m4 136 rfl) rfl
theorem q941 : (Jvm.Cond.sameMethod "StrengthenFirst$Weak" "StrengthenFirst$Rule" "lastOf" "(LStrengthenFirst$Town;LStrengthenFirst$Sums;)I") ∈ lw_all := lw_g (lw_at lw_m4 137 rfl) rfl
theorem q942 : (Jvm.Cond.declares ({ cls := "StrengthenFirst$Rule", name := "lastOf", desc := "(LStrengthenFirst$Town;LStrengthenFirst$Sums;)I" } : Jvm.MethodName)) ∈ lw_tbl := lw_at lw_m4 138 rfl
theorem q943 : (Jvm.Cond.selects "StrengthenFirst$Prop" ({ cls := "StrengthenFirst$Weak", name := "lastOf", desc := "(LStrengthenFirst$Town;LStrengthenFirst$Sums;)I" } : Jvm.MethodName) ({ cls := "StrengthenFirst$Rule", name := "lastOf", desc := "(LStrengthenFirst$Town;LStrengthenFirst$Sums;)I" } : Jvm.MethodName)) ∈ lw_all := lw_g (lw_at lw_m4 139 rfl) rfl
theorem q944 : (Jvm.Cond.selects "StrengthenFirst$Weak" ({ cls := "StrengthenFirst$Weak", name := "lastOf", desc := "(LStrengthenFirst$Town;LStrengthenFirst$Sums;)I" } : Jvm.MethodName) ({ cls := "StrengthenFirst$Rule", name := "lastOf", desc := "(LStrengthenFirst$Town;LStrengthenFirst$Sums;)I" } : Jvm.MethodName)) ∈ lw_all := lw_g (lw_at lw_m4 140 rfl) rfl
theorem q945 : (Jvm.Cond.instanceMethod ({ cls := "StrengthenFirst$Rule", name := "lastOf", desc := "(LStrengthenFirst$Town;LStrengthenFirst$Sums;)I" } : Jvm.MethodName)) ∈ lw_all := lw_g (lw_at lw_m4 141 rfl) rfl
theorem q946 : (Jvm.Cond.code ({ cls := "StrengthenFirst$Rule", name := "lastOf", desc := "(LStrengthenFirst$Town;LStrengthenFirst$Sums;)I" } : Jvm.MethodName) prog_15_method_8_code (4 : Nat) (Option.some Jvm.ClassFile.FieldType.int)) ∈ lw_all := lw_g (lw_at lw_m4 142 rfl) rfl
theorem q947 : (Jvm.Cond.classLink "StrengthenFirst$Shelf" (41 : Nat) "StrengthenFirst$Street") ∈ lw_all := lw_g (lw_at lw_m4 143 rfl) rfl
theorem q948 : (Jvm.Cond.methodLink "StrengthenFirst$Shelf" (43 : Nat) ({ cls := "StrengthenFirst$Street", name := "firstOf", desc := "(LStrengthenFirst$Town;LStrengthenFirst$Sums;)I" } : Jvm.MethodName)) ∈ lw_all := lw_g (lw_at lw_m4 144 rfl) rfl
theorem q949 : (Jvm.Cond.sameMethod "StrengthenFirst$Street" "StrengthenFirst$Rule" "firstOf" "(LStrengthenFirst$Town;LStrengthenFirst$Sums;)I") ∈ lw_all := lw_g (lw_at lw_m4 145 rfl) rfl
theorem q950 : (Jvm.Cond.selects "StrengthenFirst$Street" ({ cls := "StrengthenFirst$Street", name := "firstOf", desc := "(LStrengthenFirst$Town;LStrengthenFirst$Sums;)I" } : Jvm.MethodName) ({ cls := "StrengthenFirst$Rule", name := "firstOf", desc := "(LStrengthenFirst$Town;LStrengthenFirst$Sums;)I" } : Jvm.MethodName)) ∈ lw_all := lw_g (lw_at lw_m4 146 rfl) rfl
theorem q951 : (Jvm.Cond.classLink "StrengthenFirst$Shelf" (44 : Nat) "StrengthenFirst$Saves") ∈ lw_all := lw_g (lw_at lw_m4 147 rfl) rfl
theorem q952 : (Jvm.Cond.methodLink "StrengthenFirst$Shelf" (46 : Nat) ({ cls := "StrengthenFirst$Saves", name := "cheap", desc := "(LStrengthenFirst$Town;)I" } : Jvm.MethodName)) ∈ lw_all := lw_g (lw_at lw_m4 148 rfl) rfl
theorem q953 : (Jvm.Cond.instanceMethod ({ cls := "StrengthenFirst$Saves", name := "cheap", desc := "(LStrengthenFirst$Town;)I" } : Jvm.MethodName)) ∈ lw_all := lw_g (lw_at lw_m4 149 rfl) rfl
theorem q954 : (Jvm.Cond.selects "StrengthenFirst$Saves" ({ cls := "StrengthenFirst$Saves", name := "cheap", desc := "(LStrengthenFirst$Town;)I" } : Jvm.MethodName) ({ cls := "StrengthenFirst$Saves", name := "cheap", desc := "(LStrengthenFirst$Town;)I" } : Jvm.MethodName)) ∈ lw_all := lw_g (lw_at lw_m4 150 rfl) rfl
theorem q955 : (Jvm.Cond.code ({ cls := "StrengthenFirst$Saves", name := "cheap", desc := "(LStrengthenFirst$Town;)I" } : Jvm.MethodName) prog_16_method_5_code (4 : Nat) (Option.some Jvm.ClassFile.FieldType.int)) ∈ lw_all := lw_g (lw_at lw_m4 151 rfl) rfl
theorem q956 : (Jvm.Cond.classLink "StrengthenFirst$Shelf" (50 : Nat) "StrengthenFirst$Prop") ∈ lw_all := lw_g (lw_at lw_m4 152 rfl) rfl
theorem q957 : (Jvm.Cond.methodLink "StrengthenFirst$Shelf" (52 : Nat) ({ cls := "StrengthenFirst$Prop", name := "lastOf", desc := "(LStrengthenFirst$Town;LStrengthenFirst$Sums;)I" } : Jvm.MethodName)) ∈ lw_all := lw_g (lw_at lw_m4 153 rfl) rfl
theorem q958 : (Jvm.Cond.sameMethod "StrengthenFirst$Prop" "StrengthenFirst$Rule" "lastOf" "(LStrengthenFirst$Town;LStrengthenFirst$Sums;)I") ∈ lw_all := lw_g (lw_at lw_m4 154 rfl) rfl
theorem q959 : (Jvm.Cond.selects "StrengthenFirst$Prop" ({ cls := "StrengthenFirst$Prop", name := "lastOf", desc := "(LStrengthenFirst$Town;LStrengthenFirst$Sums;)I" } : Jvm.MethodName) ({ cls := "StrengthenFirst$Rule", name := "lastOf", desc := "(LStrengthenFirst$Town;LStrengthenFirst$Sums;)I" } : Jvm.MethodName)) ∈ lw_all := lw_g (lw_at lw_m4 155 rfl) rfl
theorem q960 : (Jvm.Cond.classLink "StrengthenFirst$Shelf" (53 : Nat) "StrengthenFirst$Told") ∈ lw_all := lw_g (lw_at lw_m4 156 rfl) rfl
theorem q961 : (Jvm.Cond.methodLink "StrengthenFirst$Shelf" (55 : Nat) ({ cls := "StrengthenFirst$Told", name := "many", desc := "()I" } : Jvm.MethodName)) ∈ lw_all := lw_g (lw_at lw_m4 157 rfl) rfl
theorem q962 : (Jvm.Cond.instanceMethod ({ cls := "StrengthenFirst$Told", name := "many", desc := "()I" } : Jvm.MethodName)) ∈ lw_all := lw_g (lw_at lw_m4 158 rfl) rfl
theorem q963 : (Jvm.Cond.selects "StrengthenFirst$Told" ({ cls := "StrengthenFirst$Told", name := "many", desc := "()I" } : Jvm.MethodName) ({ cls := "StrengthenFirst$Told", name := "many", desc := "()I" } : Jvm.MethodName)) ∈ lw_all := lw_g (lw_at lw_m4 159 rfl) rfl
theorem q964 : (Jvm.Cond.code ({ cls := "StrengthenFirst$Told", name := "many", desc := "()I" } : Jvm.MethodName) prog_21_method_4_code (1 : Nat) (Option.some Jvm.ClassFile.FieldType.int)) ∈ lw_all := lw_g (lw_at lw_m4 160 rfl) rfl
theorem q965 : (Jvm.Cond.methodLink "StrengthenFirst$Shelf" (59 : Nat) ({ cls := "StrengthenFirst$Rule", name := "said", desc := "()I" } : Jvm.MethodName)) ∈ lw_all := lw_g (lw_at lw_m4 161 rfl) rfl
theorem q966 : (Jvm.Cond.instanceMethod ({ cls := "StrengthenFirst$Rule", name := "said", desc := "()I" } : Jvm.MethodName)) ∈ lw_all := lw_g (lw_at lw_m4 162 rfl) rfl
theorem q967 : (Jvm.Cond.selects "StrengthenFirst$Rule" ({ cls := "StrengthenFirst$Rule", name := "said", desc := "()I" } : Jvm.MethodName) ({ cls := "StrengthenFirst$Rule", name := "said", desc := "()I" } : Jvm.MethodName)) ∈ lw_all := lw_g (lw_at lw_m4 163 rfl) rfl
theorem q968 : (Jvm.Cond.sameMethod "StrengthenFirst$Rule" "StrengthenFirst$Rule" "said" "()I") ∈ lw_all := lw_g (lw_at lw_m4 164 rfl) rfl
theorem q969 : (Jvm.Cond.selects "StrengthenFirst$Full" ({ cls := "StrengthenFirst$Rule", name := "said", desc := "()I" } : Jvm.MethodName) ({ cls := "StrengthenFirst$Rule", name := "said", desc := "()I" } : Jvm.MethodName)) ∈ lw_all := lw_g (lw_at lw_m4 165 rfl) rfl
theorem q970 : (Jvm.Cond.selects "StrengthenFirst$Prop" ({ cls := "StrengthenFirst$Rule", name := "said", desc := "()I" } : Jvm.MethodName) ({ cls := "StrengthenFirst$Rule", name := "said", desc := "()I" } : Jvm.MethodName)) ∈ lw_all := lw_g (lw_at lw_m4 166 rfl) rfl
theorem q971 : (Jvm.Cond.selects "StrengthenFirst$Saves" ({ cls := "StrengthenFirst$Rule", name := "said", desc := "()I" } : Jvm.MethodName) ({ cls := "StrengthenFirst$Rule", name := "said", desc := "()I" } : Jvm.MethodName)) ∈ lw_all := lw_g (lw_at lw_m4 167 rfl) rfl
theorem q972 : (Jvm.Cond.selects "StrengthenFirst$Street" ({ cls := "StrengthenFirst$Rule", name := "said", desc := "()I" } : Jvm.MethodName) ({ cls := "StrengthenFirst$Rule", name := "said", desc := "()I" } : Jvm.MethodName)) ∈ lw_all := lw_g (lw_at lw_m4 168 rfl) rfl
theorem q973 : (Jvm.Cond.selects "StrengthenFirst$Told" ({ cls := "StrengthenFirst$Rule", name := "said", desc := "()I" } : Jvm.MethodName) ({ cls := "StrengthenFirst$Rule", name := "said", desc := "()I" } : Jvm.MethodName)) ∈ lw_all := lw_g (lw_at lw_m4 169 rfl) rfl
theorem q974 : (Jvm.Cond.selects "StrengthenFirst$Weak" ({ cls := "StrengthenFirst$Rule", name := "said", desc := "()I" } : Jvm.MethodName) ({ cls := "StrengthenFirst$Rule", name := "said", desc := "()I" } : Jvm.MethodName)) ∈ lw_all := lw_g (lw_at lw_m4 170 rfl) rfl
theorem q975 : (Jvm.Cond.code ({ cls := "StrengthenFirst$Rule", name := "said", desc := "()I" } : Jvm.MethodName) prog_15_method_6_code (1 : Nat) (Option.some Jvm.ClassFile.FieldType.int)) ∈ lw_all := lw_g (lw_at lw_m4 171 rfl) rfl
theorem q976 : (Jvm.Cond.methodLink "StrengthenFirstLaw" (49 : Nat) ({ cls := "StrengthenFirst", name := "street", desc := "(II)I" } : Jvm.MethodName)) ∈ lw_all := lw_g (lw_at lw_m4 172 rfl) rfl
theorem q977 : (Jvm.Cond.instanceMethod ({ cls := "StrengthenFirst", name := "street", desc := "(II)I" } : Jvm.MethodName)) ∈ lw_all := lw_g (lw_at lw_m4 173 rfl) rfl
theorem q978 : (Jvm.Cond.selects "StrengthenFirst" ({ cls := "StrengthenFirst", name := "street", desc := "(II)I" } : Jvm.MethodName) ({ cls := "StrengthenFirst", name := "street", desc := "(II)I" } : Jvm.MethodName)) ∈ lw_all := lw_g (lw_at lw_m4 174 rfl) rfl
theorem q979 : (Jvm.Cond.codeWith ({ cls := "StrengthenFirst", name := "street", desc := "(II)I" } : Jvm.MethodName) prog_1_method_23_code (4 : Nat) (Option.some Jvm.ClassFile.FieldType.int) [((0 : Nat), (78 : Nat), (79 : Nat), (21 : Nat))]) ∈ lw_all := lw_g (lw_at lw_m4 175 rfl) rfl
theorem q980 : (Jvm.Cond.methodLink "StrengthenFirst" (208 : Nat) ({ cls := "StrengthenFirst", name := "isCorner", desc := "(I)Z" } : Jvm.MethodName)) ∈ lw_all := lw_g (lw_at lw_m4 176 rfl) rfl
theorem q981 : (Jvm.Cond.static ({ cls := "StrengthenFirst", name := "isCorner", desc := "(I)Z" } : Jvm.MethodName)) ∈ lw_all := lw_g (lw_at lw_m4 177 rfl) rfl
theorem q982 : (Jvm.Cond.code ({ cls := "StrengthenFirst", name := "isCorner", desc := "(I)Z" } : Jvm.MethodName) prog_1_method_11_code (1 : Nat) (Option.some Jvm.ClassFile.FieldType.boolean)) ∈ lw_all := lw_g (lw_at lw_m4 178 rfl) rfl
theorem q983 : (Jvm.Cond.constantLong "StrengthenFirst" (97 : Nat) (7 : Int64)) ∈ lw_all := lw_g (lw_at lw_m4 179 rfl) rfl
theorem q984 : (Jvm.Cond.methodLink "StrengthenFirst" (214 : Nat) ({ cls := "StrengthenFirst$Town", name := "addStreet", desc := "(II)V" } : Jvm.MethodName)) ∈ lw_all := lw_g (lw_at lw_m4 180 rfl) rfl
theorem q985 : (Jvm.Cond.instanceMethod ({ cls := "StrengthenFirst$Town", name := "addStreet", desc := "(II)V" } : Jvm.MethodName)) ∈ lw_all := lw_g (lw_at lw_m4 181 rfl) rfl
theorem q986 : (Jvm.Cond.selects "StrengthenFirst$Town" ({ cls := "StrengthenFirst$Town", name := "addStreet", desc := "(II)V" } : Jvm.MethodName) ({ cls := "StrengthenFirst$Town", name := "addStreet", desc := "(II)V" } : Jvm.MethodName)) ∈ lw_all := lw_g (lw_at lw_m4 182 rfl) rfl
theorem q987 : (Jvm.Cond.code ({ cls := "StrengthenFirst$Town", name := "addStreet", desc := "(II)V" } : Jvm.MethodName) prog_22_method_3_code (3 : Nat) (Option.none : Option Jvm.ClassFile.FieldType)) ∈ lw_all := lw_g (lw_at lw_m4 183 rfl) rfl
theorem q988 : (Jvm.Cond.methodLink "StrengthenFirstLaw" (53 : Nat) ({ cls := "StrengthenFirst", name := "house", desc := "(IIIII)I" } : Jvm.MethodName)) ∈ lw_all := lw_g (lw_at lw_m4 184 rfl) rfl
theorem q989 : (Jvm.Cond.instanceMethod ({ cls := "StrengthenFirst", name := "house", desc := "(IIIII)I" } : Jvm.MethodName)) ∈ lw_all := lw_g (lw_at lw_m4 185 rfl) rfl
theorem q990 : (Jvm.Cond.selects "StrengthenFirst" ({ cls := "StrengthenFirst", name := "house", desc := "(IIIII)I" } : Jvm.MethodName) ({ cls := "StrengthenFirst", name := "house", desc := "(IIIII)I" } : Jvm.MethodName)) ∈ lw_all := lw_g (lw_at lw_m4 186 rfl) rfl
theorem q991 : (Jvm.Cond.codeWith ({ cls := "StrengthenFirst", name := "house", desc := "(IIIII)I" } : Jvm.MethodName) prog_1_method_25_code (7 : Nat) (Option.some Jvm.ClassFile.FieldType.int) [((0 : Nat), (11 : Nat), (12 : Nat), (21 : Nat))]) ∈ lw_all := lw_g (lw_at lw_m4 187 rfl) rfl
theorem q992 : (Jvm.Cond.methodLink "StrengthenFirst" (230 : Nat) ({ cls := "StrengthenFirst", name := "add", desc := "(IIIII)I" } : Jvm.MethodName)) ∈ lw_all := lw_g (lw_at lw_m4 188 rfl) rfl
theorem q993 : (Jvm.Cond.privateMethod ({ cls := "StrengthenFirst", name := "add", desc := "(IIIII)I" } : Jvm.MethodName)) ∈ lw_tbl := lw_at lw_m4 189 rfl
theorem q994 : (Jvm.Cond.instanceMethod ({ cls := "StrengthenFirst", name := "add", desc := "(IIIII)I" } : Jvm.MethodName)) ∈ lw_all := lw_g (lw_at lw_m4 190 rfl) rfl
theorem q995 : (Jvm.Cond.code ({ cls := "StrengthenFirst", name := "add", desc := "(IIIII)I" } : Jvm.MethodName) prog_1_method_24_code (6 : Nat) (Option.some Jvm.ClassFile.FieldType.int)) ∈ lw_all := lw_g (lw_at lw_m4 191 rfl) rfl
theorem q996 : (Jvm.Cond.methodLink "StrengthenFirst" (217 : Nat) ({ cls := "StrengthenFirst$House", name := "may", desc := "(IIII)Z" } : Jvm.MethodName)) ∈ lw_all := lw_g (lw_at lw_m4 192 rfl) rfl
theorem q997 : (Jvm.Cond.static ({ cls := "StrengthenFirst$House", name := "may", desc := "(IIII)Z" } : Jvm.MethodName)) ∈ lw_all := lw_g (lw_at lw_m4 193 rfl) rfl
theorem q998 : (Jvm.Cond.code ({ cls := "StrengthenFirst$House", name := "may", desc := "(IIII)Z" } : Jvm.MethodName) prog_6_method_2_code (4 : Nat) (Option.some Jvm.ClassFile.FieldType.boolean)) ∈ lw_all := lw_g (lw_at lw_m4 194 rfl) rfl
theorem q999 : (Jvm.Cond.constantLong "StrengthenFirst$House" (36 : Nat) (9 : Int64)) ∈ lw_all := lw_g (lw_at lw_m4 195 rfl) rfl
theorem q1000 : (Jvm.Cond.methodLink "StrengthenFirst$House" (38 : Nat) ({ cls := "StrengthenFirst", name := "in", desc := "(JJJ)Z" } : Jvm.MethodName)) ∈ lw_all := lw_g (lw_at lw_m4 196 rfl) rfl
theorem q1001 : (Jvm.Cond.constantLong "StrengthenFirst$House" (42 : Nat) (99 : Int64)) ∈ lw_all := lw_g (lw_at lw_m4 197 rfl) rfl
theorem q1002 : (Jvm.Cond.methodLink "StrengthenFirst" (223 : Nat) ({ cls := "StrengthenFirst$Town", name := "addHouse", desc := "(IIIII)LStrengthenFirst$House;" } : Jvm.MethodName)) ∈ lw_all := lw_g (lw_at lw_m4 198 rfl) rfl
theorem q1003 : (Jvm.Cond.instanceMethod ({ cls := "StrengthenFirst$Town", name := "addHouse", desc := "(IIIII)LStrengthenFirst$House;" } : Jvm.MethodName)) ∈ lw_all := lw_g (lw_at lw_m4 199 rfl) rfl
theorem q1004 : (Jvm.Cond.selects "StrengthenFirst$Town" ({ cls := "StrengthenFirst$Town", name := "addHouse", desc := "(IIIII)LStrengthenFirst$House;" } : Jvm.MethodName) ({ cls := "StrengthenFirst$Town", name := "addHouse", desc := "(IIIII)LStrengthenFirst$House;" } : Jvm.MethodName)) ∈ lw_all := lw_g (lw_at lw_m4 200 rfl) rfl
theorem q1005 : (Jvm.Cond.code ({ cls := "StrengthenFirst$Town", name := "addHouse", desc := "(IIIII)LStrengthenFirst$House;" } : Jvm.MethodName) prog_22_method_4_code (7 : Nat) (Option.some (Jvm.ClassFile.FieldType.object "StrengthenFirst$House"))) ∈ lw_all := lw_g (lw_at lw_m4 201 rfl) rfl
theorem q1006 : (Jvm.Cond.methodLink "StrengthenFirst$Town" (66 : Nat) ({ cls := "StrengthenFirst$House", name := "<init>", desc := "(IIIIII)V" } : Jvm.MethodName)) ∈ lw_all := lw_g (lw_at lw_m4 202 rfl) rfl
theorem q1007 : (Jvm.Cond.methodLink "StrengthenFirstLaw" (57 : Nat) ({ cls := "StrengthenFirst", name := "houses", desc := "(III)I" } : Jvm.MethodName)) ∈ lw_all := lw_g (lw_at lw_m4 203 rfl) rfl
theorem q1008 : (Jvm.Cond.instanceMethod ({ cls := "StrengthenFirst", name := "houses", desc := "(III)I" } : Jvm.MethodName)) ∈ lw_all := lw_g (lw_at lw_m4 204 rfl) rfl
theorem q1009 : (Jvm.Cond.selects "StrengthenFirst" ({ cls := "StrengthenFirst", name := "houses", desc := "(III)I" } : Jvm.MethodName) ({ cls := "StrengthenFirst", name := "houses", desc := "(III)I" } : Jvm.MethodName)) ∈ lw_all := lw_g (lw_at lw_m4 205 rfl) rfl
theorem q1010 : (Jvm.Cond.codeWith ({ cls := "StrengthenFirst", name := "houses", desc := "(III)I" } : Jvm.MethodName) prog_1_method_26_code (7 : Nat) (Option.some Jvm.ClassFile.FieldType.int) [((77 : Nat), (145 : Nat), (148 : Nat), (21 : Nat)), ((0 : Nat), (152 : Nat), (156 : Nat), (21 : Nat)), ((153 : Nat), (155 : Nat), (156 : Nat), (21 : Nat))]) ∈ lw_all := lw_g (lw_at lw_m4 206 rfl) rfl
theorem q1011 : (Jvm.Cond.methodLink "StrengthenFirstLaw" (61 : Nat) ({ cls := "StrengthenFirst", name := "houseOf", desc := "(II)I" } : Jvm.MethodName)) ∈ lw_all := lw_g (lw_at lw_m4 207 rfl) rfl
theorem q1012 : (Jvm.Cond.instanceMethod ({ cls := "StrengthenFirst", name := "houseOf", desc := "(II)I" } : Jvm.MethodName)) ∈ lw_all := lw_g (lw_at lw_m4 208 rfl) rfl
theorem q1013 : (Jvm.Cond.selects "StrengthenFirst" ({ cls := "StrengthenFirst", name := "houseOf", desc := "(II)I" } : Jvm.MethodName) ({ cls := "StrengthenFirst", name := "houseOf", desc := "(II)I" } : Jvm.MethodName)) ∈ lw_all := lw_g (lw_at lw_m4 209 rfl) rfl
theorem q1014 : (Jvm.Cond.code ({ cls := "StrengthenFirst", name := "houseOf", desc := "(II)I" } : Jvm.MethodName) prog_1_method_27_code (4 : Nat) (Option.some Jvm.ClassFile.FieldType.int)) ∈ lw_all := lw_g (lw_at lw_m4 210 rfl) rfl
theorem q1015 : (Jvm.Cond.methodLink "StrengthenFirst" (82 : Nat) ({ cls := "StrengthenFirst", name := "isHouse", desc := "(I)Z" } : Jvm.MethodName)) ∈ lw_all := lw_g (lw_at lw_m4 211 rfl) rfl
theorem q1016 : (Jvm.Cond.privateMethod ({ cls := "StrengthenFirst", name := "isHouse", desc := "(I)Z" } : Jvm.MethodName)) ∈ lw_tbl := lw_at lw_m4 212 rfl
theorem q1017 : (Jvm.Cond.instanceMethod ({ cls := "StrengthenFirst", name := "isHouse", desc := "(I)Z" } : Jvm.MethodName)) ∈ lw_all := lw_g (lw_at lw_m4 213 rfl) rfl
theorem q1018 : (Jvm.Cond.code ({ cls := "StrengthenFirst", name := "isHouse", desc := "(I)Z" } : Jvm.MethodName) prog_1_method_8_code (2 : Nat) (Option.some Jvm.ClassFile.FieldType.boolean)) ∈ lw_all := lw_g (lw_at lw_m4 214 rfl) rfl
theorem q1019 : (Jvm.Cond.methodLink "StrengthenFirst" (234 : Nat) ({ cls := "StrengthenFirst", name := "beyond", desc := "()I" } : Jvm.MethodName)) ∈ lw_all := lw_g (lw_at lw_m4 215 rfl) rfl
theorem q1020 : (Jvm.Cond.privateMethod ({ cls := "StrengthenFirst", name := "beyond", desc := "()I" } : Jvm.MethodName)) ∈ lw_tbl := lw_at lw_m4 216 rfl
theorem q1021 : (Jvm.Cond.instanceMethod ({ cls := "StrengthenFirst", name := "beyond", desc := "()I" } : Jvm.MethodName)) ∈ lw_all := lw_g (lw_at lw_m4 217 rfl) rfl
theorem q1022 : (Jvm.Cond.code ({ cls := "StrengthenFirst", name := "beyond", desc := "()I" } : Jvm.MethodName) prog_1_method_6_code (1 : Nat) (Option.some Jvm.ClassFile.FieldType.int)) ∈ lw_all := lw_g (lw_at lw_m4 218 rfl) rfl
theorem q1023 : (Jvm.Cond.methodLink "StrengthenFirstLaw" (65 : Nat) ({ cls := "StrengthenFirst", name := "front", desc := "(II)I" } : Jvm.MethodName)) ∈ lw_all := lw_g (lw_at lw_m4 219 rfl) rfl
theorem q1024 : (Jvm.Cond.instanceMethod ({ cls := "StrengthenFirst", name := "front", desc := "(II)I" } : Jvm.MethodName)) ∈ lw_all := lw_g (lw_at lw_m4 220 rfl) rfl
theorem q1025 : (Jvm.Cond.selects "StrengthenFirst" ({ cls := "StrengthenFirst", name := "front", desc := "(II)I" } : Jvm.MethodName) ({ cls := "StrengthenFirst", name := "front", desc := "(II)I" } : Jvm.MethodName)) ∈ lw_all := lw_g (lw_at lw_m4 221 rfl) rfl
theorem q1026 : (Jvm.Cond.codeWith ({ cls := "StrengthenFirst", name := "front", desc := "(II)I" } : Jvm.MethodName) prog_1_method_28_code (5 : Nat) (Option.some Jvm.ClassFile.FieldType.int) [((0 : Nat), (41 : Nat), (42 : Nat), (21 : Nat))]) ∈ lw_all := lw_g (lw_at lw_m4 222 rfl) rfl
theorem q1027 : (Jvm.Cond.methodLink "StrengthenFirst" (265 : Nat) ({ cls := "StrengthenFirst", name := "houseAt", desc := "(I)LStrengthenFirst$House;" } : Jvm.MethodName)) ∈ lw_all := lw_g (lw_at lw_m4 223 rfl) rfl
theorem q1028 : (Jvm.Cond.privateMethod ({ cls := "StrengthenFirst", name := "houseAt", desc := "(I)LStrengthenFirst$House;" } : Jvm.MethodName)) ∈ lw_tbl := lw_at lw_m4 224 rfl
theorem q1029 : (Jvm.Cond.instanceMethod ({ cls := "StrengthenFirst", name := "houseAt", desc := "(I)LStrengthenFirst$House;" } : Jvm.MethodName)) ∈ lw_all := lw_g (lw_at lw_m4 225 rfl) rfl
theorem q1030 : (Jvm.Cond.code ({ cls := "StrengthenFirst", name := "houseAt", desc := "(I)LStrengthenFirst$House;" } : Jvm.MethodName) prog_1_method_9_code (2 : Nat) (Option.some (Jvm.ClassFile.FieldType.object "StrengthenFirst$House"))) ∈ lw_all := lw_g (lw_at lw_m4 226 rfl) rfl
theorem q1031 : (Jvm.Cond.constantLong "StrengthenFirst" (269 : Nat) (-1 : Int64)) ∈ lw_all := lw_g (lw_at lw_m4 227 rfl) rfl
theorem q1032 : (Jvm.Cond.methodLink "StrengthenFirstLaw" (69 : Nat) ({ cls := "StrengthenFirst", name := "next", desc := "(II)I" } : Jvm.MethodName)) ∈ lw_all := lw_g (lw_at lw_m4 228 rfl) rfl
theorem q1033 : (Jvm.Cond.instanceMethod ({ cls := "StrengthenFirst", name := "next", desc := "(II)I" } : Jvm.MethodName)) ∈ lw_all := lw_g (lw_at lw_m4 229 rfl) rfl
theorem q1034 : (Jvm.Cond.selects "StrengthenFirst" ({ cls := "StrengthenFirst", name := "next", desc := "(II)I" } : Jvm.MethodName) ({ cls := "StrengthenFirst", name := "next", desc := "(II)I" } : Jvm.MethodName)) ∈ lw_all := lw_g (lw_at lw_m4 230 rfl) rfl
theorem q1035 : (Jvm.Cond.codeWith ({ cls := "StrengthenFirst", name := "next", desc := "(II)I" } : Jvm.MethodName) prog_1_method_29_code (5 : Nat) (Option.some Jvm.ClassFile.FieldType.int) [((0 : Nat), (56 : Nat), (57 : Nat), (21 : Nat))]) ∈ lw_all := lw_g (lw_at lw_m4 231 rfl) rfl
theorem q1036 : (Jvm.Cond.methodLink "StrengthenFirstLaw" (73 : Nat) ({ cls := "StrengthenFirst", name := "alter", desc := "(III)I" } : Jvm.MethodName)) ∈ lw_all := lw_g (lw_at lw_m4 232 rfl) rfl
theorem q1037 : (Jvm.Cond.instanceMethod ({ cls := "StrengthenFirst", name := "alter", desc := "(III)I" } : Jvm.MethodName)) ∈ lw_all := lw_g (lw_at lw_m4 233 rfl) rfl
theorem q1038 : (Jvm.Cond.selects "StrengthenFirst" ({ cls := "StrengthenFirst", name := "alter", desc := "(III)I" } : Jvm.MethodName) ({ cls := "StrengthenFirst", name := "alter", desc := "(III)I" } : Jvm.MethodName)) ∈ lw_all := lw_g (lw_at lw_m4 234 rfl) rfl
theorem q1039 : (Jvm.Cond.codeWith ({ cls := "StrengthenFirst", name := "alter", desc := "(III)I" } : Jvm.MethodName) prog_1_method_30_code (6 : Nat) (Option.some Jvm.ClassFile.FieldType.int) [((0 : Nat), (108 : Nat), (109 : Nat), (21 : Nat))]) ∈ lw_all := lw_g (lw_at lw_m4 235 rfl) rfl
theorem q1040 : (Jvm.Cond.constantLong "StrengthenFirst" (271 : Nat) (2 : Int64)) ∈ lw_all := lw_g (lw_at lw_m4 236 rfl) rfl
theorem q1041 : (Jvm.Cond.methodLink "StrengthenFirstLaw" (77 : Nat) ({ cls := "StrengthenFirst", name := "prop", desc := "(IZ)I" } : Jvm.MethodName)) ∈ lw_all := lw_g (lw_at lw_m4 237 rfl) rfl
theorem q1042 : (Jvm.Cond.instanceMethod ({ cls := "StrengthenFirst", name := "prop", desc := "(IZ)I" } : Jvm.MethodName)) ∈ lw_all := lw_g (lw_at lw_m4 238 rfl) rfl
theorem q1043 : (Jvm.Cond.selects "StrengthenFirst" ({ cls := "StrengthenFirst", name := "prop", desc := "(IZ)I" } : Jvm.MethodName) ({ cls := "StrengthenFirst", name := "prop", desc := "(IZ)I" } : Jvm.MethodName)) ∈ lw_all := lw_g (lw_at lw_m4 239 rfl) rfl
theorem q1044 : (Jvm.Cond.codeWith ({ cls := "StrengthenFirst", name := "prop", desc := "(IZ)I" } : Jvm.MethodName) prog_1_method_31_code (5 : Nat) (Option.some Jvm.ClassFile.FieldType.int) [((0 : Nat), (36 : Nat), (37 : Nat), (21 : Nat))]) ∈ lw_all := lw_g (lw_at lw_m5 0 rfl) rfl
theorem q1045 : (Jvm.Cond.methodLink "StrengthenFirstLaw" (82 : Nat) ({ cls := "StrengthenFirst", name := "shake", desc := "(II)I" } : Jvm.MethodName)) ∈ lw_all := lw_g (lw_at lw_m5 1 rfl) rfl
theorem q1046 : (Jvm.Cond.instanceMethod ({ cls := "StrengthenFirst", name := "shake", desc := "(II)I" } : Jvm.MethodName)) ∈ lw_all := lw_g (lw_at lw_m5 2 rfl) rfl
theorem q1047 : (Jvm.Cond.selects "StrengthenFirst" ({ cls := "StrengthenFirst", name := "shake", desc := "(II)I" } : Jvm.MethodName) ({ cls := "StrengthenFirst", name := "shake", desc := "(II)I" } : Jvm.MethodName)) ∈ lw_all := lw_g (lw_at lw_m5 3 rfl) rfl
theorem q1048 : (Jvm.Cond.codeWith ({ cls := "StrengthenFirst", name := "shake", desc := "(II)I" } : Jvm.MethodName) prog_1_method_32_code (4 : Nat) (Option.some Jvm.ClassFile.FieldType.int) [((0 : Nat), (73 : Nat), (74 : Nat), (21 : Nat))]) ∈ lw_all := lw_g (lw_at lw_m5 4 rfl) rfl
theorem q1049 : (Jvm.Cond.constantLong "StrengthenFirst" (273 : Nat) (9 : Int64)) ∈ lw_all := lw_g (lw_at lw_m5 5 rfl) rfl
theorem q1050 : (Jvm.Cond.methodLink "StrengthenFirst" (275 : Nat) ({ cls := "StrengthenFirst$Town", name := "addShake", desc := "(II)V" } : Jvm.MethodName)) ∈ lw_all := lw_g (lw_at lw_m5 6 rfl) rfl
theorem q1051 : (Jvm.Cond.instanceMethod ({ cls := "StrengthenFirst$Town", name := "addShake", desc := "(II)V" } : Jvm.MethodName)) ∈ lw_all := lw_g (lw_at lw_m5 7 rfl) rfl
theorem q1052 : (Jvm.Cond.selects "StrengthenFirst$Town" ({ cls := "StrengthenFirst$Town", name := "addShake", desc := "(II)V" } : Jvm.MethodName) ({ cls := "StrengthenFirst$Town", name := "addShake", desc := "(II)V" } : Jvm.MethodName)) ∈ lw_all := lw_g (lw_at lw_m5 8 rfl) rfl
theorem q1053 : (Jvm.Cond.code ({ cls := "StrengthenFirst$Town", name := "addShake", desc := "(II)V" } : Jvm.MethodName) prog_22_method_5_code (3 : Nat) (Option.none : Option Jvm.ClassFile.FieldType)) ∈ lw_all := lw_g (lw_at lw_m5 9 rfl) rfl
theorem q1054 : (Jvm.Cond.methodLink "StrengthenFirstLaw" (86 : Nat) ({ cls := "StrengthenFirst", name := "ask", desc := "(II)I" } : Jvm.MethodName)) ∈ lw_all := lw_g (lw_at lw_m5 10 rfl) rfl
theorem q1055 : (Jvm.Cond.instanceMethod ({ cls := "StrengthenFirst", name := "ask", desc := "(II)I" } : Jvm.MethodName)) ∈ lw_all := lw_g (lw_at lw_m5 11 rfl) rfl
theorem q1056 : (Jvm.Cond.selects "StrengthenFirst" ({ cls := "StrengthenFirst", name := "ask", desc := "(II)I" } : Jvm.MethodName) ({ cls := "StrengthenFirst", name := "ask", desc := "(II)I" } : Jvm.MethodName)) ∈ lw_all := lw_g (lw_at lw_m5 12 rfl) rfl
theorem q1057 : (Jvm.Cond.codeWith ({ cls := "StrengthenFirst", name := "ask", desc := "(II)I" } : Jvm.MethodName) prog_1_method_33_code (4 : Nat) (Option.some Jvm.ClassFile.FieldType.int) [((0 : Nat), (73 : Nat), (74 : Nat), (21 : Nat))]) ∈ lw_all := lw_g (lw_at lw_m5 13 rfl) rfl
theorem q1058 : (Jvm.Cond.constantLong "StrengthenFirst" (278 : Nat) (999 : Int64)) ∈ lw_all := lw_g (lw_at lw_m5 14 rfl) rfl
theorem q1059 : (Jvm.Cond.constantLong "StrengthenFirst" (280 : Nat) (10 : Int64)) ∈ lw_all := lw_g (lw_at lw_m5 15 rfl) rfl
theorem q1060 : (Jvm.Cond.methodLink "StrengthenFirstLaw" (90 : Nat) ({ cls := "StrengthenFirst", name := "town", desc := "(I)I" } : Jvm.MethodName)) ∈ lw_all := lw_g (lw_at lw_m5 16 rfl) rfl
theorem q1061 : (Jvm.Cond.instanceMethod ({ cls := "StrengthenFirst", name := "town", desc := "(I)I" } : Jvm.MethodName)) ∈ lw_all := lw_g (lw_at lw_m5 17 rfl) rfl
theorem q1062 : (Jvm.Cond.selects "StrengthenFirst" ({ cls := "StrengthenFirst", name := "town", desc := "(I)I" } : Jvm.MethodName) ({ cls := "StrengthenFirst", name := "town", desc := "(I)I" } : Jvm.MethodName)) ∈ lw_all := lw_g (lw_at lw_m5 18 rfl) rfl
theorem q1063 : (Jvm.Cond.codeWith ({ cls := "StrengthenFirst", name := "town", desc := "(I)I" } : Jvm.MethodName) prog_1_method_34_code (5 : Nat) (Option.some Jvm.ClassFile.FieldType.int) [((22 : Nat), (43 : Nat), (44 : Nat), (296 : Nat)), ((0 : Nat), (43 : Nat), (65 : Nat), (21 : Nat)), ((44 : Nat), (65 : Nat), (65 : Nat), (21 : Nat))]) ∈ lw_all := lw_g (lw_at lw_m5 19 rfl) rfl
theorem q1064 : (Jvm.Cond.classLink "StrengthenFirst" (296 : Nat) "StrengthenFirst$Faulty") ∈ lw_all := lw_g (lw_at lw_m5 20 rfl) rfl
theorem q1065 : (Jvm.Cond.methodLink "StrengthenFirst" (285 : Nat) ({ cls := "StrengthenFirst$Town", name := "again", desc := "()LStrengthenFirst$Town;" } : Jvm.MethodName)) ∈ lw_all := lw_g (lw_at lw_m5 21 rfl) rfl
theorem q1066 : (Jvm.Cond.classLink "StrengthenFirst" (288 : Nat) "StrengthenFirst$Reader") ∈ lw_all := lw_g (lw_at lw_m5 22 rfl) rfl
theorem q1067 : (Jvm.Cond.instantiable "StrengthenFirst$Reader" (3 : Nat)) ∈ lw_all := lw_g (lw_at lw_m5 23 rfl) rfl
theorem q1068 : (Jvm.Cond.methodLink "StrengthenFirst" (290 : Nat) ({ cls := "StrengthenFirst$Reader", name := "<init>", desc := "(LStrengthenFirst$Row;LStrengthenFirst$Town;)V" } : Jvm.MethodName)) ∈ lw_all := lw_g (lw_at lw_m5 24 rfl) rfl
theorem q1069 : (Jvm.Cond.instanceMethod ({ cls := "StrengthenFirst$Reader", name := "<init>", desc := "(LStrengthenFirst$Row;LStrengthenFirst$Town;)V" } : Jvm.MethodName)) ∈ lw_all := lw_g (lw_at lw_m5 25 rfl) rfl
theorem q1070 : (Jvm.Cond.code ({ cls := "StrengthenFirst$Reader", name := "<init>", desc := "(LStrengthenFirst$Row;LStrengthenFirst$Town;)V" } : Jvm.MethodName) prog_12_method_1_code (3 : Nat) (Option.none : Option Jvm.ClassFile.FieldType)) ∈ lw_all := lw_g (lw_at lw_m5 26 rfl) rfl
theorem q1071 : (Jvm.Cond.methodLink "StrengthenFirst$Reader" (3 : Nat) ({ cls := "java/lang/Object", name := "<init>", desc := "()V" } : Jvm.MethodName)) ∈ lw_all := lw_g (lw_at lw_m5 27 rfl) rfl
theorem q1072 : (Jvm.Cond.fieldLink "StrengthenFirst$Reader" (9 : Nat) "StrengthenFirst$Reader" "text" "LStrengthenFirst$Row;") ∈ lw_all := lw_g (lw_at lw_m5 28 rfl) rfl
theorem q1073 : (Jvm.Cond.fieldLink "StrengthenFirst$Reader" (15 : Nat) "StrengthenFirst$Reader" "town" "LStrengthenFirst$Town;") ∈ lw_all := lw_g (lw_at lw_m5 29 rfl) rfl
theorem q1074 : (Jvm.Cond.fieldLink "StrengthenFirst$Reader" (19 : Nat) "StrengthenFirst$Reader" "at" "I") ∈ lw_all := lw_g (lw_at lw_m5 30 rfl) rfl
theorem q1075 : (Jvm.Cond.laysFinal "StrengthenFirst$Reader" "StrengthenFirst$Reader" "text" "LStrengthenFirst$Row;") ∈ lw_all := lw_g (lw_at lw_m5 31 rfl) rfl
theorem q1076 : (Jvm.Cond.soleField "StrengthenFirst$Reader" "text") ∈ lw_all := lw_g (lw_at lw_m5 32 rfl) rfl
theorem q1077 : (Jvm.Cond.laysFinal "StrengthenFirst$Reader" "StrengthenFirst$Reader" "town" "LStrengthenFirst$Town;") ∈ lw_all := lw_g (lw_at lw_m5 33 rfl) rfl
theorem q1078 : (Jvm.Cond.soleField "StrengthenFirst$Reader" "town") ∈ lw_all := lw_g (lw_at lw_m5 34 rfl) rfl
theorem q1079 : (Jvm.Cond.lays "StrengthenFirst$Reader" "StrengthenFirst$Reader" "at" "I") ∈ lw_all := lw_g (lw_at lw_m5 35 rfl) rfl
theorem q1080 : (Jvm.Cond.soleField "StrengthenFirst$Reader" "at") ∈ lw_all := lw_g (lw_at lw_m5 36 rfl) rfl
theorem q1081 : (Jvm.Cond.superclass "StrengthenFirst$Reader" "java/lang/Object") ∈ lw_all := lw_g (lw_at lw_m5 37 rfl) rfl
theorem q1082 : (Jvm.Cond.methodLink "StrengthenFirst" (293 : Nat) ({ cls := "StrengthenFirst$Reader", name := "items", desc := "()I" } : Jvm.MethodName)) ∈ lw_all := lw_g (lw_at lw_m5 38 rfl) rfl
theorem q1083 : (Jvm.Cond.instanceMethod ({ cls := "StrengthenFirst$Reader", name := "items", desc := "()I" } : Jvm.MethodName)) ∈ lw_all := lw_g (lw_at lw_m5 39 rfl) rfl
theorem q1084 : (Jvm.Cond.selects "StrengthenFirst$Reader" ({ cls := "StrengthenFirst$Reader", name := "items", desc := "()I" } : Jvm.MethodName) ({ cls := "StrengthenFirst$Reader", name := "items", desc := "()I" } : Jvm.MethodName)) ∈ lw_all := lw_g (lw_at lw_m5 40 rfl) rfl
theorem q1085 : (Jvm.Cond.code ({ cls := "StrengthenFirst$Reader", name := "items", desc := "()I" } : Jvm.MethodName) prog_12_method_10_code (2 : Nat) (Option.some Jvm.ClassFile.FieldType.int)) ∈ lw_all := lw_g (lw_at lw_m5 41 rfl) rfl
theorem q1086 : (Jvm.Cond.methodLink "StrengthenFirst$Reader" (67 : Nat) ({ cls := "StrengthenFirst$Reader", name := "item", desc := "()V" } : Jvm.MethodName)) ∈ lw_all := lw_g (lw_at lw_m5 42 rfl) rfl
theorem q1087 : (Jvm.Cond.privateMethod ({ cls := "StrengthenFirst$Reader", name := "item", desc := "()V" } : Jvm.MethodName)) ∈ lw_tbl := lw_at lw_m5 43 rfl
theorem q1088 : (Jvm.Cond.instanceMethod ({ cls := "StrengthenFirst$Reader", name := "item", desc := "()V" } : Jvm.MethodName)) ∈ lw_all := lw_g (lw_at lw_m5 44 rfl) rfl
theorem q1089 : (Jvm.Cond.code ({ cls := "StrengthenFirst$Reader", name := "item", desc := "()V" } : Jvm.MethodName) prog_12_method_11_code (2 : Nat) (Option.none : Option Jvm.ClassFile.FieldType)) ∈ lw_all := lw_g (lw_at lw_m5 45 rfl) rfl
theorem q1090 : (Jvm.Cond.methodLink "StrengthenFirst$Reader" (37 : Nat) ({ cls := "StrengthenFirst$Reader", name := "sees", desc := "(I)Z" } : Jvm.MethodName)) ∈ lw_all := lw_g (lw_at lw_m5 46 rfl) rfl
theorem q1091 : (Jvm.Cond.privateMethod ({ cls := "StrengthenFirst$Reader", name := "sees", desc := "(I)Z" } : Jvm.MethodName)) ∈ lw_tbl := lw_at lw_m5 47 rfl
theorem q1092 : (Jvm.Cond.instanceMethod ({ cls := "StrengthenFirst$Reader", name := "sees", desc := "(I)Z" } : Jvm.MethodName)) ∈ lw_all := lw_g (lw_at lw_m5 48 rfl) rfl
theorem q1093 : (Jvm.Cond.code ({ cls := "StrengthenFirst$Reader", name := "sees", desc := "(I)Z" } : Jvm.MethodName) prog_12_method_3_code (2 : Nat) (Option.some Jvm.ClassFile.FieldType.boolean)) ∈ lw_all := lw_g (lw_at lw_m5 49 rfl) rfl
theorem q1094 : (Jvm.Cond.methodLink "StrengthenFirst$Reader" (29 : Nat) ({ cls := "StrengthenFirst$Reader", name := "ends", desc := "()Z" } : Jvm.MethodName)) ∈ lw_all := lw_g (lw_at lw_m5 50 rfl) rfl
theorem q1095 : (Jvm.Cond.privateMethod ({ cls := "StrengthenFirst$Reader", name := "ends", desc := "()Z" } : Jvm.MethodName)) ∈ lw_tbl := lw_at lw_m5 51 rfl
theorem q1096 : (Jvm.Cond.instanceMethod ({ cls := "StrengthenFirst$Reader", name := "ends", desc := "()Z" } : Jvm.MethodName)) ∈ lw_all := lw_g (lw_at lw_m5 52 rfl) rfl
theorem q1097 : (Jvm.Cond.code ({ cls := "StrengthenFirst$Reader", name := "ends", desc := "()Z" } : Jvm.MethodName) prog_12_method_2_code (1 : Nat) (Option.some Jvm.ClassFile.FieldType.boolean)) ∈ lw_all := lw_g (lw_at lw_m5 53 rfl) rfl
theorem q1098 : (Jvm.Cond.methodLink "StrengthenFirst$Reader" (23 : Nat) ({ cls := "StrengthenFirst$Row", name := "length", desc := "()I" } : Jvm.MethodName)) ∈ lw_all := lw_g (lw_at lw_m5 54 rfl) rfl
theorem q1099 : (Jvm.Cond.methodLink "StrengthenFirst$Reader" (33 : Nat) ({ cls := "StrengthenFirst$Row", name := "asInt", desc := "(I)I" } : Jvm.MethodName)) ∈ lw_all := lw_g (lw_at lw_m5 55 rfl) rfl
theorem q1100 : (Jvm.Cond.methodLink "StrengthenFirst$Reader" (70 : Nat) ({ cls := "StrengthenFirst$Reader", name := "withS", desc := "(I)V" } : Jvm.MethodName)) ∈ lw_all := lw_g (lw_at lw_m5 56 rfl) rfl
theorem q1101 : (Jvm.Cond.privateMethod ({ cls := "StrengthenFirst$Reader", name := "withS", desc := "(I)V" } : Jvm.MethodName)) ∈ lw_tbl := lw_at lw_m5 57 rfl
theorem q1102 : (Jvm.Cond.instanceMethod ({ cls := "StrengthenFirst$Reader", name := "withS", desc := "(I)V" } : Jvm.MethodName)) ∈ lw_all := lw_g (lw_at lw_m5 58 rfl) rfl
theorem q1103 : (Jvm.Cond.code ({ cls := "StrengthenFirst$Reader", name := "withS", desc := "(I)V" } : Jvm.MethodName) prog_12_method_12_code (3 : Nat) (Option.none : Option Jvm.ClassFile.FieldType)) ∈ lw_all := lw_g (lw_at lw_m5 59 rfl) rfl
theorem q1104 : (Jvm.Cond.methodLink "StrengthenFirst$Reader" (53 : Nat) ({ cls := "StrengthenFirst$Reader", name := "must", desc := "(I)V" } : Jvm.MethodName)) ∈ lw_all := lw_g (lw_at lw_m5 60 rfl) rfl
theorem q1105 : (Jvm.Cond.privateMethod ({ cls := "StrengthenFirst$Reader", name := "must", desc := "(I)V" } : Jvm.MethodName)) ∈ lw_tbl := lw_at lw_m5 61 rfl
theorem q1106 : (Jvm.Cond.instanceMethod ({ cls := "StrengthenFirst$Reader", name := "must", desc := "(I)V" } : Jvm.MethodName)) ∈ lw_all := lw_g (lw_at lw_m5 62 rfl) rfl
theorem q1107 : (Jvm.Cond.code ({ cls := "StrengthenFirst$Reader", name := "must", desc := "(I)V" } : Jvm.MethodName) prog_12_method_4_code (2 : Nat) (Option.none : Option Jvm.ClassFile.FieldType)) ∈ lw_all := lw_g (lw_at lw_m5 63 rfl) rfl
theorem q1108 : (Jvm.Cond.classLink "StrengthenFirst$Reader" (41 : Nat) "StrengthenFirst$Faulty") ∈ lw_all := lw_g (lw_at lw_m5 64 rfl) rfl
theorem q1109 : (Jvm.Cond.instantiable "StrengthenFirst$Faulty" (7 : Nat)) ∈ lw_all := lw_g (lw_at lw_m5 65 rfl) rfl
theorem q1110 : (Jvm.Cond.castable "StrengthenFirst$Faulty" "StrengthenFirst$Faulty") ∈ lw_tbl := lw_at lw_m5 66 rfl
theorem q1111 : (Jvm.Cond.selects "StrengthenFirst$Faulty" ({ cls := "java/lang/Throwable", name := "fillInStackTrace", desc := "(I)Ljava/lang/Throwable;" } : Jvm.MethodName) ({ cls := "java/lang/Throwable", name := "fillInStackTrace", desc := "(I)Ljava/lang/Throwable;" } : Jvm.MethodName)) ∈ lw_all := lw_g (lw_at lw_m5 67 rfl) rfl
theorem q1112 : (Jvm.Cond.lays "StrengthenFirst$Faulty" "java/lang/Throwable" "cause" "Ljava/lang/Throwable;") ∈ lw_all := lw_g (lw_at lw_m5 68 rfl) rfl
theorem q1113 : (Jvm.Cond.lays "StrengthenFirst$Faulty" "java/lang/Throwable" "stackTrace" "[Ljava/lang/StackTraceElement;") ∈ lw_all := lw_g (lw_at lw_m5 69 rfl) rfl
theorem q1114 : (Jvm.Cond.lays "StrengthenFirst$Faulty" "java/lang/Throwable" "suppressedExceptions" "Ljava/util/List;") ∈ lw_all := lw_g (lw_at lw_m5 70 rfl) rfl
theorem q1115 : (Jvm.Cond.lays "StrengthenFirst$Faulty" "java/lang/Throwable" "detailMessage" "Ljava/lang/String;") ∈ lw_all := lw_g (lw_at lw_m5 71 rfl) rfl
theorem q1116 : (Jvm.Cond.lays "StrengthenFirst$Faulty" "java/lang/Throwable" "backtrace" "Ljava/lang/Object;") ∈ lw_all := lw_g (lw_at lw_m5 72 rfl) rfl
theorem q1117 : (Jvm.Cond.methodLink "StrengthenFirst$Reader" (43 : Nat) ({ cls := "StrengthenFirst$Faulty", name := "<init>", desc := "(I)V" } : Jvm.MethodName)) ∈ lw_all := lw_g (lw_at lw_m5 73 rfl) rfl
theorem q1118 : (Jvm.Cond.instanceMethod ({ cls := "StrengthenFirst$Faulty", name := "<init>", desc := "(I)V" } : Jvm.MethodName)) ∈ lw_all := lw_g (lw_at lw_m5 74 rfl) rfl
theorem q1119 : (Jvm.Cond.code ({ cls := "StrengthenFirst$Faulty", name := "<init>", desc := "(I)V" } : Jvm.MethodName) prog_4_method_1_code (2 : Nat) (Option.none : Option Jvm.ClassFile.FieldType)) ∈ lw_all := lw_g (lw_at lw_m5 75 rfl) rfl
theorem q1120 : (Jvm.Cond.methodLink "StrengthenFirst$Faulty" (1 : Nat) ({ cls := "java/lang/Exception", name := "<init>", desc := "(Ljava/lang/String;Ljava/lang/Throwable;ZZ)V" } : Jvm.MethodName)) ∈ lw_all := lw_g (lw_at lw_m5 76 rfl) rfl
theorem q1121 : (Jvm.Cond.fieldLink "StrengthenFirst$Faulty" (7 : Nat) "StrengthenFirst$Faulty" "place" "I") ∈ lw_all := lw_g (lw_at lw_m5 77 rfl) rfl
theorem q1122 : (Jvm.Cond.fieldLink "StrengthenFirst" (298 : Nat) "StrengthenFirst$Faulty" "place" "I") ∈ lw_all := lw_g (lw_at lw_m5 78 rfl) rfl
theorem q1123 : (Jvm.Cond.laysFinal "StrengthenFirst$Faulty" "StrengthenFirst$Faulty" "place" "I") ∈ lw_all := lw_g (lw_at lw_m5 79 rfl) rfl
theorem q1124 : (Jvm.Cond.soleField "StrengthenFirst$Faulty" "place") ∈ lw_all := lw_g (lw_at lw_m5 80 rfl) rfl
theorem q1125 : (Jvm.Cond.lays "StrengthenFirst$Faulty" "java/lang/Throwable" "depth" "I") ∈ lw_all := lw_g (lw_at lw_m5 81 rfl) rfl
theorem q1126 : (Jvm.Cond.superclass "StrengthenFirst$Faulty" "java/lang/Exception") ∈ lw_all := lw_g (lw_at lw_m5 82 rfl) rfl
theorem q1127 : (Jvm.Cond.stringRef "StrengthenFirst$Reader" (93 : Nat) "treet") ∈ lw_tbl := lw_at lw_m5 83 rfl
theorem q1128 : (Jvm.Cond.methodLink "StrengthenFirst$Reader" (78 : Nat) ({ cls := "StrengthenFirst$Reader", name := "word", desc := "(Ljava/lang/String;)V" } : Jvm.MethodName)) ∈ lw_all := lw_g (lw_at lw_m5 84 rfl) rfl
theorem q1129 : (Jvm.Cond.privateMethod ({ cls := "StrengthenFirst$Reader", name := "word", desc := "(Ljava/lang/String;)V" } : Jvm.MethodName)) ∈ lw_tbl := lw_at lw_m5 85 rfl
theorem q1130 : (Jvm.Cond.instanceMethod ({ cls := "StrengthenFirst$Reader", name := "word", desc := "(Ljava/lang/String;)V" } : Jvm.MethodName)) ∈ lw_all := lw_g (lw_at lw_m5 86 rfl) rfl
theorem q1131 : (Jvm.Cond.code ({ cls := "StrengthenFirst$Reader", name := "word", desc := "(Ljava/lang/String;)V" } : Jvm.MethodName) prog_12_method_5_code (3 : Nat) (Option.none : Option Jvm.ClassFile.FieldType)) ∈ lw_all := lw_g (lw_at lw_m5 87 rfl) rfl
theorem q1132 : (Jvm.Cond.methodLink "StrengthenFirst$Reader" (46 : Nat) ({ cls := "java/lang/String", name := "length", desc := "()I" } : Jvm.MethodName)) ∈ lw_all := lw_g (lw_at lw_m5 88 rfl) rfl
theorem q1133 : (Jvm.Cond.instanceMethod ({ cls := "java/lang/String", name := "length", desc := "()I" } : Jvm.MethodName)) ∈ lw_all := lw_g (lw_at lw_m5 89 rfl) rfl
theorem q1134 : (Jvm.Cond.selects "java/lang/String" ({ cls := "java/lang/String", name := "length", desc := "()I" } : Jvm.MethodName) ({ cls := "java/lang/String", name := "length", desc := "()I" } : Jvm.MethodName)) ∈ lw_all := lw_g (lw_at lw_m5 90 rfl) rfl
theorem q1135 : (Jvm.Cond.code ({ cls := "java/lang/String", name := "length", desc := "()I" } : Jvm.MethodName) prog_34_method_54_code (1 : Nat) (Option.some Jvm.ClassFile.FieldType.int)) ∈ lw_all := lw_g (lw_at lw_m5 91 rfl) rfl
theorem q1136 : (Jvm.Cond.methodLink "java/lang/String" (335 : Nat) ({ cls := "java/lang/String", name := "coder", desc := "()B" } : Jvm.MethodName)) ∈ lw_all := lw_g (lw_at lw_m5 92 rfl) rfl
theorem q1137 : (Jvm.Cond.instanceMethod ({ cls := "java/lang/String", name := "coder", desc := "()B" } : Jvm.MethodName)) ∈ lw_all := lw_g (lw_at lw_m5 93 rfl) rfl
theorem q1138 : (Jvm.Cond.selects "java/lang/String" ({ cls := "java/lang/String", name := "coder", desc := "()B" } : Jvm.MethodName) ({ cls := "java/lang/String", name := "coder", desc := "()B" } : Jvm.MethodName)) ∈ lw_all := lw_g (lw_at lw_m5 94 rfl) rfl
theorem q1139 : (Jvm.Cond.code ({ cls := "java/lang/String", name := "coder", desc := "()B" } : Jvm.MethodName) prog_34_method_152_code (1 : Nat) (Option.some Jvm.ClassFile.FieldType.byte)) ∈ lw_all := lw_g (lw_at lw_m5 95 rfl) rfl
theorem q1140 : (Jvm.Cond.fieldLink "java/lang/String" (38 : Nat) "java/lang/String" "COMPACT_STRINGS" "Z") ∈ lw_all := lw_g (lw_at lw_m5 96 rfl) rfl
theorem q1141 : (Jvm.Cond.laysStatic "java/lang/String" "COMPACT_STRINGS" "Z") ∈ lw_tbl := lw_at lw_m5 97 rfl
theorem q1142 : (Jvm.Cond.methodLink "StrengthenFirst$Reader" (49 : Nat) ({ cls := "java/lang/String", name := "charAt", desc := "(I)C" } : Jvm.MethodName)) ∈ lw_all := lw_g (lw_at lw_m5 98 rfl) rfl
theorem q1143 : (Jvm.Cond.instanceMethod ({ cls := "java/lang/String", name := "charAt", desc := "(I)C" } : Jvm.MethodName)) ∈ lw_all := lw_g (lw_at lw_m5 99 rfl) rfl
theorem q1144 : (Jvm.Cond.selects "java/lang/String" ({ cls := "java/lang/String", name := "charAt", desc := "(I)C" } : Jvm.MethodName) ({ cls := "java/lang/String", name := "charAt", desc := "(I)C" } : Jvm.MethodName)) ∈ lw_all := lw_g (lw_at lw_m5 100 rfl) rfl
theorem q1145 : (Jvm.Cond.code ({ cls := "java/lang/String", name := "charAt", desc := "(I)C" } : Jvm.MethodName) prog_34_method_56_code (2 : Nat) (Option.some Jvm.ClassFile.FieldType.char)) ∈ lw_all := lw_g (lw_at lw_m5 101 rfl) rfl
theorem q1146 : (Jvm.Cond.methodLink "java/lang/String" (492 : Nat) ({ cls := "java/lang/String", name := "isLatin1", desc := "()Z" } : Jvm.MethodName)) ∈ lw_all := lw_g (lw_at lw_m5 102 rfl) rfl
theorem q1147 : (Jvm.Cond.instanceMethod ({ cls := "java/lang/String", name := "isLatin1", desc := "()Z" } : Jvm.MethodName)) ∈ lw_all := lw_g (lw_at lw_m5 103 rfl) rfl
theorem q1148 : (Jvm.Cond.selects "java/lang/String" ({ cls := "java/lang/String", name := "isLatin1", desc := "()Z" } : Jvm.MethodName) ({ cls := "java/lang/String", name := "isLatin1", desc := "()Z" } : Jvm.MethodName)) ∈ lw_all := lw_g (lw_at lw_m5 104 rfl) rfl
theorem q1149 : (Jvm.Cond.code ({ cls := "java/lang/String", name := "isLatin1", desc := "()Z" } : Jvm.MethodName) prog_34_method_154_code (1 : Nat) (Option.some Jvm.ClassFile.FieldType.boolean)) ∈ lw_all := lw_g (lw_at lw_m5 105 rfl) rfl
theorem q1150 : (Jvm.Cond.methodLink "java/lang/String" (495 : Nat) ({ cls := "java/lang/StringLatin1", name := "charAt", desc := "([BI)C" } : Jvm.MethodName)) ∈ lw_all := lw_g (lw_at lw_m5 106 rfl) rfl
theorem q1151 : (Jvm.Cond.static ({ cls := "java/lang/StringLatin1", name := "charAt", desc := "([BI)C" } : Jvm.MethodName)) ∈ lw_all := lw_g (lw_at lw_m5 107 rfl) rfl
theorem q1152 : (Jvm.Cond.code ({ cls := "java/lang/StringLatin1", name := "charAt", desc := "([BI)C" } : Jvm.MethodName) prog_35_method_2_code (2 : Nat) (Option.some Jvm.ClassFile.FieldType.char)) ∈ lw_all := lw_g (lw_at lw_m5 108 rfl) rfl
theorem q1153 : (Jvm.Cond.methodLink "java/lang/StringLatin1" (9 : Nat) ({ cls := "java/lang/String", name := "checkIndex", desc := "(II)V" } : Jvm.MethodName)) ∈ lw_all := lw_g (lw_at lw_m5 109 rfl) rfl
theorem q1154 : (Jvm.Cond.static ({ cls := "java/lang/String", name := "checkIndex", desc := "(II)V" } : Jvm.MethodName)) ∈ lw_all := lw_g (lw_at lw_m5 110 rfl) rfl
theorem q1155 : (Jvm.Cond.code ({ cls := "java/lang/String", name := "checkIndex", desc := "(II)V" } : Jvm.MethodName) prog_34_method_155_code (2 : Nat) (Option.none : Option Jvm.ClassFile.FieldType)) ∈ lw_all := lw_g (lw_at lw_m5 111 rfl) rfl
theorem q1156 : (Jvm.Cond.fieldLink "java/lang/String" (1053 : Nat) "jdk/internal/util/Preconditions" "SIOOBE_FORMATTER" "Ljava/util/function/BiFunction;") ∈ lw_all := lw_g (lw_at lw_m5 112 rfl) rfl
theorem q1157 : (Jvm.Cond.laysStatic "jdk/internal/util/Preconditions" "SIOOBE_FORMATTER" "Ljava/util/function/BiFunction;") ∈ lw_tbl := lw_at lw_m5 113 rfl
theorem q1158 : (Jvm.Cond.methodLink "java/lang/String" (1059 : Nat) ({ cls := "jdk/internal/util/Preconditions", name := "checkIndex", desc := "(IILjava/util/function/BiFunction;)I" } : Jvm.MethodName)) ∈ lw_all := lw_g (lw_at lw_m5 114 rfl) rfl
theorem q1159 : (Jvm.Cond.static ({ cls := "jdk/internal/util/Preconditions", name := "checkIndex", desc := "(IILjava/util/function/BiFunction;)I" } : Jvm.MethodName)) ∈ lw_all := lw_g (lw_at lw_m5 115 rfl) rfl
theorem q1160 : (Jvm.Cond.code ({ cls := "jdk/internal/util/Preconditions", name := "checkIndex", desc := "(IILjava/util/function/BiFunction;)I" } : Jvm.MethodName) prog_39_method_11_code (3 : Nat) (Option.some Jvm.ClassFile.FieldType.int)) ∈ lw_all := lw_g (lw_at lw_m5 116 rfl) rfl
theorem q1161 : (Jvm.Cond.methodLink "java/lang/String" (498 : Nat) ({ cls := "java/lang/StringUTF16", name := "charAt", desc := "([BI)C" } : Jvm.MethodName)) ∈ lw_all := lw_g (lw_at lw_m5 117 rfl) rfl
theorem q1162 : (Jvm.Cond.static ({ cls := "java/lang/StringUTF16", name := "charAt", desc := "([BI)C" } : Jvm.MethodName)) ∈ lw_all := lw_g (lw_at lw_m5 118 rfl) rfl
theorem q1163 : (Jvm.Cond.code ({ cls := "java/lang/StringUTF16", name := "charAt", desc := "([BI)C" } : Jvm.MethodName) prog_36_method_83_code (2 : Nat) (Option.some Jvm.ClassFile.FieldType.char)) ∈ lw_all := lw_g (lw_at lw_m5 119 rfl) rfl
theorem q1164 : (Jvm.Cond.methodLink "java/lang/StringUTF16" (67 : Nat) ({ cls := "java/lang/StringUTF16", name := "checkIndex", desc := "(I[B)V" } : Jvm.MethodName)) ∈ lw_all := lw_g (lw_at lw_m5 120 rfl) rfl
theorem q1165 : (Jvm.Cond.static ({ cls := "java/lang/StringUTF16", name := "checkIndex", desc := "(I[B)V" } : Jvm.MethodName)) ∈ lw_all := lw_g (lw_at lw_m5 121 rfl) rfl
theorem q1166 : (Jvm.Cond.code ({ cls := "java/lang/StringUTF16", name := "checkIndex", desc := "(I[B)V" } : Jvm.MethodName) prog_36_method_91_code (2 : Nat) (Option.none : Option Jvm.ClassFile.FieldType)) ∈ lw_all := lw_g (lw_at lw_m5 122 rfl) rfl
theorem q1167 : (Jvm.Cond.methodLink "java/lang/StringUTF16" (48 : Nat) ({ cls := "java/lang/StringUTF16", name := "length", desc := "([B)I" } : Jvm.MethodName)) ∈ lw_all := lw_g (lw_at lw_m5 123 rfl) rfl
theorem q1168 : (Jvm.Cond.static ({ cls := "java/lang/StringUTF16", name := "length", desc := "([B)I" } : Jvm.MethodName)) ∈ lw_all := lw_g (lw_at lw_m5 124 rfl) rfl
theorem q1169 : (Jvm.Cond.code ({ cls := "java/lang/StringUTF16", name := "length", desc := "([B)I" } : Jvm.MethodName) prog_36_method_6_code (1 : Nat) (Option.some Jvm.ClassFile.FieldType.int)) ∈ lw_all := lw_g (lw_at lw_m5 125 rfl) rfl
theorem q1170 : (Jvm.Cond.methodLink "java/lang/StringUTF16" (414 : Nat) ({ cls := "java/lang/String", name := "checkIndex", desc := "(II)V" } : Jvm.MethodName)) ∈ lw_all := lw_g (lw_at lw_m5 126 rfl) rfl
theorem q1171 : (Jvm.Cond.methodLink "java/lang/StringUTF16" (71 : Nat) ({ cls := "java/lang/StringUTF16", name := "getChar", desc := "([BI)C" } : Jvm.MethodName)) ∈ lw_all := lw_g (lw_at lw_m5 127 rfl) rfl
theorem q1172 : (Jvm.Cond.static ({ cls := "java/lang/StringUTF16", name := "getChar", desc := "([BI)C" } : Jvm.MethodName)) ∈ lw_all := lw_g (lw_at lw_m5 128 rfl) rfl
theorem q1173 : (Jvm.Cond.code ({ cls := "java/lang/StringUTF16", name := "getChar", desc := "([BI)C" } : Jvm.MethodName) prog_36_method_5_code (2 : Nat) (Option.some Jvm.ClassFile.FieldType.char)) ∈ lw_all := lw_g (lw_at lw_m5 129 rfl) rfl
theorem q1174 : (Jvm.Cond.fieldLink "java/lang/StringUTF16" (44 : Nat) "java/lang/StringUTF16" "$assertionsDisabled" "Z") ∈ lw_all := lw_g (lw_at lw_m5 130 rfl) rfl
theorem q1175 : (Jvm.Cond.laysStatic "java/lang/StringUTF16" "$assertionsDisabled" "Z") ∈ lw_tbl := lw_at lw_m5 131 rfl
theorem q1176 : (Jvm.Cond.fieldLink "java/lang/StringUTF16" (59 : Nat) "java/lang/StringUTF16" "HI_BYTE_SHIFT" "I") ∈ lw_all := lw_g (lw_at lw_m5 132 rfl) rfl
theorem q1177 : (Jvm.Cond.laysStatic "java/lang/StringUTF16" "HI_BYTE_SHIFT" "I") ∈ lw_tbl := lw_at lw_m5 133 rfl
theorem q1178 : (Jvm.Cond.fieldLink "java/lang/StringUTF16" (63 : Nat) "java/lang/StringUTF16" "LO_BYTE_SHIFT" "I") ∈ lw_all := lw_g (lw_at lw_m5 134 rfl) rfl
theorem q1179 : (Jvm.Cond.laysStatic "java/lang/StringUTF16" "LO_BYTE_SHIFT" "I") ∈ lw_tbl := lw_at lw_m5 135 rfl
theorem q1180 : (Jvm.Cond.methodLink "StrengthenFirst$Reader" (98 : Nat) ({ cls := "StrengthenFirst$Reader", name := "hasRoom", desc := "(ZI)V" } : Jvm.MethodName)) ∈ lw_all := lw_g (lw_at lw_m5 136 rfl) rfl
theorem q1181 : (Jvm.Cond.privateMethod ({ cls := "StrengthenFirst$Reader", name := "hasRoom", desc := "(ZI)V" } : Jvm.MethodName)) ∈ lw_tbl := lw_at lw_m5 137 rfl
theorem q1182 : (Jvm.Cond.instanceMethod ({ cls := "StrengthenFirst$Reader", name := "hasRoom", desc := "(ZI)V" } : Jvm.MethodName)) ∈ lw_all := lw_g (lw_at lw_m5 138 rfl) rfl
theorem q1183 : (Jvm.Cond.code ({ cls := "StrengthenFirst$Reader", name := "hasRoom", desc := "(ZI)V" } : Jvm.MethodName) prog_12_method_9_code (3 : Nat) (Option.none : Option Jvm.ClassFile.FieldType)) ∈ lw_all := lw_g (lw_at lw_m5 139 rfl) rfl
theorem q1184 : (Jvm.Cond.methodLink "StrengthenFirst$Reader" (88 : Nat) ({ cls := "StrengthenFirst$Reader", name := "number", desc := "(II)I" } : Jvm.MethodName)) ∈ lw_all := lw_g (lw_at lw_m5 140 rfl) rfl
theorem q1185 : (Jvm.Cond.privateMethod ({ cls := "StrengthenFirst$Reader", name := "number", desc := "(II)I" } : Jvm.MethodName)) ∈ lw_tbl := lw_at lw_m5 141 rfl
theorem q1186 : (Jvm.Cond.instanceMethod ({ cls := "StrengthenFirst$Reader", name := "number", desc := "(II)I" } : Jvm.MethodName)) ∈ lw_all := lw_g (lw_at lw_m5 142 rfl) rfl
theorem q1187 : (Jvm.Cond.code ({ cls := "StrengthenFirst$Reader", name := "number", desc := "(II)I" } : Jvm.MethodName) prog_12_method_8_code (3 : Nat) (Option.some Jvm.ClassFile.FieldType.int)) ∈ lw_all := lw_g (lw_at lw_m5 143 rfl) rfl
theorem q1188 : (Jvm.Cond.methodLink "StrengthenFirst$Reader" (63 : Nat) ({ cls := "StrengthenFirst$Reader", name := "number", desc := "(III)I" } : Jvm.MethodName)) ∈ lw_all := lw_g (lw_at lw_m5 144 rfl) rfl
theorem q1189 : (Jvm.Cond.privateMethod ({ cls := "StrengthenFirst$Reader", name := "number", desc := "(III)I" } : Jvm.MethodName)) ∈ lw_tbl := lw_at lw_m5 145 rfl
theorem q1190 : (Jvm.Cond.instanceMethod ({ cls := "StrengthenFirst$Reader", name := "number", desc := "(III)I" } : Jvm.MethodName)) ∈ lw_all := lw_g (lw_at lw_m5 146 rfl) rfl
theorem q1191 : (Jvm.Cond.code ({ cls := "StrengthenFirst$Reader", name := "number", desc := "(III)I" } : Jvm.MethodName) prog_12_method_7_code (7 : Nat) (Option.some Jvm.ClassFile.FieldType.int)) ∈ lw_all := lw_g (lw_at lw_m5 147 rfl) rfl
theorem q1192 : (Jvm.Cond.methodLink "StrengthenFirst$Reader" (56 : Nat) ({ cls := "StrengthenFirst$Reader", name := "digit", desc := "()Z" } : Jvm.MethodName)) ∈ lw_all := lw_g (lw_at lw_m5 148 rfl) rfl
theorem q1193 : (Jvm.Cond.privateMethod ({ cls := "StrengthenFirst$Reader", name := "digit", desc := "()Z" } : Jvm.MethodName)) ∈ lw_tbl := lw_at lw_m5 149 rfl
theorem q1194 : (Jvm.Cond.instanceMethod ({ cls := "StrengthenFirst$Reader", name := "digit", desc := "()Z" } : Jvm.MethodName)) ∈ lw_all := lw_g (lw_at lw_m5 150 rfl) rfl
theorem q1195 : (Jvm.Cond.code ({ cls := "StrengthenFirst$Reader", name := "digit", desc := "()Z" } : Jvm.MethodName) prog_12_method_6_code (1 : Nat) (Option.some Jvm.ClassFile.FieldType.boolean)) ∈ lw_all := lw_g (lw_at lw_m5 151 rfl) rfl
theorem q1196 : (Jvm.Cond.methodLink "StrengthenFirst$Reader" (59 : Nat) ({ cls := "StrengthenFirst", name := "in", desc := "(JJJ)Z" } : Jvm.MethodName)) ∈ lw_all := lw_g (lw_at lw_m5 152 rfl) rfl
theorem q1197 : (Jvm.Cond.methodLink "StrengthenFirst$Reader" (102 : Nat) ({ cls := "StrengthenFirst$Town", name := "addStreet", desc := "(II)V" } : Jvm.MethodName)) ∈ lw_all := lw_g (lw_at lw_m5 153 rfl) rfl
theorem q1198 : (Jvm.Cond.stringRef "StrengthenFirst$Reader" (106 : Nat) "ut") ∈ lw_tbl := lw_at lw_m5 154 rfl
theorem q1199 : (Jvm.Cond.stringRef "StrengthenFirst$Reader" (108 : Nat) "ake") ∈ lw_tbl := lw_at lw_m5 155 rfl
theorem q1200 : (Jvm.Cond.methodLink "StrengthenFirst$Reader" (113 : Nat) ({ cls := "StrengthenFirst$Town", name := "addShake", desc := "(II)V" } : Jvm.MethodName)) ∈ lw_all := lw_g (lw_at lw_m5 156 rfl) rfl
theorem q1201 : (Jvm.Cond.methodLink "StrengthenFirst$Reader" (73 : Nat) ({ cls := "StrengthenFirst$Reader", name := "house", desc := "(I)V" } : Jvm.MethodName)) ∈ lw_all := lw_g (lw_at lw_m5 157 rfl) rfl
theorem q1202 : (Jvm.Cond.privateMethod ({ cls := "StrengthenFirst$Reader", name := "house", desc := "(I)V" } : Jvm.MethodName)) ∈ lw_tbl := lw_at lw_m5 158 rfl
theorem q1203 : (Jvm.Cond.instanceMethod ({ cls := "StrengthenFirst$Reader", name := "house", desc := "(I)V" } : Jvm.MethodName)) ∈ lw_all := lw_g (lw_at lw_m5 159 rfl) rfl
theorem q1204 : (Jvm.Cond.code ({ cls := "StrengthenFirst$Reader", name := "house", desc := "(I)V" } : Jvm.MethodName) prog_12_method_13_code (8 : Nat) (Option.none : Option Jvm.ClassFile.FieldType)) ∈ lw_all := lw_g (lw_at lw_m5 160 rfl) rfl
theorem q1205 : (Jvm.Cond.stringRef "StrengthenFirst$Reader" (116 : Nat) "house") ∈ lw_tbl := lw_at lw_m5 161 rfl
theorem q1206 : (Jvm.Cond.methodLink "StrengthenFirst$Reader" (120 : Nat) ({ cls := "StrengthenFirst$Town", name := "addHouse", desc := "(IIIII)LStrengthenFirst$House;" } : Jvm.MethodName)) ∈ lw_all := lw_g (lw_at lw_m5 162 rfl) rfl
theorem q1207 : (Jvm.Cond.stringRef "StrengthenFirst$Reader" (124 : Nat) " front") ∈ lw_tbl := lw_at lw_m5 163 rfl
theorem q1208 : (Jvm.Cond.stringRef "StrengthenFirst$Reader" (131 : Nat) " next") ∈ lw_tbl := lw_at lw_m5 164 rfl
theorem q1209 : (Jvm.Cond.stringRef "StrengthenFirst$Reader" (76 : Nat) "coin") ∈ lw_tbl := lw_at lw_m5 165 rfl
theorem q1210 : (Jvm.Cond.stringRef "StrengthenFirst$Reader" (91 : Nat) "daypart") ∈ lw_tbl := lw_at lw_m5 166 rfl
theorem q1211 : (Jvm.Cond.methodLink "StrengthenFirstLaw" (94 : Nat) ({ cls := "StrengthenFirst", name := "fault", desc := "()I" } : Jvm.MethodName)) ∈ lw_all := lw_g (lw_at lw_m5 167 rfl) rfl
theorem q1212 : (Jvm.Cond.instanceMethod ({ cls := "StrengthenFirst", name := "fault", desc := "()I" } : Jvm.MethodName)) ∈ lw_all := lw_g (lw_at lw_m5 168 rfl) rfl
theorem q1213 : (Jvm.Cond.selects "StrengthenFirst" ({ cls := "StrengthenFirst", name := "fault", desc := "()I" } : Jvm.MethodName) ({ cls := "StrengthenFirst", name := "fault", desc := "()I" } : Jvm.MethodName)) ∈ lw_all := lw_g (lw_at lw_m5 169 rfl) rfl
theorem q1214 : (Jvm.Cond.code ({ cls := "StrengthenFirst", name := "fault", desc := "()I" } : Jvm.MethodName) prog_1_method_35_code (1 : Nat) (Option.some Jvm.ClassFile.FieldType.int)) ∈ lw_all := lw_g (lw_at lw_m5 170 rfl) rfl
theorem q1215 : (Jvm.Cond.methodLink "StrengthenFirstLaw" (99 : Nat) ({ cls := "StrengthenFirst", name := "falls", desc := "(II)I" } : Jvm.MethodName)) ∈ lw_all := lw_g (lw_at lw_m5 171 rfl) rfl
theorem q1216 : (Jvm.Cond.instanceMethod ({ cls := "StrengthenFirst", name := "falls", desc := "(II)I" } : Jvm.MethodName)) ∈ lw_all := lw_g (lw_at lw_m5 172 rfl) rfl
theorem q1217 : (Jvm.Cond.selects "StrengthenFirst" ({ cls := "StrengthenFirst", name := "falls", desc := "(II)I" } : Jvm.MethodName) ({ cls := "StrengthenFirst", name := "falls", desc := "(II)I" } : Jvm.MethodName)) ∈ lw_all := lw_g (lw_at lw_m5 173 rfl) rfl
theorem q1218 : (Jvm.Cond.codeWith ({ cls := "StrengthenFirst", name := "falls", desc := "(II)I" } : Jvm.MethodName) prog_1_method_36_code (4 : Nat) (Option.some Jvm.ClassFile.FieldType.int) [((0 : Nat), (24 : Nat), (25 : Nat), (21 : Nat))]) ∈ lw_all := lw_g (lw_at lw_m5 174 rfl) rfl
theorem q1219 : (Jvm.Cond.methodLink "StrengthenFirst" (301 : Nat) ({ cls := "StrengthenFirst", name := "isShake", desc := "(I)Z" } : Jvm.MethodName)) ∈ lw_all := lw_g (lw_at lw_m5 175 rfl) rfl
theorem q1220 : (Jvm.Cond.privateMethod ({ cls := "StrengthenFirst", name := "isShake", desc := "(I)Z" } : Jvm.MethodName)) ∈ lw_tbl := lw_at lw_m5 176 rfl
theorem q1221 : (Jvm.Cond.instanceMethod ({ cls := "StrengthenFirst", name := "isShake", desc := "(I)Z" } : Jvm.MethodName)) ∈ lw_all := lw_g (lw_at lw_m5 177 rfl) rfl
theorem q1222 : (Jvm.Cond.code ({ cls := "StrengthenFirst", name := "isShake", desc := "(I)Z" } : Jvm.MethodName) prog_1_method_10_code (2 : Nat) (Option.some Jvm.ClassFile.FieldType.boolean)) ∈ lw_all := lw_g (lw_at lw_m5 178 rfl) rfl
theorem q1223 : (Jvm.Cond.methodLink "StrengthenFirst" (304 : Nat) ({ cls := "StrengthenFirst$Town", name := "falls", desc := "(LStrengthenFirst$House;I)I" } : Jvm.MethodName)) ∈ lw_all := lw_g (lw_at lw_m5 179 rfl) rfl
theorem q1224 : (Jvm.Cond.methodLink "StrengthenFirstLaw" (103 : Nat) ({ cls := "StrengthenFirst", name := "cut", desc := "(I)I" } : Jvm.MethodName)) ∈ lw_all := lw_g (lw_at lw_m5 180 rfl) rfl
theorem q1225 : (Jvm.Cond.instanceMethod ({ cls := "StrengthenFirst", name := "cut", desc := "(I)I" } : Jvm.MethodName)) ∈ lw_all := lw_g (lw_at lw_m5 181 rfl) rfl
theorem q1226 : (Jvm.Cond.selects "StrengthenFirst" ({ cls := "StrengthenFirst", name := "cut", desc := "(I)I" } : Jvm.MethodName) ({ cls := "StrengthenFirst", name := "cut", desc := "(I)I" } : Jvm.MethodName)) ∈ lw_all := lw_g (lw_at lw_m5 182 rfl) rfl
theorem q1227 : (Jvm.Cond.codeWith ({ cls := "StrengthenFirst", name := "cut", desc := "(I)I" } : Jvm.MethodName) prog_1_method_37_code (3 : Nat) (Option.some Jvm.ClassFile.FieldType.int) [((0 : Nat), (33 : Nat), (34 : Nat), (21 : Nat))]) ∈ lw_all := lw_g (lw_at lw_m5 183 rfl) rfl
theorem q1228 : (Jvm.Cond.methodLink "StrengthenFirst" (308 : Nat) ({ cls := "StrengthenFirst$Town", name := "cut", desc := "(I)I" } : Jvm.MethodName)) ∈ lw_all := lw_g (lw_at lw_m5 184 rfl) rfl
theorem q1229 : (Jvm.Cond.methodLink "StrengthenFirstLaw" (107 : Nat) ({ cls := "StrengthenFirst", name := "lost", desc := "(II)J" } : Jvm.MethodName)) ∈ lw_all := lw_g (lw_at lw_m5 185 rfl) rfl
theorem q1230 : (Jvm.Cond.instanceMethod ({ cls := "StrengthenFirst", name := "lost", desc := "(II)J" } : Jvm.MethodName)) ∈ lw_all := lw_g (lw_at lw_m5 186 rfl) rfl
theorem q1231 : (Jvm.Cond.selects "StrengthenFirst" ({ cls := "StrengthenFirst", name := "lost", desc := "(II)J" } : Jvm.MethodName) ({ cls := "StrengthenFirst", name := "lost", desc := "(II)J" } : Jvm.MethodName)) ∈ lw_all := lw_g (lw_at lw_m5 187 rfl) rfl
theorem q1232 : (Jvm.Cond.codeWith ({ cls := "StrengthenFirst", name := "lost", desc := "(II)J" } : Jvm.MethodName) prog_1_method_38_code (4 : Nat) (Option.some Jvm.ClassFile.FieldType.long) [((0 : Nat), (37 : Nat), (38 : Nat), (21 : Nat))]) ∈ lw_all := lw_g (lw_at lw_m5 188 rfl) rfl
theorem q1233 : (Jvm.Cond.methodLink "StrengthenFirst" (101 : Nat) ({ cls := "StrengthenFirst$Sums", name := "of", desc := "(LStrengthenFirst$Town;)LStrengthenFirst$Sums;" } : Jvm.MethodName)) ∈ lw_all := lw_g (lw_at lw_m5 189 rfl) rfl
theorem q1234 : (Jvm.Cond.methodLink "StrengthenFirst" (311 : Nat) ({ cls := "StrengthenFirst$Sums", name := "lost", desc := "(II)J" } : Jvm.MethodName)) ∈ lw_all := lw_g (lw_at lw_m5 190 rfl) rfl
theorem q1235 : (Jvm.Cond.instanceMethod ({ cls := "StrengthenFirst$Sums", name := "lost", desc := "(II)J" } : Jvm.MethodName)) ∈ lw_all := lw_g (lw_at lw_m5 191 rfl) rfl
theorem q1236 : (Jvm.Cond.selects "StrengthenFirst$Sums" ({ cls := "StrengthenFirst$Sums", name := "lost", desc := "(II)J" } : Jvm.MethodName) ({ cls := "StrengthenFirst$Sums", name := "lost", desc := "(II)J" } : Jvm.MethodName)) ∈ lw_all := lw_g (lw_at lw_m5 192 rfl) rfl
theorem q1237 : (Jvm.Cond.code ({ cls := "StrengthenFirst$Sums", name := "lost", desc := "(II)J" } : Jvm.MethodName) prog_20_method_6_code (6 : Nat) (Option.some Jvm.ClassFile.FieldType.long)) ∈ lw_all := lw_g (lw_at lw_m5 193 rfl) rfl
theorem q1238 : (Jvm.Cond.methodLink "StrengthenFirstLaw" (111 : Nat) ({ cls := "StrengthenFirst", name := "dead", desc := "(II)J" } : Jvm.MethodName)) ∈ lw_all := lw_g (lw_at lw_m5 194 rfl) rfl
theorem q1239 : (Jvm.Cond.instanceMethod ({ cls := "StrengthenFirst", name := "dead", desc := "(II)J" } : Jvm.MethodName)) ∈ lw_all := lw_g (lw_at lw_m5 195 rfl) rfl
theorem q1240 : (Jvm.Cond.selects "StrengthenFirst" ({ cls := "StrengthenFirst", name := "dead", desc := "(II)J" } : Jvm.MethodName) ({ cls := "StrengthenFirst", name := "dead", desc := "(II)J" } : Jvm.MethodName)) ∈ lw_all := lw_g (lw_at lw_m5 196 rfl) rfl
theorem q1241 : (Jvm.Cond.codeWith ({ cls := "StrengthenFirst", name := "dead", desc := "(II)J" } : Jvm.MethodName) prog_1_method_39_code (4 : Nat) (Option.some Jvm.ClassFile.FieldType.long) [((0 : Nat), (37 : Nat), (38 : Nat), (21 : Nat))]) ∈ lw_all := lw_g (lw_at lw_m5 197 rfl) rfl
theorem q1242 : (Jvm.Cond.methodLink "StrengthenFirst" (315 : Nat) ({ cls := "StrengthenFirst$Sums", name := "dead", desc := "(II)J" } : Jvm.MethodName)) ∈ lw_all := lw_g (lw_at lw_m5 198 rfl) rfl
theorem q1243 : (Jvm.Cond.instanceMethod ({ cls := "StrengthenFirst$Sums", name := "dead", desc := "(II)J" } : Jvm.MethodName)) ∈ lw_all := lw_g (lw_at lw_m5 199 rfl) rfl
theorem q1244 : (Jvm.Cond.selects "StrengthenFirst$Sums" ({ cls := "StrengthenFirst$Sums", name := "dead", desc := "(II)J" } : Jvm.MethodName) ({ cls := "StrengthenFirst$Sums", name := "dead", desc := "(II)J" } : Jvm.MethodName)) ∈ lw_all := lw_g (lw_at lw_m5 200 rfl) rfl
theorem q1245 : (Jvm.Cond.code ({ cls := "StrengthenFirst$Sums", name := "dead", desc := "(II)J" } : Jvm.MethodName) prog_20_method_7_code (6 : Nat) (Option.some Jvm.ClassFile.FieldType.long)) ∈ lw_all := lw_g (lw_at lw_m5 201 rfl) rfl
theorem q1246 : (Jvm.Cond.constantLong "StrengthenFirst$Sums" (72 : Nat) (10 : Int64)) ∈ lw_all := lw_g (lw_at lw_m5 202 rfl) rfl
theorem q1247 : (Jvm.Cond.methodLink "StrengthenFirstLaw" (115 : Nat) ({ cls := "StrengthenFirst", name := "shuts", desc := "(II)J" } : Jvm.MethodName)) ∈ lw_all := lw_g (lw_at lw_m5 203 rfl) rfl
theorem q1248 : (Jvm.Cond.instanceMethod ({ cls := "StrengthenFirst", name := "shuts", desc := "(II)J" } : Jvm.MethodName)) ∈ lw_all := lw_g (lw_at lw_m5 204 rfl) rfl
theorem q1249 : (Jvm.Cond.selects "StrengthenFirst" ({ cls := "StrengthenFirst", name := "shuts", desc := "(II)J" } : Jvm.MethodName) ({ cls := "StrengthenFirst", name := "shuts", desc := "(II)J" } : Jvm.MethodName)) ∈ lw_all := lw_g (lw_at lw_m5 205 rfl) rfl
theorem q1250 : (Jvm.Cond.codeWith ({ cls := "StrengthenFirst", name := "shuts", desc := "(II)J" } : Jvm.MethodName) prog_1_method_40_code (4 : Nat) (Option.some Jvm.ClassFile.FieldType.long) [((0 : Nat), (40 : Nat), (41 : Nat), (21 : Nat))]) ∈ lw_all := lw_g (lw_at lw_m5 206 rfl) rfl
theorem q1251 : (Jvm.Cond.methodLink "StrengthenFirst" (318 : Nat) ({ cls := "StrengthenFirst$Sums", name := "shuts", desc := "(II)J" } : Jvm.MethodName)) ∈ lw_all := lw_g (lw_at lw_m5 207 rfl) rfl
theorem q1252 : (Jvm.Cond.instanceMethod ({ cls := "StrengthenFirst$Sums", name := "shuts", desc := "(II)J" } : Jvm.MethodName)) ∈ lw_all := lw_g (lw_at lw_m5 208 rfl) rfl
theorem q1253 : (Jvm.Cond.selects "StrengthenFirst$Sums" ({ cls := "StrengthenFirst$Sums", name := "shuts", desc := "(II)J" } : Jvm.MethodName) ({ cls := "StrengthenFirst$Sums", name := "shuts", desc := "(II)J" } : Jvm.MethodName)) ∈ lw_all := lw_g (lw_at lw_m5 209 rfl) rfl
theorem q1254 : (Jvm.Cond.code ({ cls := "StrengthenFirst$Sums", name := "shuts", desc := "(II)J" } : Jvm.MethodName) prog_20_method_8_code (6 : Nat) (Option.some Jvm.ClassFile.FieldType.long)) ∈ lw_all := lw_g (lw_at lw_m5 210 rfl) rfl
theorem q1255 : (Jvm.Cond.methodLink "StrengthenFirstLaw" (119 : Nat) ({ cls := "StrengthenFirst", name := "mean", desc := "()J" } : Jvm.MethodName)) ∈ lw_all := lw_g (lw_at lw_m5 211 rfl) rfl
theorem q1256 : (Jvm.Cond.instanceMethod ({ cls := "StrengthenFirst", name := "mean", desc := "()J" } : Jvm.MethodName)) ∈ lw_all := lw_g (lw_at lw_m5 212 rfl) rfl
theorem q1257 : (Jvm.Cond.selects "StrengthenFirst" ({ cls := "StrengthenFirst", name := "mean", desc := "()J" } : Jvm.MethodName) ({ cls := "StrengthenFirst", name := "mean", desc := "()J" } : Jvm.MethodName)) ∈ lw_all := lw_g (lw_at lw_m5 213 rfl) rfl
theorem q1258 : (Jvm.Cond.code ({ cls := "StrengthenFirst", name := "mean", desc := "()J" } : Jvm.MethodName) prog_1_method_41_code (1 : Nat) (Option.some Jvm.ClassFile.FieldType.long)) ∈ lw_all := lw_g (lw_at lw_m5 214 rfl) rfl
theorem q1259 : (Jvm.Cond.methodLink "StrengthenFirst" (321 : Nat) ({ cls := "StrengthenFirst", name := "meanNow", desc := "()J" } : Jvm.MethodName)) ∈ lw_all := lw_g (lw_at lw_m5 215 rfl) rfl
theorem q1260 : (Jvm.Cond.privateMethod ({ cls := "StrengthenFirst", name := "meanNow", desc := "()J" } : Jvm.MethodName)) ∈ lw_tbl := lw_at lw_m5 216 rfl
theorem q1261 : (Jvm.Cond.instanceMethod ({ cls := "StrengthenFirst", name := "meanNow", desc := "()J" } : Jvm.MethodName)) ∈ lw_all := lw_g (lw_at lw_m5 217 rfl) rfl
theorem q1262 : (Jvm.Cond.code ({ cls := "StrengthenFirst", name := "meanNow", desc := "()J" } : Jvm.MethodName) prog_1_method_13_code (1 : Nat) (Option.some Jvm.ClassFile.FieldType.long)) ∈ lw_all := lw_g (lw_at lw_m5 218 rfl) rfl
theorem q1263 : (Jvm.Cond.methodLink "StrengthenFirst" (105 : Nat) ({ cls := "StrengthenFirst$Sums", name := "weighed", desc := "()LStrengthenFirst$Sums;" } : Jvm.MethodName)) ∈ lw_all := lw_g (lw_at lw_m5 219 rfl) rfl
theorem q1264 : (Jvm.Cond.methodLink "StrengthenFirst" (109 : Nat) ({ cls := "StrengthenFirst$Sums", name := "mean", desc := "()J" } : Jvm.MethodName)) ∈ lw_all := lw_g (lw_at lw_m5 220 rfl) rfl
theorem q1265 : (Jvm.Cond.methodLink "StrengthenFirstLaw" (169 : Nat) ({ cls := "StrengthenFirst", name := "narrow", desc := "(I)I" } : Jvm.MethodName)) ∈ lw_all := lw_g (lw_at lw_m5 221 rfl) rfl
theorem q1266 : (Jvm.Cond.instanceMethod ({ cls := "StrengthenFirst", name := "narrow", desc := "(I)I" } : Jvm.MethodName)) ∈ lw_all := lw_g (lw_at lw_m5 222 rfl) rfl
theorem q1267 : (Jvm.Cond.selects "StrengthenFirst" ({ cls := "StrengthenFirst", name := "narrow", desc := "(I)I" } : Jvm.MethodName) ({ cls := "StrengthenFirst", name := "narrow", desc := "(I)I" } : Jvm.MethodName)) ∈ lw_all := lw_g (lw_at lw_m5 223 rfl) rfl
theorem q1268 : (Jvm.Cond.codeWith ({ cls := "StrengthenFirst", name := "narrow", desc := "(I)I" } : Jvm.MethodName) prog_1_method_42_code (8 : Nat) (Option.some Jvm.ClassFile.FieldType.int) [((0 : Nat), (77 : Nat), (78 : Nat), (21 : Nat))]) ∈ lw_all := lw_g (lw_at lw_m5 224 rfl) rfl
theorem q1269 : (Jvm.Cond.methodLink "StrengthenFirst" (324 : Nat) ({ cls := "StrengthenFirst$Sums", name := "narrow", desc := "(II)J" } : Jvm.MethodName)) ∈ lw_all := lw_g (lw_at lw_m5 225 rfl) rfl
theorem q1270 : (Jvm.Cond.instanceMethod ({ cls := "StrengthenFirst$Sums", name := "narrow", desc := "(II)J" } : Jvm.MethodName)) ∈ lw_all := lw_g (lw_at lw_m5 226 rfl) rfl
theorem q1271 : (Jvm.Cond.selects "StrengthenFirst$Sums" ({ cls := "StrengthenFirst$Sums", name := "narrow", desc := "(II)J" } : Jvm.MethodName) ({ cls := "StrengthenFirst$Sums", name := "narrow", desc := "(II)J" } : Jvm.MethodName)) ∈ lw_all := lw_g (lw_at lw_m5 227 rfl) rfl
theorem q1272 : (Jvm.Cond.code ({ cls := "StrengthenFirst$Sums", name := "narrow", desc := "(II)J" } : Jvm.MethodName) prog_20_method_9_code (8 : Nat) (Option.some Jvm.ClassFile.FieldType.long)) ∈ lw_all := lw_g (lw_at lw_m5 228 rfl) rfl
theorem q1273 : (Jvm.Cond.methodLink "StrengthenFirstLaw" (124 : Nat) ({ cls := "StrengthenFirst", name := "worth", desc := "(I)J" } : Jvm.MethodName)) ∈ lw_all := lw_g (lw_at lw_m5 229 rfl) rfl
theorem q1274 : (Jvm.Cond.instanceMethod ({ cls := "StrengthenFirst", name := "worth", desc := "(I)J" } : Jvm.MethodName)) ∈ lw_all := lw_g (lw_at lw_m5 230 rfl) rfl
theorem q1275 : (Jvm.Cond.selects "StrengthenFirst" ({ cls := "StrengthenFirst", name := "worth", desc := "(I)J" } : Jvm.MethodName) ({ cls := "StrengthenFirst", name := "worth", desc := "(I)J" } : Jvm.MethodName)) ∈ lw_all := lw_g (lw_at lw_m5 231 rfl) rfl
theorem q1276 : (Jvm.Cond.codeWith ({ cls := "StrengthenFirst", name := "worth", desc := "(I)J" } : Jvm.MethodName) prog_1_method_44_code (3 : Nat) (Option.some Jvm.ClassFile.FieldType.long) [((0 : Nat), (33 : Nat), (34 : Nat), (21 : Nat))]) ∈ lw_all := lw_g (lw_at lw_m5 232 rfl) rfl
theorem q1277 : (Jvm.Cond.methodLink "StrengthenFirst" (327 : Nat) ({ cls := "StrengthenFirst", name := "worthOf", desc := "(LStrengthenFirst$House;J)J" } : Jvm.MethodName)) ∈ lw_all := lw_g (lw_at lw_m5 233 rfl) rfl
theorem q1278 : (Jvm.Cond.privateMethod ({ cls := "StrengthenFirst", name := "worthOf", desc := "(LStrengthenFirst$House;J)J" } : Jvm.MethodName)) ∈ lw_tbl := lw_at lw_m5 234 rfl
theorem q1279 : (Jvm.Cond.instanceMethod ({ cls := "StrengthenFirst", name := "worthOf", desc := "(LStrengthenFirst$House;J)J" } : Jvm.MethodName)) ∈ lw_all := lw_g (lw_at lw_m5 235 rfl) rfl
theorem q1280 : (Jvm.Cond.code ({ cls := "StrengthenFirst", name := "worthOf", desc := "(LStrengthenFirst$House;J)J" } : Jvm.MethodName) prog_1_method_43_code (6 : Nat) (Option.some Jvm.ClassFile.FieldType.long)) ∈ lw_all := lw_g (lw_at lw_m5 236 rfl) rfl
theorem q1281 : (Jvm.Cond.constant "StrengthenFirst" (331 : Nat) (-1000000 : Int32)) ∈ lw_all := lw_g (lw_at lw_m5 237 rfl) rfl
theorem q1282 : (Jvm.Cond.methodLink "StrengthenFirstLaw" (129 : Nat) ({ cls := "StrengthenFirst", name := "which", desc := "()I" } : Jvm.MethodName)) ∈ lw_all := lw_g (lw_at lw_m5 238 rfl) rfl
theorem q1283 : (Jvm.Cond.instanceMethod ({ cls := "StrengthenFirst", name := "which", desc := "()I" } : Jvm.MethodName)) ∈ lw_all := lw_g (lw_at lw_m5 239 rfl) rfl
theorem q1284 : (Jvm.Cond.selects "StrengthenFirst" ({ cls := "StrengthenFirst", name := "which", desc := "()I" } : Jvm.MethodName) ({ cls := "StrengthenFirst", name := "which", desc := "()I" } : Jvm.MethodName)) ∈ lw_all := lw_g (lw_at lw_m6 0 rfl) rfl
theorem q1285 : (Jvm.Cond.code ({ cls := "StrengthenFirst", name := "which", desc := "()I" } : Jvm.MethodName) prog_1_method_45_code (10 : Nat) (Option.some Jvm.ClassFile.FieldType.int)) ∈ lw_all := lw_g (lw_at lw_m6 1 rfl) rfl
theorem q1286 : (Jvm.Cond.methodLink "StrengthenFirstLaw" (133 : Nat) ({ cls := "StrengthenFirst", name := "order", desc := "(II)I" } : Jvm.MethodName)) ∈ lw_all := lw_g (lw_at lw_m6 2 rfl) rfl
theorem q1287 : (Jvm.Cond.instanceMethod ({ cls := "StrengthenFirst", name := "order", desc := "(II)I" } : Jvm.MethodName)) ∈ lw_all := lw_g (lw_at lw_m6 3 rfl) rfl
theorem q1288 : (Jvm.Cond.selects "StrengthenFirst" ({ cls := "StrengthenFirst", name := "order", desc := "(II)I" } : Jvm.MethodName) ({ cls := "StrengthenFirst", name := "order", desc := "(II)I" } : Jvm.MethodName)) ∈ lw_all := lw_g (lw_at lw_m6 4 rfl) rfl
theorem q1289 : (Jvm.Cond.codeWith ({ cls := "StrengthenFirst", name := "order", desc := "(II)I" } : Jvm.MethodName) prog_1_method_46_code (4 : Nat) (Option.some Jvm.ClassFile.FieldType.int) [((0 : Nat), (44 : Nat), (45 : Nat), (21 : Nat))]) ∈ lw_all := lw_g (lw_at lw_m6 5 rfl) rfl
theorem q1290 : (Jvm.Cond.methodLink "StrengthenFirst" (332 : Nat) ({ cls := "StrengthenFirst$Shelf", name := "rule", desc := "()LStrengthenFirst$Rule;" } : Jvm.MethodName)) ∈ lw_all := lw_g (lw_at lw_m6 6 rfl) rfl
theorem q1291 : (Jvm.Cond.instanceMethod ({ cls := "StrengthenFirst$Shelf", name := "rule", desc := "()LStrengthenFirst$Rule;" } : Jvm.MethodName)) ∈ lw_all := lw_g (lw_at lw_m6 7 rfl) rfl
theorem q1292 : (Jvm.Cond.selects "StrengthenFirst$Shelf" ({ cls := "StrengthenFirst$Shelf", name := "rule", desc := "()LStrengthenFirst$Rule;" } : Jvm.MethodName) ({ cls := "StrengthenFirst$Shelf", name := "rule", desc := "()LStrengthenFirst$Rule;" } : Jvm.MethodName)) ∈ lw_all := lw_g (lw_at lw_m6 8 rfl) rfl
theorem q1293 : (Jvm.Cond.codeWith ({ cls := "StrengthenFirst$Shelf", name := "rule", desc := "()LStrengthenFirst$Rule;" } : Jvm.MethodName) prog_17_method_3_code (2 : Nat) (Option.some (Jvm.ClassFile.FieldType.object "StrengthenFirst$Rule")) [((0 : Nat), (23 : Nat), (24 : Nat), (21 : Nat))]) ∈ lw_all := lw_g (lw_at lw_m6 9 rfl) rfl
theorem q1294 : (Jvm.Cond.methodLink "StrengthenFirst" (336 : Nat) ({ cls := "StrengthenFirst$Rule", name := "order", desc := "(LStrengthenFirst$Town;LStrengthenFirst$Sums;)LStrengthenFirst$Order;" } : Jvm.MethodName)) ∈ lw_all := lw_g (lw_at lw_m6 10 rfl) rfl
theorem q1295 : (Jvm.Cond.methodLink "StrengthenFirstLaw" (137 : Nat) ({ cls := "StrengthenFirst", name := "plan", desc := "(II)J" } : Jvm.MethodName)) ∈ lw_all := lw_g (lw_at lw_m6 11 rfl) rfl
theorem q1296 : (Jvm.Cond.instanceMethod ({ cls := "StrengthenFirst", name := "plan", desc := "(II)J" } : Jvm.MethodName)) ∈ lw_all := lw_g (lw_at lw_m6 12 rfl) rfl
theorem q1297 : (Jvm.Cond.selects "StrengthenFirst" ({ cls := "StrengthenFirst", name := "plan", desc := "(II)J" } : Jvm.MethodName) ({ cls := "StrengthenFirst", name := "plan", desc := "(II)J" } : Jvm.MethodName)) ∈ lw_all := lw_g (lw_at lw_m6 13 rfl) rfl
theorem q1298 : (Jvm.Cond.codeWith ({ cls := "StrengthenFirst", name := "plan", desc := "(II)J" } : Jvm.MethodName) prog_1_method_48_code (4 : Nat) (Option.some Jvm.ClassFile.FieldType.long) [((0 : Nat), (27 : Nat), (28 : Nat), (21 : Nat))]) ∈ lw_all := lw_g (lw_at lw_m6 14 rfl) rfl
theorem q1299 : (Jvm.Cond.methodLink "StrengthenFirst" (357 : Nat) ({ cls := "StrengthenFirst", name := "areYears", desc := "(I)Z" } : Jvm.MethodName)) ∈ lw_all := lw_g (lw_at lw_m6 15 rfl) rfl
theorem q1300 : (Jvm.Cond.static ({ cls := "StrengthenFirst", name := "areYears", desc := "(I)Z" } : Jvm.MethodName)) ∈ lw_all := lw_g (lw_at lw_m6 16 rfl) rfl
theorem q1301 : (Jvm.Cond.code ({ cls := "StrengthenFirst", name := "areYears", desc := "(I)Z" } : Jvm.MethodName) prog_1_method_12_code (1 : Nat) (Option.some Jvm.ClassFile.FieldType.boolean)) ∈ lw_all := lw_g (lw_at lw_m6 17 rfl) rfl
theorem q1302 : (Jvm.Cond.constantLong "StrengthenFirst" (99 : Nat) (20 : Int64)) ∈ lw_all := lw_g (lw_at lw_m6 18 rfl) rfl
theorem q1303 : (Jvm.Cond.methodLink "StrengthenFirst" (360 : Nat) ({ cls := "StrengthenFirst", name := "lossOf", desc := "(LStrengthenFirst$Rule;I[I)J" } : Jvm.MethodName)) ∈ lw_all := lw_g (lw_at lw_m6 19 rfl) rfl
theorem q1304 : (Jvm.Cond.privateMethod ({ cls := "StrengthenFirst", name := "lossOf", desc := "(LStrengthenFirst$Rule;I[I)J" } : Jvm.MethodName)) ∈ lw_tbl := lw_at lw_m6 20 rfl
theorem q1305 : (Jvm.Cond.instanceMethod ({ cls := "StrengthenFirst", name := "lossOf", desc := "(LStrengthenFirst$Rule;I[I)J" } : Jvm.MethodName)) ∈ lw_all := lw_g (lw_at lw_m6 21 rfl) rfl
theorem q1306 : (Jvm.Cond.code ({ cls := "StrengthenFirst", name := "lossOf", desc := "(LStrengthenFirst$Rule;I[I)J" } : Jvm.MethodName) prog_1_method_47_code (8 : Nat) (Option.some Jvm.ClassFile.FieldType.long)) ∈ lw_all := lw_g (lw_at lw_m6 22 rfl) rfl
theorem q1307 : (Jvm.Cond.classLink "StrengthenFirst" (347 : Nat) "StrengthenFirst$Plan") ∈ lw_all := lw_g (lw_at lw_m6 23 rfl) rfl
theorem q1308 : (Jvm.Cond.instantiable "StrengthenFirst$Plan" (3 : Nat)) ∈ lw_all := lw_g (lw_at lw_m6 24 rfl) rfl
theorem q1309 : (Jvm.Cond.methodLink "StrengthenFirst" (349 : Nat) ({ cls := "StrengthenFirst$Plan", name := "<init>", desc := "(LStrengthenFirst$Town;LStrengthenFirst$Sums;)V" } : Jvm.MethodName)) ∈ lw_all := lw_g (lw_at lw_m6 25 rfl) rfl
theorem q1310 : (Jvm.Cond.instanceMethod ({ cls := "StrengthenFirst$Plan", name := "<init>", desc := "(LStrengthenFirst$Town;LStrengthenFirst$Sums;)V" } : Jvm.MethodName)) ∈ lw_all := lw_g (lw_at lw_m6 26 rfl) rfl
theorem q1311 : (Jvm.Cond.code ({ cls := "StrengthenFirst$Plan", name := "<init>", desc := "(LStrengthenFirst$Town;LStrengthenFirst$Sums;)V" } : Jvm.MethodName) prog_10_method_1_code (3 : Nat) (Option.none : Option Jvm.ClassFile.FieldType)) ∈ lw_all := lw_g (lw_at lw_m6 27 rfl) rfl
theorem q1312 : (Jvm.Cond.methodLink "StrengthenFirst$Plan" (3 : Nat) ({ cls := "java/lang/Object", name := "<init>", desc := "()V" } : Jvm.MethodName)) ∈ lw_all := lw_g (lw_at lw_m6 28 rfl) rfl
theorem q1313 : (Jvm.Cond.methodLink "StrengthenFirst$Plan" (9 : Nat) ({ cls := "StrengthenFirst$Town", name := "again", desc := "()LStrengthenFirst$Town;" } : Jvm.MethodName)) ∈ lw_all := lw_g (lw_at lw_m6 29 rfl) rfl
theorem q1314 : (Jvm.Cond.methodLink "StrengthenFirst$Plan" (21 : Nat) ({ cls := "StrengthenFirst$Sums", name := "of", desc := "(LStrengthenFirst$Town;)LStrengthenFirst$Sums;" } : Jvm.MethodName)) ∈ lw_all := lw_g (lw_at lw_m6 30 rfl) rfl
theorem q1315 : (Jvm.Cond.methodLink "StrengthenFirst$Plan" (27 : Nat) ({ cls := "StrengthenFirst$Sums", name := "weighed", desc := "()LStrengthenFirst$Sums;" } : Jvm.MethodName)) ∈ lw_all := lw_g (lw_at lw_m6 31 rfl) rfl
theorem q1316 : (Jvm.Cond.fieldLink "StrengthenFirst$Plan" (15 : Nat) "StrengthenFirst$Plan" "t" "LStrengthenFirst$Town;") ∈ lw_all := lw_g (lw_at lw_m6 32 rfl) rfl
theorem q1317 : (Jvm.Cond.fieldLink "StrengthenFirst$Plan" (31 : Nat) "StrengthenFirst$Plan" "s" "LStrengthenFirst$Sums;") ∈ lw_all := lw_g (lw_at lw_m6 33 rfl) rfl
theorem q1318 : (Jvm.Cond.fieldLink "StrengthenFirst$Plan" (59 : Nat) "StrengthenFirst$Plan" "steps" "I") ∈ lw_all := lw_g (lw_at lw_m6 34 rfl) rfl
theorem q1319 : (Jvm.Cond.fieldLink "StrengthenFirst" (356 : Nat) "StrengthenFirst$Plan" "steps" "I") ∈ lw_all := lw_g (lw_at lw_m6 35 rfl) rfl
theorem q1320 : (Jvm.Cond.laysFinal "StrengthenFirst$Plan" "StrengthenFirst$Plan" "t" "LStrengthenFirst$Town;") ∈ lw_all := lw_g (lw_at lw_m6 36 rfl) rfl
theorem q1321 : (Jvm.Cond.soleField "StrengthenFirst$Plan" "t") ∈ lw_all := lw_g (lw_at lw_m6 37 rfl) rfl
theorem q1322 : (Jvm.Cond.laysFinal "StrengthenFirst$Plan" "StrengthenFirst$Plan" "s" "LStrengthenFirst$Sums;") ∈ lw_all := lw_g (lw_at lw_m6 38 rfl) rfl
theorem q1323 : (Jvm.Cond.soleField "StrengthenFirst$Plan" "s") ∈ lw_all := lw_g (lw_at lw_m6 39 rfl) rfl
theorem q1324 : (Jvm.Cond.lays "StrengthenFirst$Plan" "StrengthenFirst$Plan" "steps" "I") ∈ lw_all := lw_g (lw_at lw_m6 40 rfl) rfl
theorem q1325 : (Jvm.Cond.soleField "StrengthenFirst$Plan" "steps") ∈ lw_all := lw_g (lw_at lw_m6 41 rfl) rfl
theorem q1326 : (Jvm.Cond.superclass "StrengthenFirst$Plan" "java/lang/Object") ∈ lw_all := lw_g (lw_at lw_m6 42 rfl) rfl
theorem q1327 : (Jvm.Cond.methodLink "StrengthenFirst" (352 : Nat) ({ cls := "StrengthenFirst$Plan", name := "loss", desc := "([III)J" } : Jvm.MethodName)) ∈ lw_all := lw_g (lw_at lw_m6 43 rfl) rfl
theorem q1328 : (Jvm.Cond.instanceMethod ({ cls := "StrengthenFirst$Plan", name := "loss", desc := "([III)J" } : Jvm.MethodName)) ∈ lw_all := lw_g (lw_at lw_m6 44 rfl) rfl
theorem q1329 : (Jvm.Cond.selects "StrengthenFirst$Plan" ({ cls := "StrengthenFirst$Plan", name := "loss", desc := "([III)J" } : Jvm.MethodName) ({ cls := "StrengthenFirst$Plan", name := "loss", desc := "([III)J" } : Jvm.MethodName)) ∈ lw_all := lw_g (lw_at lw_m6 45 rfl) rfl
theorem q1330 : (Jvm.Cond.code ({ cls := "StrengthenFirst$Plan", name := "loss", desc := "([III)J" } : Jvm.MethodName) prog_10_method_3_code (11 : Nat) (Option.some Jvm.ClassFile.FieldType.long)) ∈ lw_all := lw_g (lw_at lw_m6 46 rfl) rfl
theorem q1331 : (Jvm.Cond.methodLink "StrengthenFirst$Plan" (55 : Nat) ({ cls := "StrengthenFirst$Plan", name := "stepsThere", desc := "()I" } : Jvm.MethodName)) ∈ lw_all := lw_g (lw_at lw_m6 47 rfl) rfl
theorem q1332 : (Jvm.Cond.privateMethod ({ cls := "StrengthenFirst$Plan", name := "stepsThere", desc := "()I" } : Jvm.MethodName)) ∈ lw_tbl := lw_at lw_m6 48 rfl
theorem q1333 : (Jvm.Cond.instanceMethod ({ cls := "StrengthenFirst$Plan", name := "stepsThere", desc := "()I" } : Jvm.MethodName)) ∈ lw_all := lw_g (lw_at lw_m6 49 rfl) rfl
theorem q1334 : (Jvm.Cond.code ({ cls := "StrengthenFirst$Plan", name := "stepsThere", desc := "()I" } : Jvm.MethodName) prog_10_method_4_code (3 : Nat) (Option.some Jvm.ClassFile.FieldType.int)) ∈ lw_all := lw_g (lw_at lw_m6 50 rfl) rfl
theorem q1335 : (Jvm.Cond.methodLink "StrengthenFirst$Plan" (60 : Nat) ({ cls := "StrengthenFirst$Sums", name := "mean", desc := "()J" } : Jvm.MethodName)) ∈ lw_all := lw_g (lw_at lw_m6 51 rfl) rfl
theorem q1336 : (Jvm.Cond.methodLink "StrengthenFirst$Plan" (64 : Nat) ({ cls := "StrengthenFirst$Plan", name := "year", desc := "(LStrengthenFirst$Town;[III)I" } : Jvm.MethodName)) ∈ lw_all := lw_g (lw_at lw_m6 52 rfl) rfl
theorem q1337 : (Jvm.Cond.static ({ cls := "StrengthenFirst$Plan", name := "year", desc := "(LStrengthenFirst$Town;[III)I" } : Jvm.MethodName)) ∈ lw_all := lw_g (lw_at lw_m6 53 rfl) rfl
theorem q1338 : (Jvm.Cond.code ({ cls := "StrengthenFirst$Plan", name := "year", desc := "(LStrengthenFirst$Town;[III)I" } : Jvm.MethodName) prog_10_method_2_code (6 : Nat) (Option.some Jvm.ClassFile.FieldType.int)) ∈ lw_all := lw_g (lw_at lw_m6 54 rfl) rfl
theorem q1339 : (Jvm.Cond.methodLink "StrengthenFirstLaw" (141 : Nat) ({ cls := "StrengthenFirst", name := "steps", desc := "(II)I" } : Jvm.MethodName)) ∈ lw_all := lw_g (lw_at lw_m6 55 rfl) rfl
theorem q1340 : (Jvm.Cond.instanceMethod ({ cls := "StrengthenFirst", name := "steps", desc := "(II)I" } : Jvm.MethodName)) ∈ lw_all := lw_g (lw_at lw_m6 56 rfl) rfl
theorem q1341 : (Jvm.Cond.selects "StrengthenFirst" ({ cls := "StrengthenFirst", name := "steps", desc := "(II)I" } : Jvm.MethodName) ({ cls := "StrengthenFirst", name := "steps", desc := "(II)I" } : Jvm.MethodName)) ∈ lw_all := lw_g (lw_at lw_m6 57 rfl) rfl
theorem q1342 : (Jvm.Cond.codeWith ({ cls := "StrengthenFirst", name := "steps", desc := "(II)I" } : Jvm.MethodName) prog_1_method_49_code (5 : Nat) (Option.some Jvm.ClassFile.FieldType.int) [((0 : Nat), (36 : Nat), (37 : Nat), (21 : Nat))]) ∈ lw_all := lw_g (lw_at lw_m6 58 rfl) rfl
theorem q1343 : (Jvm.Cond.methodLink "StrengthenFirstLaw" (145 : Nat) ({ cls := "StrengthenFirst", name := "judge", desc := "(II)J" } : Jvm.MethodName)) ∈ lw_all := lw_g (lw_at lw_m6 59 rfl) rfl
theorem q1344 : (Jvm.Cond.instanceMethod ({ cls := "StrengthenFirst", name := "judge", desc := "(II)J" } : Jvm.MethodName)) ∈ lw_all := lw_g (lw_at lw_m6 60 rfl) rfl
theorem q1345 : (Jvm.Cond.selects "StrengthenFirst" ({ cls := "StrengthenFirst", name := "judge", desc := "(II)J" } : Jvm.MethodName) ({ cls := "StrengthenFirst", name := "judge", desc := "(II)J" } : Jvm.MethodName)) ∈ lw_all := lw_g (lw_at lw_m6 61 rfl) rfl
theorem q1346 : (Jvm.Cond.codeWith ({ cls := "StrengthenFirst", name := "judge", desc := "(II)J" } : Jvm.MethodName) prog_1_method_50_code (7 : Nat) (Option.some Jvm.ClassFile.FieldType.long) [((0 : Nat), (150 : Nat), (151 : Nat), (21 : Nat))]) ∈ lw_all := lw_g (lw_at lw_m6 62 rfl) rfl
theorem q1347 : (Jvm.Cond.methodLink "StrengthenFirstLaw" (149 : Nat) ({ cls := "StrengthenFirst", name := "best", desc := "(I)J" } : Jvm.MethodName)) ∈ lw_all := lw_g (lw_at lw_m6 63 rfl) rfl
theorem q1348 : (Jvm.Cond.instanceMethod ({ cls := "StrengthenFirst", name := "best", desc := "(I)J" } : Jvm.MethodName)) ∈ lw_all := lw_g (lw_at lw_m6 64 rfl) rfl
theorem q1349 : (Jvm.Cond.selects "StrengthenFirst" ({ cls := "StrengthenFirst", name := "best", desc := "(I)J" } : Jvm.MethodName) ({ cls := "StrengthenFirst", name := "best", desc := "(I)J" } : Jvm.MethodName)) ∈ lw_all := lw_g (lw_at lw_m6 65 rfl) rfl
theorem q1350 : (Jvm.Cond.codeWith ({ cls := "StrengthenFirst", name := "best", desc := "(I)J" } : Jvm.MethodName) prog_1_method_52_code (3 : Nat) (Option.some Jvm.ClassFile.FieldType.long) [((0 : Nat), (8 : Nat), (9 : Nat), (21 : Nat))]) ∈ lw_all := lw_g (lw_at lw_m6 66 rfl) rfl
theorem q1351 : (Jvm.Cond.methodLink "StrengthenFirst" (376 : Nat) ({ cls := "StrengthenFirst", name := "bestOf", desc := "(I)LStrengthenFirst$Best;" } : Jvm.MethodName)) ∈ lw_all := lw_g (lw_at lw_m6 67 rfl) rfl
theorem q1352 : (Jvm.Cond.privateMethod ({ cls := "StrengthenFirst", name := "bestOf", desc := "(I)LStrengthenFirst$Best;" } : Jvm.MethodName)) ∈ lw_tbl := lw_at lw_m6 68 rfl
theorem q1353 : (Jvm.Cond.instanceMethod ({ cls := "StrengthenFirst", name := "bestOf", desc := "(I)LStrengthenFirst$Best;" } : Jvm.MethodName)) ∈ lw_all := lw_g (lw_at lw_m6 69 rfl) rfl
theorem q1354 : (Jvm.Cond.code ({ cls := "StrengthenFirst", name := "bestOf", desc := "(I)LStrengthenFirst$Best;" } : Jvm.MethodName) prog_1_method_51_code (3 : Nat) (Option.some (Jvm.ClassFile.FieldType.object "StrengthenFirst$Best"))) ∈ lw_all := lw_g (lw_at lw_m6 70 rfl) rfl
theorem q1355 : (Jvm.Cond.classLink "StrengthenFirst" (364 : Nat) "StrengthenFirst$Best") ∈ lw_all := lw_g (lw_at lw_m6 71 rfl) rfl
theorem q1356 : (Jvm.Cond.instantiable "StrengthenFirst$Best" (9 : Nat)) ∈ lw_all := lw_g (lw_at lw_m6 72 rfl) rfl
theorem q1357 : (Jvm.Cond.methodLink "StrengthenFirst" (366 : Nat) ({ cls := "StrengthenFirst$Best", name := "<init>", desc := "(LStrengthenFirst$Town;I)V" } : Jvm.MethodName)) ∈ lw_all := lw_g (lw_at lw_m6 73 rfl) rfl
theorem q1358 : (Jvm.Cond.instanceMethod ({ cls := "StrengthenFirst$Best", name := "<init>", desc := "(LStrengthenFirst$Town;I)V" } : Jvm.MethodName)) ∈ lw_all := lw_g (lw_at lw_m6 74 rfl) rfl
theorem q1359 : (Jvm.Cond.code ({ cls := "StrengthenFirst$Best", name := "<init>", desc := "(LStrengthenFirst$Town;I)V" } : Jvm.MethodName) prog_2_method_1_code (4 : Nat) (Option.none : Option Jvm.ClassFile.FieldType)) ∈ lw_all := lw_g (lw_at lw_m6 75 rfl) rfl
theorem q1360 : (Jvm.Cond.methodLink "StrengthenFirst$Best" (3 : Nat) ({ cls := "java/lang/Object", name := "<init>", desc := "()V" } : Jvm.MethodName)) ∈ lw_all := lw_g (lw_at lw_m6 76 rfl) rfl
theorem q1361 : (Jvm.Cond.methodLink "StrengthenFirst$Best" (25 : Nat) ({ cls := "StrengthenFirst$Town", name := "again", desc := "()LStrengthenFirst$Town;" } : Jvm.MethodName)) ∈ lw_all := lw_g (lw_at lw_m6 77 rfl) rfl
theorem q1362 : (Jvm.Cond.fieldLink "StrengthenFirst$Best" (31 : Nat) "StrengthenFirst$Best" "t" "LStrengthenFirst$Town;") ∈ lw_all := lw_g (lw_at lw_m6 78 rfl) rfl
theorem q1363 : (Jvm.Cond.fieldLink "StrengthenFirst$Best" (9 : Nat) "StrengthenFirst$Best" "houses" "[I") ∈ lw_all := lw_g (lw_at lw_m6 79 rfl) rfl
theorem q1364 : (Jvm.Cond.fieldLink "StrengthenFirst$Best" (15 : Nat) "StrengthenFirst$Best" "tried" "[I") ∈ lw_all := lw_g (lw_at lw_m6 80 rfl) rfl
theorem q1365 : (Jvm.Cond.fieldLink "StrengthenFirst$Best" (18 : Nat) "StrengthenFirst$Best" "means" "[J") ∈ lw_all := lw_g (lw_at lw_m6 81 rfl) rfl
theorem q1366 : (Jvm.Cond.fieldLink "StrengthenFirst$Best" (35 : Nat) "StrengthenFirst$Best" "n" "I") ∈ lw_all := lw_g (lw_at lw_m6 82 rfl) rfl
theorem q1367 : (Jvm.Cond.fieldLink "StrengthenFirst$Best" (22 : Nat) "StrengthenFirst$Best" "row" "[I") ∈ lw_all := lw_g (lw_at lw_m6 83 rfl) rfl
theorem q1368 : (Jvm.Cond.fieldLink "StrengthenFirst$Best" (50 : Nat) "StrengthenFirst$Best" "many" "I") ∈ lw_all := lw_g (lw_at lw_m6 84 rfl) rfl
theorem q1369 : (Jvm.Cond.fieldLink "StrengthenFirst$Best" (78 : Nat) "StrengthenFirst$Best" "least" "J") ∈ lw_all := lw_g (lw_at lw_m6 85 rfl) rfl
theorem q1370 : (Jvm.Cond.fieldLink "StrengthenFirst" (380 : Nat) "StrengthenFirst$Best" "least" "J") ∈ lw_all := lw_g (lw_at lw_m6 86 rfl) rfl
theorem q1371 : (Jvm.Cond.fieldLink "StrengthenFirst$Best" (74 : Nat) "StrengthenFirst$Best" "any" "Z") ∈ lw_all := lw_g (lw_at lw_m6 87 rfl) rfl
theorem q1372 : (Jvm.Cond.laysFinal "StrengthenFirst$Best" "StrengthenFirst$Best" "t" "LStrengthenFirst$Town;") ∈ lw_all := lw_g (lw_at lw_m6 88 rfl) rfl
theorem q1373 : (Jvm.Cond.soleField "StrengthenFirst$Best" "t") ∈ lw_all := lw_g (lw_at lw_m6 89 rfl) rfl
theorem q1374 : (Jvm.Cond.laysFinal "StrengthenFirst$Best" "StrengthenFirst$Best" "houses" "[I") ∈ lw_all := lw_g (lw_at lw_m6 90 rfl) rfl
theorem q1375 : (Jvm.Cond.soleField "StrengthenFirst$Best" "houses") ∈ lw_all := lw_g (lw_at lw_m6 91 rfl) rfl
theorem q1376 : (Jvm.Cond.laysFinal "StrengthenFirst$Best" "StrengthenFirst$Best" "tried" "[I") ∈ lw_all := lw_g (lw_at lw_m6 92 rfl) rfl
theorem q1377 : (Jvm.Cond.soleField "StrengthenFirst$Best" "tried") ∈ lw_all := lw_g (lw_at lw_m6 93 rfl) rfl
theorem q1378 : (Jvm.Cond.laysFinal "StrengthenFirst$Best" "StrengthenFirst$Best" "means" "[J") ∈ lw_all := lw_g (lw_at lw_m6 94 rfl) rfl
theorem q1379 : (Jvm.Cond.soleField "StrengthenFirst$Best" "means") ∈ lw_all := lw_g (lw_at lw_m6 95 rfl) rfl
theorem q1380 : (Jvm.Cond.laysFinal "StrengthenFirst$Best" "StrengthenFirst$Best" "n" "I") ∈ lw_all := lw_g (lw_at lw_m6 96 rfl) rfl
theorem q1381 : (Jvm.Cond.soleField "StrengthenFirst$Best" "n") ∈ lw_all := lw_g (lw_at lw_m6 97 rfl) rfl
theorem q1382 : (Jvm.Cond.laysFinal "StrengthenFirst$Best" "StrengthenFirst$Best" "row" "[I") ∈ lw_all := lw_g (lw_at lw_m6 98 rfl) rfl
theorem q1383 : (Jvm.Cond.soleField "StrengthenFirst$Best" "row") ∈ lw_all := lw_g (lw_at lw_m6 99 rfl) rfl
theorem q1384 : (Jvm.Cond.lays "StrengthenFirst$Best" "StrengthenFirst$Best" "many" "I") ∈ lw_all := lw_g (lw_at lw_m6 100 rfl) rfl
theorem q1385 : (Jvm.Cond.soleField "StrengthenFirst$Best" "many") ∈ lw_all := lw_g (lw_at lw_m6 101 rfl) rfl
theorem q1386 : (Jvm.Cond.lays "StrengthenFirst$Best" "StrengthenFirst$Best" "least" "J") ∈ lw_all := lw_g (lw_at lw_m6 102 rfl) rfl
theorem q1387 : (Jvm.Cond.soleField "StrengthenFirst$Best" "least") ∈ lw_all := lw_g (lw_at lw_m6 103 rfl) rfl
theorem q1388 : (Jvm.Cond.lays "StrengthenFirst$Best" "StrengthenFirst$Best" "any" "Z") ∈ lw_all := lw_g (lw_at lw_m6 104 rfl) rfl
theorem q1389 : (Jvm.Cond.soleField "StrengthenFirst$Best" "any") ∈ lw_all := lw_g (lw_at lw_m6 105 rfl) rfl
theorem q1390 : (Jvm.Cond.superclass "StrengthenFirst$Best" "java/lang/Object") ∈ lw_all := lw_g (lw_at lw_m6 106 rfl) rfl
theorem q1391 : (Jvm.Cond.methodLink "StrengthenFirst" (369 : Nat) ({ cls := "StrengthenFirst$Best", name := "isSmall", desc := "()Z" } : Jvm.MethodName)) ∈ lw_all := lw_g (lw_at lw_m6 107 rfl) rfl
theorem q1392 : (Jvm.Cond.instanceMethod ({ cls := "StrengthenFirst$Best", name := "isSmall", desc := "()Z" } : Jvm.MethodName)) ∈ lw_all := lw_g (lw_at lw_m6 108 rfl) rfl
theorem q1393 : (Jvm.Cond.selects "StrengthenFirst$Best" ({ cls := "StrengthenFirst$Best", name := "isSmall", desc := "()Z" } : Jvm.MethodName) ({ cls := "StrengthenFirst$Best", name := "isSmall", desc := "()Z" } : Jvm.MethodName)) ∈ lw_all := lw_g (lw_at lw_m6 109 rfl) rfl
theorem q1394 : (Jvm.Cond.code ({ cls := "StrengthenFirst$Best", name := "isSmall", desc := "()Z" } : Jvm.MethodName) prog_2_method_2_code (1 : Nat) (Option.some Jvm.ClassFile.FieldType.boolean)) ∈ lw_all := lw_g (lw_at lw_m6 110 rfl) rfl
theorem q1395 : (Jvm.Cond.methodLink "StrengthenFirst" (372 : Nat) ({ cls := "StrengthenFirst$Best", name := "find", desc := "(LStrengthenFirst$Sums;)V" } : Jvm.MethodName)) ∈ lw_all := lw_g (lw_at lw_m6 111 rfl) rfl
theorem q1396 : (Jvm.Cond.instanceMethod ({ cls := "StrengthenFirst$Best", name := "find", desc := "(LStrengthenFirst$Sums;)V" } : Jvm.MethodName)) ∈ lw_all := lw_g (lw_at lw_m6 112 rfl) rfl
theorem q1397 : (Jvm.Cond.selects "StrengthenFirst$Best" ({ cls := "StrengthenFirst$Best", name := "find", desc := "(LStrengthenFirst$Sums;)V" } : Jvm.MethodName) ({ cls := "StrengthenFirst$Best", name := "find", desc := "(LStrengthenFirst$Sums;)V" } : Jvm.MethodName)) ∈ lw_all := lw_g (lw_at lw_m6 113 rfl) rfl
theorem q1398 : (Jvm.Cond.code ({ cls := "StrengthenFirst$Best", name := "find", desc := "(LStrengthenFirst$Sums;)V" } : Jvm.MethodName) prog_2_method_3_code (4 : Nat) (Option.none : Option Jvm.ClassFile.FieldType)) ∈ lw_all := lw_g (lw_at lw_m6 114 rfl) rfl
theorem q1399 : (Jvm.Cond.methodLink "StrengthenFirst$Best" (53 : Nat) ({ cls := "StrengthenFirst$Sums", name := "of", desc := "(LStrengthenFirst$Town;)LStrengthenFirst$Sums;" } : Jvm.MethodName)) ∈ lw_all := lw_g (lw_at lw_m6 115 rfl) rfl
theorem q1400 : (Jvm.Cond.methodLink "StrengthenFirst$Best" (59 : Nat) ({ cls := "StrengthenFirst$Sums", name := "weighed", desc := "()LStrengthenFirst$Sums;" } : Jvm.MethodName)) ∈ lw_all := lw_g (lw_at lw_m6 116 rfl) rfl
theorem q1401 : (Jvm.Cond.methodLink "StrengthenFirst$Best" (63 : Nat) ({ cls := "StrengthenFirst$Sums", name := "mean", desc := "()J" } : Jvm.MethodName)) ∈ lw_all := lw_g (lw_at lw_m6 117 rfl) rfl
theorem q1402 : (Jvm.Cond.methodLink "StrengthenFirst$Best" (67 : Nat) ({ cls := "StrengthenFirst$Best", name := "rows", desc := "(II)V" } : Jvm.MethodName)) ∈ lw_all := lw_g (lw_at lw_m6 118 rfl) rfl
theorem q1403 : (Jvm.Cond.privateMethod ({ cls := "StrengthenFirst$Best", name := "rows", desc := "(II)V" } : Jvm.MethodName)) ∈ lw_tbl := lw_at lw_m6 119 rfl
theorem q1404 : (Jvm.Cond.instanceMethod ({ cls := "StrengthenFirst$Best", name := "rows", desc := "(II)V" } : Jvm.MethodName)) ∈ lw_all := lw_g (lw_at lw_m6 120 rfl) rfl
theorem q1405 : (Jvm.Cond.code ({ cls := "StrengthenFirst$Best", name := "rows", desc := "(II)V" } : Jvm.MethodName) prog_2_method_4_code (5 : Nat) (Option.none : Option Jvm.ClassFile.FieldType)) ∈ lw_all := lw_g (lw_at lw_m6 121 rfl) rfl
theorem q1406 : (Jvm.Cond.methodLink "StrengthenFirst$Best" (71 : Nat) ({ cls := "StrengthenFirst$Best", name := "loss", desc := "()J" } : Jvm.MethodName)) ∈ lw_all := lw_g (lw_at lw_m6 122 rfl) rfl
theorem q1407 : (Jvm.Cond.privateMethod ({ cls := "StrengthenFirst$Best", name := "loss", desc := "()J" } : Jvm.MethodName)) ∈ lw_tbl := lw_at lw_m6 123 rfl
theorem q1408 : (Jvm.Cond.instanceMethod ({ cls := "StrengthenFirst$Best", name := "loss", desc := "()J" } : Jvm.MethodName)) ∈ lw_all := lw_g (lw_at lw_m6 124 rfl) rfl
theorem q1409 : (Jvm.Cond.code ({ cls := "StrengthenFirst$Best", name := "loss", desc := "()J" } : Jvm.MethodName) prog_2_method_5_code (7 : Nat) (Option.some Jvm.ClassFile.FieldType.long)) ∈ lw_all := lw_g (lw_at lw_m6 125 rfl) rfl
theorem q1410 : (Jvm.Cond.methodLink "StrengthenFirst$Best" (82 : Nat) ({ cls := "java/lang/System", name := "arraycopy", desc := "(Ljava/lang/Object;ILjava/lang/Object;II)V" } : Jvm.MethodName)) ∈ lw_all := lw_g (lw_at lw_m6 126 rfl) rfl
theorem q1411 : (Jvm.Cond.methodLink "StrengthenFirstLaw" (153 : Nat) ({ cls := "StrengthenFirst", name := "first", desc := "(II)I" } : Jvm.MethodName)) ∈ lw_all := lw_g (lw_at lw_m6 127 rfl) rfl
theorem q1412 : (Jvm.Cond.instanceMethod ({ cls := "StrengthenFirst", name := "first", desc := "(II)I" } : Jvm.MethodName)) ∈ lw_all := lw_g (lw_at lw_m6 128 rfl) rfl
theorem q1413 : (Jvm.Cond.selects "StrengthenFirst" ({ cls := "StrengthenFirst", name := "first", desc := "(II)I" } : Jvm.MethodName) ({ cls := "StrengthenFirst", name := "first", desc := "(II)I" } : Jvm.MethodName)) ∈ lw_all := lw_g (lw_at lw_m6 129 rfl) rfl
theorem q1414 : (Jvm.Cond.codeWith ({ cls := "StrengthenFirst", name := "first", desc := "(II)I" } : Jvm.MethodName) prog_1_method_53_code (5 : Nat) (Option.some Jvm.ClassFile.FieldType.int) [((0 : Nat), (71 : Nat), (72 : Nat), (21 : Nat))]) ∈ lw_all := lw_g (lw_at lw_m6 130 rfl) rfl
theorem q1415 : (Jvm.Cond.methodLink "StrengthenFirst" (384 : Nat) ({ cls := "StrengthenFirst$Best", name := "houseAt", desc := "(I)I" } : Jvm.MethodName)) ∈ lw_all := lw_g (lw_at lw_m6 131 rfl) rfl
theorem q1416 : (Jvm.Cond.instanceMethod ({ cls := "StrengthenFirst$Best", name := "houseAt", desc := "(I)I" } : Jvm.MethodName)) ∈ lw_all := lw_g (lw_at lw_m6 132 rfl) rfl
theorem q1417 : (Jvm.Cond.selects "StrengthenFirst$Best" ({ cls := "StrengthenFirst$Best", name := "houseAt", desc := "(I)I" } : Jvm.MethodName) ({ cls := "StrengthenFirst$Best", name := "houseAt", desc := "(I)I" } : Jvm.MethodName)) ∈ lw_all := lw_g (lw_at lw_m6 133 rfl) rfl
theorem q1418 : (Jvm.Cond.code ({ cls := "StrengthenFirst$Best", name := "houseAt", desc := "(I)I" } : Jvm.MethodName) prog_2_method_6_code (2 : Nat) (Option.some Jvm.ClassFile.FieldType.int)) ∈ lw_all := lw_g (lw_at lw_m6 134 rfl) rfl
theorem q1419 : (Jvm.Cond.methodLink "StrengthenFirstLaw" (157 : Nat) ({ cls := "StrengthenFirst", name := "gap", desc := "(II)J" } : Jvm.MethodName)) ∈ lw_all := lw_g (lw_at lw_m6 135 rfl) rfl
theorem q1420 : (Jvm.Cond.instanceMethod ({ cls := "StrengthenFirst", name := "gap", desc := "(II)J" } : Jvm.MethodName)) ∈ lw_all := lw_g (lw_at lw_m6 136 rfl) rfl
theorem q1421 : (Jvm.Cond.selects "StrengthenFirst" ({ cls := "StrengthenFirst", name := "gap", desc := "(II)J" } : Jvm.MethodName) ({ cls := "StrengthenFirst", name := "gap", desc := "(II)J" } : Jvm.MethodName)) ∈ lw_all := lw_g (lw_at lw_m6 137 rfl) rfl
theorem q1422 : (Jvm.Cond.codeWith ({ cls := "StrengthenFirst", name := "gap", desc := "(II)J" } : Jvm.MethodName) prog_1_method_54_code (5 : Nat) (Option.some Jvm.ClassFile.FieldType.long) [((0 : Nat), (31 : Nat), (32 : Nat), (21 : Nat))]) ∈ lw_all := lw_g (lw_at lw_m6 138 rfl) rfl
theorem q1423 : (Jvm.Cond.methodLink "StrengthenFirstLaw" (161 : Nat) ({ cls := "StrengthenFirst", name := "bound", desc := "(I)J" } : Jvm.MethodName)) ∈ lw_all := lw_g (lw_at lw_m6 139 rfl) rfl
theorem q1424 : (Jvm.Cond.instanceMethod ({ cls := "StrengthenFirst", name := "bound", desc := "(I)J" } : Jvm.MethodName)) ∈ lw_all := lw_g (lw_at lw_m6 140 rfl) rfl
theorem q1425 : (Jvm.Cond.selects "StrengthenFirst" ({ cls := "StrengthenFirst", name := "bound", desc := "(I)J" } : Jvm.MethodName) ({ cls := "StrengthenFirst", name := "bound", desc := "(I)J" } : Jvm.MethodName)) ∈ lw_all := lw_g (lw_at lw_m6 141 rfl) rfl
theorem q1426 : (Jvm.Cond.codeWith ({ cls := "StrengthenFirst", name := "bound", desc := "(I)J" } : Jvm.MethodName) prog_1_method_55_code (4 : Nat) (Option.some Jvm.ClassFile.FieldType.long) [((0 : Nat), (72 : Nat), (73 : Nat), (21 : Nat))]) ∈ lw_all := lw_g (lw_at lw_m6 142 rfl) rfl
theorem q1427 : (Jvm.Cond.methodLink "StrengthenFirst" (386 : Nat) ({ cls := "java/lang/Math", name := "max", desc := "(II)I" } : Jvm.MethodName)) ∈ lw_all := lw_g (lw_at lw_m6 143 rfl) rfl
theorem q1428 : (Jvm.Cond.methodLink "StrengthenFirstLaw" (165 : Nat) ({ cls := "StrengthenFirst", name := "head", desc := "(I)I" } : Jvm.MethodName)) ∈ lw_all := lw_g (lw_at lw_m6 144 rfl) rfl
theorem q1429 : (Jvm.Cond.instanceMethod ({ cls := "StrengthenFirst", name := "head", desc := "(I)I" } : Jvm.MethodName)) ∈ lw_all := lw_g (lw_at lw_m6 145 rfl) rfl
theorem q1430 : (Jvm.Cond.selects "StrengthenFirst" ({ cls := "StrengthenFirst", name := "head", desc := "(I)I" } : Jvm.MethodName) ({ cls := "StrengthenFirst", name := "head", desc := "(I)I" } : Jvm.MethodName)) ∈ lw_all := lw_g (lw_at lw_m6 146 rfl) rfl
theorem q1431 : (Jvm.Cond.codeWith ({ cls := "StrengthenFirst", name := "head", desc := "(I)I" } : Jvm.MethodName) prog_1_method_57_code (9 : Nat) (Option.some Jvm.ClassFile.FieldType.int) [((0 : Nat), (118 : Nat), (119 : Nat), (21 : Nat))]) ∈ lw_all := lw_g (lw_at lw_m6 147 rfl) rfl
theorem q1432 : (Jvm.Cond.methodLink "StrengthenFirst" (392 : Nat) ({ cls := "StrengthenFirst", name := "isRuleHeld", desc := "()Z" } : Jvm.MethodName)) ∈ lw_all := lw_g (lw_at lw_m6 148 rfl) rfl
theorem q1433 : (Jvm.Cond.privateMethod ({ cls := "StrengthenFirst", name := "isRuleHeld", desc := "()Z" } : Jvm.MethodName)) ∈ lw_tbl := lw_at lw_m6 149 rfl
theorem q1434 : (Jvm.Cond.instanceMethod ({ cls := "StrengthenFirst", name := "isRuleHeld", desc := "()Z" } : Jvm.MethodName)) ∈ lw_all := lw_g (lw_at lw_m6 150 rfl) rfl
theorem q1435 : (Jvm.Cond.code ({ cls := "StrengthenFirst", name := "isRuleHeld", desc := "()Z" } : Jvm.MethodName) prog_1_method_56_code (2 : Nat) (Option.some Jvm.ClassFile.FieldType.boolean)) ∈ lw_all := lw_g (lw_at lw_m6 151 rfl) rfl
theorem q1436 : (Jvm.Cond.methodLink "StrengthenFirstLaw" (173 : Nat) ({ cls := "StrengthenFirst", name := "years", desc := "(II)I" } : Jvm.MethodName)) ∈ lw_all := lw_g (lw_at lw_m6 152 rfl) rfl
theorem q1437 : (Jvm.Cond.instanceMethod ({ cls := "StrengthenFirst", name := "years", desc := "(II)I" } : Jvm.MethodName)) ∈ lw_all := lw_g (lw_at lw_m6 153 rfl) rfl
theorem q1438 : (Jvm.Cond.selects "StrengthenFirst" ({ cls := "StrengthenFirst", name := "years", desc := "(II)I" } : Jvm.MethodName) ({ cls := "StrengthenFirst", name := "years", desc := "(II)I" } : Jvm.MethodName)) ∈ lw_all := lw_g (lw_at lw_m6 154 rfl) rfl
theorem q1439 : (Jvm.Cond.codeWith ({ cls := "StrengthenFirst", name := "years", desc := "(II)I" } : Jvm.MethodName) prog_1_method_60_code (6 : Nat) (Option.some Jvm.ClassFile.FieldType.int) [((0 : Nat), (48 : Nat), (49 : Nat), (21 : Nat))]) ∈ lw_all := lw_g (lw_at lw_m6 155 rfl) rfl
theorem q1440 : (Jvm.Cond.methodLink "StrengthenFirst" (416 : Nat) ({ cls := "StrengthenFirst", name := "year", desc := "(LStrengthenFirst$Rule;)I" } : Jvm.MethodName)) ∈ lw_all := lw_g (lw_at lw_m6 156 rfl) rfl
theorem q1441 : (Jvm.Cond.privateMethod ({ cls := "StrengthenFirst", name := "year", desc := "(LStrengthenFirst$Rule;)I" } : Jvm.MethodName)) ∈ lw_tbl := lw_at lw_m6 157 rfl
theorem q1442 : (Jvm.Cond.instanceMethod ({ cls := "StrengthenFirst", name := "year", desc := "(LStrengthenFirst$Rule;)I" } : Jvm.MethodName)) ∈ lw_all := lw_g (lw_at lw_m6 158 rfl) rfl
theorem q1443 : (Jvm.Cond.code ({ cls := "StrengthenFirst", name := "year", desc := "(LStrengthenFirst$Rule;)I" } : Jvm.MethodName) prog_1_method_59_code (6 : Nat) (Option.some Jvm.ClassFile.FieldType.int)) ∈ lw_all := lw_g (lw_at lw_m6 159 rfl) rfl
theorem q1444 : (Jvm.Cond.methodLink "StrengthenFirst" (398 : Nat) ({ cls := "StrengthenFirst$Plan", name := "year", desc := "(LStrengthenFirst$Town;[III)I" } : Jvm.MethodName)) ∈ lw_all := lw_g (lw_at lw_m6 160 rfl) rfl
theorem q1445 : (Jvm.Cond.methodLink "StrengthenFirst" (395 : Nat) ({ cls := "StrengthenFirst$Town", name := "draw", desc := "(I)I" } : Jvm.MethodName)) ∈ lw_all := lw_g (lw_at lw_m6 161 rfl) rfl
theorem q1446 : (Jvm.Cond.instanceMethod ({ cls := "StrengthenFirst$Town", name := "draw", desc := "(I)I" } : Jvm.MethodName)) ∈ lw_all := lw_g (lw_at lw_m6 162 rfl) rfl
theorem q1447 : (Jvm.Cond.selects "StrengthenFirst$Town" ({ cls := "StrengthenFirst$Town", name := "draw", desc := "(I)I" } : Jvm.MethodName) ({ cls := "StrengthenFirst$Town", name := "draw", desc := "(I)I" } : Jvm.MethodName)) ∈ lw_all := lw_g (lw_at lw_m6 163 rfl) rfl
theorem q1448 : (Jvm.Cond.code ({ cls := "StrengthenFirst$Town", name := "draw", desc := "(I)I" } : Jvm.MethodName) prog_22_method_9_code (2 : Nat) (Option.some Jvm.ClassFile.FieldType.int)) ∈ lw_all := lw_g (lw_at lw_m6 164 rfl) rfl
theorem q1449 : (Jvm.Cond.constant "StrengthenFirst$Town" (100 : Nat) (1103515245 : Int32)) ∈ lw_all := lw_g (lw_at lw_m6 165 rfl) rfl
theorem q1450 : (Jvm.Cond.methodLink "StrengthenFirst" (405 : Nat) ({ cls := "StrengthenFirst", name := "shaken", desc := "(I)I" } : Jvm.MethodName)) ∈ lw_all := lw_g (lw_at lw_m6 166 rfl) rfl
theorem q1451 : (Jvm.Cond.privateMethod ({ cls := "StrengthenFirst", name := "shaken", desc := "(I)I" } : Jvm.MethodName)) ∈ lw_tbl := lw_at lw_m6 167 rfl
theorem q1452 : (Jvm.Cond.instanceMethod ({ cls := "StrengthenFirst", name := "shaken", desc := "(I)I" } : Jvm.MethodName)) ∈ lw_all := lw_g (lw_at lw_m6 168 rfl) rfl
theorem q1453 : (Jvm.Cond.code ({ cls := "StrengthenFirst", name := "shaken", desc := "(I)I" } : Jvm.MethodName) prog_1_method_58_code (11 : Nat) (Option.some Jvm.ClassFile.FieldType.int)) ∈ lw_all := lw_g (lw_at lw_m6 169 rfl) rfl
theorem q1454 : (Jvm.Cond.methodLink "StrengthenFirst" (408 : Nat) ({ cls := "java/lang/Math", name := "min", desc := "(II)I" } : Jvm.MethodName)) ∈ lw_all := lw_g (lw_at lw_m6 170 rfl) rfl
theorem q1455 : (Jvm.Cond.methodLink "StrengthenFirstLaw" (177 : Nat) ({ cls := "StrengthenFirst", name := "seed", desc := "(I)I" } : Jvm.MethodName)) ∈ lw_all := lw_g (lw_at lw_m6 171 rfl) rfl
theorem q1456 : (Jvm.Cond.instanceMethod ({ cls := "StrengthenFirst", name := "seed", desc := "(I)I" } : Jvm.MethodName)) ∈ lw_all := lw_g (lw_at lw_m6 172 rfl) rfl
theorem q1457 : (Jvm.Cond.selects "StrengthenFirst" ({ cls := "StrengthenFirst", name := "seed", desc := "(I)I" } : Jvm.MethodName) ({ cls := "StrengthenFirst", name := "seed", desc := "(I)I" } : Jvm.MethodName)) ∈ lw_all := lw_g (lw_at lw_m6 173 rfl) rfl
theorem q1458 : (Jvm.Cond.code ({ cls := "StrengthenFirst", name := "seed", desc := "(I)I" } : Jvm.MethodName) prog_1_method_61_code (3 : Nat) (Option.some Jvm.ClassFile.FieldType.int)) ∈ lw_all := lw_g (lw_at lw_m6 174 rfl) rfl
theorem q1459 : (Jvm.Cond.methodLink "StrengthenFirstLaw" (181 : Nat) ({ cls := "StrengthenFirst", name := "act", desc := "(III)I" } : Jvm.MethodName)) ∈ lw_all := lw_g (lw_at lw_m6 175 rfl) rfl
theorem q1460 : (Jvm.Cond.instanceMethod ({ cls := "StrengthenFirst", name := "act", desc := "(III)I" } : Jvm.MethodName)) ∈ lw_all := lw_g (lw_at lw_m6 176 rfl) rfl
theorem q1461 : (Jvm.Cond.selects "StrengthenFirst" ({ cls := "StrengthenFirst", name := "act", desc := "(III)I" } : Jvm.MethodName) ({ cls := "StrengthenFirst", name := "act", desc := "(III)I" } : Jvm.MethodName)) ∈ lw_all := lw_g (lw_at lw_m6 177 rfl) rfl
theorem q1462 : (Jvm.Cond.code ({ cls := "StrengthenFirst", name := "act", desc := "(III)I" } : Jvm.MethodName) prog_1_method_62_code (5 : Nat) (Option.some Jvm.ClassFile.FieldType.int)) ∈ lw_all := lw_g (lw_at lw_m6 178 rfl) rfl
theorem q1463 : (Jvm.Cond.methodLink "StrengthenFirst" (423 : Nat) ({ cls := "StrengthenFirst$Rule", name := "ordering", desc := "(ILStrengthenFirst$Trace;)I" } : Jvm.MethodName)) ∈ lw_all := lw_g (lw_at lw_m6 179 rfl) rfl
theorem q1464 : (Jvm.Cond.instanceMethod ({ cls := "StrengthenFirst$Rule", name := "ordering", desc := "(ILStrengthenFirst$Trace;)I" } : Jvm.MethodName)) ∈ lw_all := lw_g (lw_at lw_m6 180 rfl) rfl
theorem q1465 : (Jvm.Cond.selects "StrengthenFirst$Rule" ({ cls := "StrengthenFirst$Rule", name := "ordering", desc := "(ILStrengthenFirst$Trace;)I" } : Jvm.MethodName) ({ cls := "StrengthenFirst$Rule", name := "ordering", desc := "(ILStrengthenFirst$Trace;)I" } : Jvm.MethodName)) ∈ lw_all := lw_g (lw_at lw_m6 181 rfl) rfl
theorem q1466 : (Jvm.Cond.sameMethod "StrengthenFirst$Rule" "StrengthenFirst$Rule" "ordering" "(ILStrengthenFirst$Trace;)I") ∈ lw_all := lw_g (lw_at lw_m6 182 rfl) rfl
theorem q1467 : (Jvm.Cond.selects "StrengthenFirst$Full" ({ cls := "StrengthenFirst$Rule", name := "ordering", desc := "(ILStrengthenFirst$Trace;)I" } : Jvm.MethodName) ({ cls := "StrengthenFirst$Full", name := "ordering", desc := "(ILStrengthenFirst$Trace;)I" } : Jvm.MethodName)) ∈ lw_all := lw_g (lw_at lw_m6 183 rfl) rfl
theorem q1468 : (Jvm.Cond.instanceMethod ({ cls := "StrengthenFirst$Full", name := "ordering", desc := "(ILStrengthenFirst$Trace;)I" } : Jvm.MethodName)) ∈ lw_all := lw_g (lw_at lw_m6 184 rfl) rfl
theorem q1469 : (Jvm.Cond.code ({ cls := "StrengthenFirst$Full", name := "ordering", desc := "(ILStrengthenFirst$Trace;)I" } : Jvm.MethodName) prog_5_method_4_code (3 : Nat) (Option.some Jvm.ClassFile.FieldType.int)) ∈ lw_all := lw_g (lw_at lw_m6 185 rfl) rfl
theorem q1470 : (Jvm.Cond.methodLink "StrengthenFirst$Full" (15 : Nat) ({ cls := "StrengthenFirst$Trace", name := "runs", desc := "(I)V" } : Jvm.MethodName)) ∈ lw_all := lw_g (lw_at lw_m6 186 rfl) rfl
theorem q1471 : (Jvm.Cond.instanceMethod ({ cls := "StrengthenFirst$Trace", name := "runs", desc := "(I)V" } : Jvm.MethodName)) ∈ lw_all := lw_g (lw_at lw_m6 187 rfl) rfl
theorem q1472 : (Jvm.Cond.selects "StrengthenFirst$Trace" ({ cls := "StrengthenFirst$Trace", name := "runs", desc := "(I)V" } : Jvm.MethodName) ({ cls := "StrengthenFirst$Trace", name := "runs", desc := "(I)V" } : Jvm.MethodName)) ∈ lw_all := lw_g (lw_at lw_m6 188 rfl) rfl
theorem q1473 : (Jvm.Cond.code ({ cls := "StrengthenFirst$Trace", name := "runs", desc := "(I)V" } : Jvm.MethodName) prog_23_method_2_code (2 : Nat) (Option.none : Option Jvm.ClassFile.FieldType)) ∈ lw_all := lw_g (lw_at lw_m6 189 rfl) rfl
theorem q1474 : (Jvm.Cond.methodLink "StrengthenFirst$Full" (21 : Nat) ({ cls := "StrengthenFirst$Rule", name := "ordering", desc := "(ILStrengthenFirst$Trace;)I" } : Jvm.MethodName)) ∈ lw_all := lw_g (lw_at lw_m6 190 rfl) rfl
theorem q1475 : (Jvm.Cond.code ({ cls := "StrengthenFirst$Rule", name := "ordering", desc := "(ILStrengthenFirst$Trace;)I" } : Jvm.MethodName) prog_15_method_9_code (3 : Nat) (Option.some Jvm.ClassFile.FieldType.int)) ∈ lw_all := lw_g (lw_at lw_m6 191 rfl) rfl
theorem q1476 : (Jvm.Cond.methodLink "StrengthenFirst$Rule" (61 : Nat) ({ cls := "StrengthenFirst$Trace", name := "runs", desc := "(I)V" } : Jvm.MethodName)) ∈ lw_all := lw_g (lw_at lw_m6 192 rfl) rfl
theorem q1477 : (Jvm.Cond.selects "StrengthenFirst$Prop" ({ cls := "StrengthenFirst$Rule", name := "ordering", desc := "(ILStrengthenFirst$Trace;)I" } : Jvm.MethodName) ({ cls := "StrengthenFirst$Rule", name := "ordering", desc := "(ILStrengthenFirst$Trace;)I" } : Jvm.MethodName)) ∈ lw_all := lw_g (lw_at lw_m6 193 rfl) rfl
theorem q1478 : (Jvm.Cond.selects "StrengthenFirst$Saves" ({ cls := "StrengthenFirst$Rule", name := "ordering", desc := "(ILStrengthenFirst$Trace;)I" } : Jvm.MethodName) ({ cls := "StrengthenFirst$Rule", name := "ordering", desc := "(ILStrengthenFirst$Trace;)I" } : Jvm.MethodName)) ∈ lw_all := lw_g (lw_at lw_m6 194 rfl) rfl
theorem q1479 : (Jvm.Cond.selects "StrengthenFirst$Street" ({ cls := "StrengthenFirst$Rule", name := "ordering", desc := "(ILStrengthenFirst$Trace;)I" } : Jvm.MethodName) ({ cls := "StrengthenFirst$Street", name := "ordering", desc := "(ILStrengthenFirst$Trace;)I" } : Jvm.MethodName)) ∈ lw_all := lw_g (lw_at lw_m6 195 rfl) rfl
theorem q1480 : (Jvm.Cond.instanceMethod ({ cls := "StrengthenFirst$Street", name := "ordering", desc := "(ILStrengthenFirst$Trace;)I" } : Jvm.MethodName)) ∈ lw_all := lw_g (lw_at lw_m6 196 rfl) rfl
theorem q1481 : (Jvm.Cond.code ({ cls := "StrengthenFirst$Street", name := "ordering", desc := "(ILStrengthenFirst$Trace;)I" } : Jvm.MethodName) prog_19_method_4_code (3 : Nat) (Option.some Jvm.ClassFile.FieldType.int)) ∈ lw_all := lw_g (lw_at lw_m6 197 rfl) rfl
theorem q1482 : (Jvm.Cond.methodLink "StrengthenFirst$Street" (19 : Nat) ({ cls := "StrengthenFirst$Trace", name := "runs", desc := "(I)V" } : Jvm.MethodName)) ∈ lw_all := lw_g (lw_at lw_m6 198 rfl) rfl
theorem q1483 : (Jvm.Cond.methodLink "StrengthenFirst$Street" (25 : Nat) ({ cls := "StrengthenFirst$Full", name := "ordering", desc := "(ILStrengthenFirst$Trace;)I" } : Jvm.MethodName)) ∈ lw_all := lw_g (lw_at lw_m6 199 rfl) rfl
theorem q1484 : (Jvm.Cond.selects "StrengthenFirst$Told" ({ cls := "StrengthenFirst$Rule", name := "ordering", desc := "(ILStrengthenFirst$Trace;)I" } : Jvm.MethodName) ({ cls := "StrengthenFirst$Rule", name := "ordering", desc := "(ILStrengthenFirst$Trace;)I" } : Jvm.MethodName)) ∈ lw_all := lw_g (lw_at lw_m6 200 rfl) rfl
theorem q1485 : (Jvm.Cond.selects "StrengthenFirst$Weak" ({ cls := "StrengthenFirst$Rule", name := "ordering", desc := "(ILStrengthenFirst$Trace;)I" } : Jvm.MethodName) ({ cls := "StrengthenFirst$Rule", name := "ordering", desc := "(ILStrengthenFirst$Trace;)I" } : Jvm.MethodName)) ∈ lw_all := lw_g (lw_at lw_m6 201 rfl) rfl
theorem q1486 : (Jvm.Cond.methodLink "StrengthenFirst" (427 : Nat) ({ cls := "StrengthenFirst$Rule", name := "costing", desc := "(ILStrengthenFirst$Trace;)I" } : Jvm.MethodName)) ∈ lw_all := lw_g (lw_at lw_m6 202 rfl) rfl
theorem q1487 : (Jvm.Cond.instanceMethod ({ cls := "StrengthenFirst$Rule", name := "costing", desc := "(ILStrengthenFirst$Trace;)I" } : Jvm.MethodName)) ∈ lw_all := lw_g (lw_at lw_m6 203 rfl) rfl
theorem q1488 : (Jvm.Cond.selects "StrengthenFirst$Rule" ({ cls := "StrengthenFirst$Rule", name := "costing", desc := "(ILStrengthenFirst$Trace;)I" } : Jvm.MethodName) ({ cls := "StrengthenFirst$Rule", name := "costing", desc := "(ILStrengthenFirst$Trace;)I" } : Jvm.MethodName)) ∈ lw_all := lw_g (lw_at lw_m6 204 rfl) rfl
theorem q1489 : (Jvm.Cond.sameMethod "StrengthenFirst$Rule" "StrengthenFirst$Rule" "costing" "(ILStrengthenFirst$Trace;)I") ∈ lw_all := lw_g (lw_at lw_m6 205 rfl) rfl
theorem q1490 : (Jvm.Cond.selects "StrengthenFirst$Full" ({ cls := "StrengthenFirst$Rule", name := "costing", desc := "(ILStrengthenFirst$Trace;)I" } : Jvm.MethodName) ({ cls := "StrengthenFirst$Rule", name := "costing", desc := "(ILStrengthenFirst$Trace;)I" } : Jvm.MethodName)) ∈ lw_all := lw_g (lw_at lw_m6 206 rfl) rfl
theorem q1491 : (Jvm.Cond.selects "StrengthenFirst$Prop" ({ cls := "StrengthenFirst$Rule", name := "costing", desc := "(ILStrengthenFirst$Trace;)I" } : Jvm.MethodName) ({ cls := "StrengthenFirst$Prop", name := "costing", desc := "(ILStrengthenFirst$Trace;)I" } : Jvm.MethodName)) ∈ lw_all := lw_g (lw_at lw_m6 207 rfl) rfl
theorem q1492 : (Jvm.Cond.instanceMethod ({ cls := "StrengthenFirst$Prop", name := "costing", desc := "(ILStrengthenFirst$Trace;)I" } : Jvm.MethodName)) ∈ lw_all := lw_g (lw_at lw_m6 208 rfl) rfl
theorem q1493 : (Jvm.Cond.code ({ cls := "StrengthenFirst$Prop", name := "costing", desc := "(ILStrengthenFirst$Trace;)I" } : Jvm.MethodName) prog_11_method_4_code (3 : Nat) (Option.some Jvm.ClassFile.FieldType.int)) ∈ lw_all := lw_g (lw_at lw_m6 209 rfl) rfl
theorem q1494 : (Jvm.Cond.methodLink "StrengthenFirst$Prop" (19 : Nat) ({ cls := "StrengthenFirst$Trace", name := "runs", desc := "(I)V" } : Jvm.MethodName)) ∈ lw_all := lw_g (lw_at lw_m6 210 rfl) rfl
theorem q1495 : (Jvm.Cond.methodLink "StrengthenFirst$Prop" (25 : Nat) ({ cls := "StrengthenFirst$Weak", name := "costing", desc := "(ILStrengthenFirst$Trace;)I" } : Jvm.MethodName)) ∈ lw_all := lw_g (lw_at lw_m6 211 rfl) rfl
theorem q1496 : (Jvm.Cond.instanceMethod ({ cls := "StrengthenFirst$Weak", name := "costing", desc := "(ILStrengthenFirst$Trace;)I" } : Jvm.MethodName)) ∈ lw_all := lw_g (lw_at lw_m6 212 rfl) rfl
theorem q1497 : (Jvm.Cond.code ({ cls := "StrengthenFirst$Weak", name := "costing", desc := "(ILStrengthenFirst$Trace;)I" } : Jvm.MethodName) prog_24_method_4_code (3 : Nat) (Option.some Jvm.ClassFile.FieldType.int)) ∈ lw_all := lw_g (lw_at lw_m6 213 rfl) rfl
theorem q1498 : (Jvm.Cond.methodLink "StrengthenFirst$Weak" (18 : Nat) ({ cls := "StrengthenFirst$Trace", name := "runs", desc := "(I)V" } : Jvm.MethodName)) ∈ lw_all := lw_g (lw_at lw_m6 214 rfl) rfl
theorem q1499 : (Jvm.Cond.methodLink "StrengthenFirst$Weak" (24 : Nat) ({ cls := "StrengthenFirst$Rule", name := "costing", desc := "(ILStrengthenFirst$Trace;)I" } : Jvm.MethodName)) ∈ lw_all := lw_g (lw_at lw_m6 215 rfl) rfl
theorem q1500 : (Jvm.Cond.code ({ cls := "StrengthenFirst$Rule", name := "costing", desc := "(ILStrengthenFirst$Trace;)I" } : Jvm.MethodName) prog_15_method_10_code (3 : Nat) (Option.some Jvm.ClassFile.FieldType.int)) ∈ lw_all := lw_g (lw_at lw_m6 216 rfl) rfl
theorem q1501 : (Jvm.Cond.methodLink "StrengthenFirst$Rule" (67 : Nat) ({ cls := "StrengthenFirst$Rule", name := "ordering", desc := "(ILStrengthenFirst$Trace;)I" } : Jvm.MethodName)) ∈ lw_all := lw_g (lw_at lw_m6 217 rfl) rfl
theorem q1502 : (Jvm.Cond.selects "StrengthenFirst$Saves" ({ cls := "StrengthenFirst$Rule", name := "costing", desc := "(ILStrengthenFirst$Trace;)I" } : Jvm.MethodName) ({ cls := "StrengthenFirst$Rule", name := "costing", desc := "(ILStrengthenFirst$Trace;)I" } : Jvm.MethodName)) ∈ lw_all := lw_g (lw_at lw_m6 218 rfl) rfl
theorem q1503 : (Jvm.Cond.selects "StrengthenFirst$Street" ({ cls := "StrengthenFirst$Rule", name := "costing", desc := "(ILStrengthenFirst$Trace;)I" } : Jvm.MethodName) ({ cls := "StrengthenFirst$Rule", name := "costing", desc := "(ILStrengthenFirst$Trace;)I" } : Jvm.MethodName)) ∈ lw_all := lw_g (lw_at lw_m6 219 rfl) rfl
theorem q1504 : (Jvm.Cond.selects "StrengthenFirst$Told" ({ cls := "StrengthenFirst$Rule", name := "costing", desc := "(ILStrengthenFirst$Trace;)I" } : Jvm.MethodName) ({ cls := "StrengthenFirst$Told", name := "costing", desc := "(ILStrengthenFirst$Trace;)I" } : Jvm.MethodName)) ∈ lw_all := lw_g (lw_at lw_m6 220 rfl) rfl
theorem q1505 : (Jvm.Cond.instanceMethod ({ cls := "StrengthenFirst$Told", name := "costing", desc := "(ILStrengthenFirst$Trace;)I" } : Jvm.MethodName)) ∈ lw_all := lw_g (lw_at lw_m6 221 rfl) rfl
theorem q1506 : (Jvm.Cond.code ({ cls := "StrengthenFirst$Told", name := "costing", desc := "(ILStrengthenFirst$Trace;)I" } : Jvm.MethodName) prog_21_method_6_code (3 : Nat) (Option.some Jvm.ClassFile.FieldType.int)) ∈ lw_all := lw_g (lw_at lw_m6 222 rfl) rfl
theorem q1507 : (Jvm.Cond.methodLink "StrengthenFirst$Told" (51 : Nat) ({ cls := "StrengthenFirst$Trace", name := "runs", desc := "(I)V" } : Jvm.MethodName)) ∈ lw_all := lw_g (lw_at lw_m6 223 rfl) rfl
theorem q1508 : (Jvm.Cond.methodLink "StrengthenFirst$Told" (64 : Nat) ({ cls := "StrengthenFirst$Rule", name := "costing", desc := "(ILStrengthenFirst$Trace;)I" } : Jvm.MethodName)) ∈ lw_all := lw_g (lw_at lw_m6 224 rfl) rfl
theorem q1509 : (Jvm.Cond.selects "StrengthenFirst$Weak" ({ cls := "StrengthenFirst$Rule", name := "costing", desc := "(ILStrengthenFirst$Trace;)I" } : Jvm.MethodName) ({ cls := "StrengthenFirst$Weak", name := "costing", desc := "(ILStrengthenFirst$Trace;)I" } : Jvm.MethodName)) ∈ lw_all := lw_g (lw_at lw_m6 225 rfl) rfl
theorem q1510 : (Jvm.Cond.methodLink "StrengthenFirst" (430 : Nat) ({ cls := "StrengthenFirst$Rule", name := "saving", desc := "(ILStrengthenFirst$Trace;)I" } : Jvm.MethodName)) ∈ lw_all := lw_g (lw_at lw_m6 226 rfl) rfl
theorem q1511 : (Jvm.Cond.instanceMethod ({ cls := "StrengthenFirst$Rule", name := "saving", desc := "(ILStrengthenFirst$Trace;)I" } : Jvm.MethodName)) ∈ lw_all := lw_g (lw_at lw_m6 227 rfl) rfl
theorem q1512 : (Jvm.Cond.selects "StrengthenFirst$Rule" ({ cls := "StrengthenFirst$Rule", name := "saving", desc := "(ILStrengthenFirst$Trace;)I" } : Jvm.MethodName) ({ cls := "StrengthenFirst$Rule", name := "saving", desc := "(ILStrengthenFirst$Trace;)I" } : Jvm.MethodName)) ∈ lw_all := lw_g (lw_at lw_m6 228 rfl) rfl
theorem q1513 : (Jvm.Cond.sameMethod "StrengthenFirst$Rule" "StrengthenFirst$Rule" "saving" "(ILStrengthenFirst$Trace;)I") ∈ lw_all := lw_g (lw_at lw_m6 229 rfl) rfl
theorem q1514 : (Jvm.Cond.selects "StrengthenFirst$Full" ({ cls := "StrengthenFirst$Rule", name := "saving", desc := "(ILStrengthenFirst$Trace;)I" } : Jvm.MethodName) ({ cls := "StrengthenFirst$Rule", name := "saving", desc := "(ILStrengthenFirst$Trace;)I" } : Jvm.MethodName)) ∈ lw_all := lw_g (lw_at lw_m6 230 rfl) rfl
theorem q1515 : (Jvm.Cond.selects "StrengthenFirst$Prop" ({ cls := "StrengthenFirst$Rule", name := "saving", desc := "(ILStrengthenFirst$Trace;)I" } : Jvm.MethodName) ({ cls := "StrengthenFirst$Rule", name := "saving", desc := "(ILStrengthenFirst$Trace;)I" } : Jvm.MethodName)) ∈ lw_all := lw_g (lw_at lw_m6 231 rfl) rfl
theorem q1516 : (Jvm.Cond.selects "StrengthenFirst$Saves" ({ cls := "StrengthenFirst$Rule", name := "saving", desc := "(ILStrengthenFirst$Trace;)I" } : Jvm.MethodName) ({ cls := "StrengthenFirst$Saves", name := "saving", desc := "(ILStrengthenFirst$Trace;)I" } : Jvm.MethodName)) ∈ lw_all := lw_g (lw_at lw_m6 232 rfl) rfl
theorem q1517 : (Jvm.Cond.instanceMethod ({ cls := "StrengthenFirst$Saves", name := "saving", desc := "(ILStrengthenFirst$Trace;)I" } : Jvm.MethodName)) ∈ lw_all := lw_g (lw_at lw_m6 233 rfl) rfl
theorem q1518 : (Jvm.Cond.code ({ cls := "StrengthenFirst$Saves", name := "saving", desc := "(ILStrengthenFirst$Trace;)I" } : Jvm.MethodName) prog_16_method_6_code (3 : Nat) (Option.some Jvm.ClassFile.FieldType.int)) ∈ lw_all := lw_g (lw_at lw_m6 234 rfl) rfl
theorem q1519 : (Jvm.Cond.methodLink "StrengthenFirst$Saves" (77 : Nat) ({ cls := "StrengthenFirst$Trace", name := "runs", desc := "(I)V" } : Jvm.MethodName)) ∈ lw_all := lw_g (lw_at lw_m6 235 rfl) rfl
theorem q1520 : (Jvm.Cond.methodLink "StrengthenFirst$Saves" (83 : Nat) ({ cls := "StrengthenFirst$Rule", name := "saving", desc := "(ILStrengthenFirst$Trace;)I" } : Jvm.MethodName)) ∈ lw_all := lw_g (lw_at lw_m6 236 rfl) rfl
theorem q1521 : (Jvm.Cond.code ({ cls := "StrengthenFirst$Rule", name := "saving", desc := "(ILStrengthenFirst$Trace;)I" } : Jvm.MethodName) prog_15_method_11_code (4 : Nat) (Option.some Jvm.ClassFile.FieldType.int)) ∈ lw_all := lw_g (lw_at lw_m6 237 rfl) rfl
theorem q1522 : (Jvm.Cond.methodLink "StrengthenFirst$Rule" (71 : Nat) ({ cls := "StrengthenFirst$Rule", name := "costing", desc := "(ILStrengthenFirst$Trace;)I" } : Jvm.MethodName)) ∈ lw_all := lw_g (lw_at lw_m6 238 rfl) rfl
theorem q1523 : (Jvm.Cond.selects "StrengthenFirst$Street" ({ cls := "StrengthenFirst$Rule", name := "saving", desc := "(ILStrengthenFirst$Trace;)I" } : Jvm.MethodName) ({ cls := "StrengthenFirst$Street", name := "saving", desc := "(ILStrengthenFirst$Trace;)I" } : Jvm.MethodName)) ∈ lw_all := lw_g (lw_at lw_m6 239 rfl) rfl
theorem q1524 : (Jvm.Cond.instanceMethod ({ cls := "StrengthenFirst$Street", name := "saving", desc := "(ILStrengthenFirst$Trace;)I" } : Jvm.MethodName)) ∈ lw_all := lw_g (lw_at lw_m7 0 rfl) rfl
theorem q1525 : (Jvm.Cond.code ({ cls := "StrengthenFirst$Street", name := "saving", desc := "(ILStrengthenFirst$Trace;)I" } : Jvm.MethodName) prog_19_method_5_code (3 : Nat) (Option.some Jvm.ClassFile.FieldType.int)) ∈ lw_all := lw_g (lw_at lw_m7 1 rfl) rfl
theorem q1526 : (Jvm.Cond.methodLink "StrengthenFirst$Street" (29 : Nat) ({ cls := "StrengthenFirst$Full", name := "saving", desc := "(ILStrengthenFirst$Trace;)I" } : Jvm.MethodName)) ∈ lw_all := lw_g (lw_at lw_m7 2 rfl) rfl
theorem q1527 : (Jvm.Cond.sameMethod "StrengthenFirst$Full" "StrengthenFirst$Rule" "saving" "(ILStrengthenFirst$Trace;)I") ∈ lw_all := lw_g (lw_at lw_m7 3 rfl) rfl
theorem q1528 : (Jvm.Cond.declares ({ cls := "StrengthenFirst$Rule", name := "saving", desc := "(ILStrengthenFirst$Trace;)I" } : Jvm.MethodName)) ∈ lw_tbl := lw_at lw_m7 4 rfl
theorem q1529 : (Jvm.Cond.selects "StrengthenFirst$Told" ({ cls := "StrengthenFirst$Rule", name := "saving", desc := "(ILStrengthenFirst$Trace;)I" } : Jvm.MethodName) ({ cls := "StrengthenFirst$Told", name := "saving", desc := "(ILStrengthenFirst$Trace;)I" } : Jvm.MethodName)) ∈ lw_all := lw_g (lw_at lw_m7 5 rfl) rfl
theorem q1530 : (Jvm.Cond.instanceMethod ({ cls := "StrengthenFirst$Told", name := "saving", desc := "(ILStrengthenFirst$Trace;)I" } : Jvm.MethodName)) ∈ lw_all := lw_g (lw_at lw_m7 6 rfl) rfl
theorem q1531 : (Jvm.Cond.code ({ cls := "StrengthenFirst$Told", name := "saving", desc := "(ILStrengthenFirst$Trace;)I" } : Jvm.MethodName) prog_21_method_5_code (3 : Nat) (Option.some Jvm.ClassFile.FieldType.int)) ∈ lw_all := lw_g (lw_at lw_m7 7 rfl) rfl
theorem q1532 : (Jvm.Cond.methodLink "StrengthenFirst$Told" (57 : Nat) ({ cls := "StrengthenFirst$Rule", name := "saving", desc := "(ILStrengthenFirst$Trace;)I" } : Jvm.MethodName)) ∈ lw_all := lw_g (lw_at lw_m7 8 rfl) rfl
theorem q1533 : (Jvm.Cond.selects "StrengthenFirst$Weak" ({ cls := "StrengthenFirst$Rule", name := "saving", desc := "(ILStrengthenFirst$Trace;)I" } : Jvm.MethodName) ({ cls := "StrengthenFirst$Rule", name := "saving", desc := "(ILStrengthenFirst$Trace;)I" } : Jvm.MethodName)) ∈ lw_all := lw_g (lw_at lw_m7 9 rfl) rfl
theorem q1534 : (Jvm.Cond.methodLink "StrengthenFirstLaw" (185 : Nat) ({ cls := "StrengthenFirst", name := "trace", desc := "(I)I" } : Jvm.MethodName)) ∈ lw_all := lw_g (lw_at lw_m7 10 rfl) rfl
theorem q1535 : (Jvm.Cond.instanceMethod ({ cls := "StrengthenFirst", name := "trace", desc := "(I)I" } : Jvm.MethodName)) ∈ lw_all := lw_g (lw_at lw_m7 11 rfl) rfl
theorem q1536 : (Jvm.Cond.selects "StrengthenFirst" ({ cls := "StrengthenFirst", name := "trace", desc := "(I)I" } : Jvm.MethodName) ({ cls := "StrengthenFirst", name := "trace", desc := "(I)I" } : Jvm.MethodName)) ∈ lw_all := lw_g (lw_at lw_m7 12 rfl) rfl
theorem q1537 : (Jvm.Cond.code ({ cls := "StrengthenFirst", name := "trace", desc := "(I)I" } : Jvm.MethodName) prog_1_method_63_code (2 : Nat) (Option.some Jvm.ClassFile.FieldType.int)) ∈ lw_all := lw_g (lw_at lw_m7 13 rfl) rfl
theorem q1538 : (Jvm.Cond.methodLink "StrengthenFirstLaw" (189 : Nat) ({ cls := "StrengthenFirst", name := "image", desc := "()I" } : Jvm.MethodName)) ∈ lw_all := lw_g (lw_at lw_m7 14 rfl) rfl
theorem q1539 : (Jvm.Cond.instanceMethod ({ cls := "StrengthenFirst", name := "image", desc := "()I" } : Jvm.MethodName)) ∈ lw_all := lw_g (lw_at lw_m7 15 rfl) rfl
theorem q1540 : (Jvm.Cond.selects "StrengthenFirst" ({ cls := "StrengthenFirst", name := "image", desc := "()I" } : Jvm.MethodName) ({ cls := "StrengthenFirst", name := "image", desc := "()I" } : Jvm.MethodName)) ∈ lw_all := lw_g (lw_at lw_m7 16 rfl) rfl
theorem q1541 : (Jvm.Cond.code ({ cls := "StrengthenFirst", name := "image", desc := "()I" } : Jvm.MethodName) prog_1_method_64_code (1 : Nat) (Option.some Jvm.ClassFile.FieldType.int)) ∈ lw_all := lw_g (lw_at lw_m7 17 rfl) rfl
theorem q1542 : (Jvm.Cond.methodLink "StrengthenFirstLaw" (193 : Nat) ({ cls := "StrengthenFirst", name := "restore", desc := "()I" } : Jvm.MethodName)) ∈ lw_all := lw_g (lw_at lw_m7 18 rfl) rfl
theorem q1543 : (Jvm.Cond.instanceMethod ({ cls := "StrengthenFirst", name := "restore", desc := "()I" } : Jvm.MethodName)) ∈ lw_all := lw_g (lw_at lw_m7 19 rfl) rfl
theorem q1544 : (Jvm.Cond.selects "StrengthenFirst" ({ cls := "StrengthenFirst", name := "restore", desc := "()I" } : Jvm.MethodName) ({ cls := "StrengthenFirst", name := "restore", desc := "()I" } : Jvm.MethodName)) ∈ lw_all := lw_g (lw_at lw_m7 20 rfl) rfl
theorem q1545 : (Jvm.Cond.codeWith ({ cls := "StrengthenFirst", name := "restore", desc := "()I" } : Jvm.MethodName) prog_1_method_65_code (2 : Nat) (Option.some Jvm.ClassFile.FieldType.int) [((0 : Nat), (35 : Nat), (36 : Nat), (21 : Nat))]) ∈ lw_all := lw_g (lw_at lw_m7 21 rfl) rfl
theorem q1546 : (Jvm.Cond.methodLink "StrengthenFirstLaw" (197 : Nat) ({ cls := "StrengthenFirst", name := "status", desc := "(I)I" } : Jvm.MethodName)) ∈ lw_all := lw_g (lw_at lw_m7 22 rfl) rfl
theorem q1547 : (Jvm.Cond.instanceMethod ({ cls := "StrengthenFirst", name := "status", desc := "(I)I" } : Jvm.MethodName)) ∈ lw_all := lw_g (lw_at lw_m7 23 rfl) rfl
theorem q1548 : (Jvm.Cond.selects "StrengthenFirst" ({ cls := "StrengthenFirst", name := "status", desc := "(I)I" } : Jvm.MethodName) ({ cls := "StrengthenFirst", name := "status", desc := "(I)I" } : Jvm.MethodName)) ∈ lw_all := lw_g (lw_at lw_m7 24 rfl) rfl
theorem q1549 : (Jvm.Cond.code ({ cls := "StrengthenFirst", name := "status", desc := "(I)I" } : Jvm.MethodName) prog_1_method_66_code (4 : Nat) (Option.some Jvm.ClassFile.FieldType.int)) ∈ lw_all := lw_g (lw_at lw_m7 25 rfl) rfl
theorem q1550 : (Jvm.Cond.constantLong "StrengthenFirst" (442 : Nat) (11 : Int64)) ∈ lw_all := lw_g (lw_at lw_m7 26 rfl) rfl
theorem q1551 : (Jvm.Cond.constantLong "StrengthenFirst" (444 : Nat) (17 : Int64)) ∈ lw_all := lw_g (lw_at lw_m7 27 rfl) rfl
theorem q1552 : (Jvm.Cond.classLink "StrengthenFirstLaw" (10 : Nat) "StrengthenFirstModel") ∈ lw_all := lw_g (lw_at lw_m7 28 rfl) rfl
theorem q1553 : (Jvm.Cond.instantiable "StrengthenFirstModel" (56 : Nat)) ∈ lw_all := lw_g (lw_at lw_m7 29 rfl) rfl
theorem q1554 : (Jvm.Cond.methodLink "StrengthenFirstLaw" (12 : Nat) ({ cls := "StrengthenFirstModel", name := "<init>", desc := "()V" } : Jvm.MethodName)) ∈ lw_all := lw_g (lw_at lw_m7 30 rfl) rfl
theorem q1555 : (Jvm.Cond.instanceMethod ({ cls := "StrengthenFirstModel", name := "<init>", desc := "()V" } : Jvm.MethodName)) ∈ lw_all := lw_g (lw_at lw_m7 31 rfl) rfl
theorem q1556 : (Jvm.Cond.code ({ cls := "StrengthenFirstModel", name := "<init>", desc := "()V" } : Jvm.MethodName) prog_26_method_1_code (1 : Nat) (Option.none : Option Jvm.ClassFile.FieldType)) ∈ lw_all := lw_g (lw_at lw_m7 32 rfl) rfl
theorem q1557 : (Jvm.Cond.methodLink "StrengthenFirstModel" (1 : Nat) ({ cls := "java/lang/Object", name := "<init>", desc := "()V" } : Jvm.MethodName)) ∈ lw_all := lw_g (lw_at lw_m7 33 rfl) rfl
theorem q1558 : (Jvm.Cond.fieldLink "StrengthenFirstModel" (149 : Nat) "StrengthenFirstModel" "streets" "I") ∈ lw_all := lw_g (lw_at lw_m7 34 rfl) rfl
theorem q1559 : (Jvm.Cond.fieldLink "StrengthenFirstModel" (124 : Nat) "StrengthenFirstModel" "houses" "I") ∈ lw_all := lw_g (lw_at lw_m7 35 rfl) rfl
theorem q1560 : (Jvm.Cond.fieldLink "StrengthenFirstModel" (127 : Nat) "StrengthenFirstModel" "shakes" "I") ∈ lw_all := lw_g (lw_at lw_m7 36 rfl) rfl
theorem q1561 : (Jvm.Cond.fieldLink "StrengthenFirstModel" (7 : Nat) "StrengthenFirstModel" "coin" "I") ∈ lw_all := lw_g (lw_at lw_m7 37 rfl) rfl
theorem q1562 : (Jvm.Cond.fieldLink "StrengthenFirstModel" (13 : Nat) "StrengthenFirstModel" "shut" "I") ∈ lw_all := lw_g (lw_at lw_m7 38 rfl) rfl
theorem q1563 : (Jvm.Cond.fieldLink "StrengthenFirstModel" (16 : Nat) "StrengthenFirstModel" "daypart" "I") ∈ lw_all := lw_g (lw_at lw_m7 39 rfl) rfl
theorem q1564 : (Jvm.Cond.fieldLink "StrengthenFirstModel" (218 : Nat) "StrengthenFirstModel" "purse" "I") ∈ lw_all := lw_g (lw_at lw_m7 40 rfl) rfl
theorem q1565 : (Jvm.Cond.fieldLink "StrengthenFirstModel" (221 : Nat) "StrengthenFirstModel" "year" "I") ∈ lw_all := lw_g (lw_at lw_m7 41 rfl) rfl
theorem q1566 : (Jvm.Cond.fieldLink "StrengthenFirstModel" (224 : Nat) "StrengthenFirstModel" "gone" "I") ∈ lw_all := lw_g (lw_at lw_m7 42 rfl) rfl
theorem q1567 : (Jvm.Cond.fieldLink "StrengthenFirstModel" (19 : Nat) "StrengthenFirstModel" "seed" "I") ∈ lw_all := lw_g (lw_at lw_m7 43 rfl) rfl
theorem q1568 : (Jvm.Cond.fieldLink "StrengthenFirstModel" (22 : Nat) "StrengthenFirstModel" "fault" "I") ∈ lw_all := lw_g (lw_at lw_m7 44 rfl) rfl
theorem q1569 : (Jvm.Cond.fieldLink "StrengthenFirstModel" (25 : Nat) "StrengthenFirstModel" "refused" "[I") ∈ lw_all := lw_g (lw_at lw_m7 45 rfl) rfl
theorem q1570 : (Jvm.Cond.fieldLink "StrengthenFirstModel" (29 : Nat) "StrengthenFirstModel" "sideA" "[I") ∈ lw_all := lw_g (lw_at lw_m7 46 rfl) rfl
theorem q1571 : (Jvm.Cond.fieldLink "StrengthenFirstModel" (32 : Nat) "StrengthenFirstModel" "sideB" "[I") ∈ lw_all := lw_g (lw_at lw_m7 47 rfl) rfl
theorem q1572 : (Jvm.Cond.fieldLink "StrengthenFirstModel" (35 : Nat) "StrengthenFirstModel" "chance" "[I") ∈ lw_all := lw_g (lw_at lw_m7 48 rfl) rfl
theorem q1573 : (Jvm.Cond.fieldLink "StrengthenFirstModel" (38 : Nat) "StrengthenFirstModel" "hard" "[I") ∈ lw_all := lw_g (lw_at lw_m7 49 rfl) rfl
theorem q1574 : (Jvm.Cond.fieldLink "StrengthenFirstModel" (41 : Nat) "StrengthenFirstModel" "corner" "[I") ∈ lw_all := lw_g (lw_at lw_m7 50 rfl) rfl
theorem q1575 : (Jvm.Cond.fieldLink "StrengthenFirstModel" (44 : Nat) "StrengthenFirstModel" "weak" "[I") ∈ lw_all := lw_g (lw_at lw_m7 51 rfl) rfl
theorem q1576 : (Jvm.Cond.fieldLink "StrengthenFirstModel" (47 : Nat) "StrengthenFirstModel" "day" "[I") ∈ lw_all := lw_g (lw_at lw_m7 52 rfl) rfl
theorem q1577 : (Jvm.Cond.fieldLink "StrengthenFirstModel" (50 : Nat) "StrengthenFirstModel" "night" "[I") ∈ lw_all := lw_g (lw_at lw_m7 53 rfl) rfl
theorem q1578 : (Jvm.Cond.fieldLink "StrengthenFirstModel" (53 : Nat) "StrengthenFirstModel" "cost" "[I") ∈ lw_all := lw_g (lw_at lw_m7 54 rfl) rfl
theorem q1579 : (Jvm.Cond.fieldLink "StrengthenFirstModel" (56 : Nat) "StrengthenFirstModel" "front" "[I") ∈ lw_all := lw_g (lw_at lw_m7 55 rfl) rfl
theorem q1580 : (Jvm.Cond.fieldLink "StrengthenFirstModel" (59 : Nat) "StrengthenFirstModel" "next" "[I") ∈ lw_all := lw_g (lw_at lw_m7 56 rfl) rfl
theorem q1581 : (Jvm.Cond.fieldLink "StrengthenFirstModel" (62 : Nat) "StrengthenFirstModel" "steps" "[I") ∈ lw_all := lw_g (lw_at lw_m7 57 rfl) rfl
theorem q1582 : (Jvm.Cond.fieldLink "StrengthenFirstModel" (65 : Nat) "StrengthenFirstModel" "propped" "[I") ∈ lw_all := lw_g (lw_at lw_m7 58 rfl) rfl
theorem q1583 : (Jvm.Cond.fieldLink "StrengthenFirstModel" (68 : Nat) "StrengthenFirstModel" "held" "[I") ∈ lw_all := lw_g (lw_at lw_m7 59 rfl) rfl
theorem q1584 : (Jvm.Cond.fieldLink "StrengthenFirstModel" (71 : Nat) "StrengthenFirstModel" "sort" "[I") ∈ lw_all := lw_g (lw_at lw_m7 60 rfl) rfl
theorem q1585 : (Jvm.Cond.fieldLink "StrengthenFirstModel" (74 : Nat) "StrengthenFirstModel" "size" "[I") ∈ lw_all := lw_g (lw_at lw_m7 61 rfl) rfl
theorem q1586 : (Jvm.Cond.fieldLink "StrengthenFirstModel" (77 : Nat) "StrengthenFirstModel" "kind" "[I") ∈ lw_all := lw_g (lw_at lw_m7 62 rfl) rfl
theorem q1587 : (Jvm.Cond.fieldLink "StrengthenFirstModel" (80 : Nat) "StrengthenFirstModel" "by" "[I") ∈ lw_all := lw_g (lw_at lw_m7 63 rfl) rfl
theorem q1588 : (Jvm.Cond.fieldLink "StrengthenFirstModel" (83 : Nat) "StrengthenFirstModel" "cells" "[J") ∈ lw_all := lw_g (lw_at lw_m7 64 rfl) rfl
theorem q1589 : (Jvm.Cond.fieldLink "StrengthenFirstModel" (87 : Nat) "StrengthenFirstModel" "carried" "[J") ∈ lw_all := lw_g (lw_at lw_m7 65 rfl) rfl
theorem q1590 : (Jvm.Cond.fieldLink "StrengthenFirstModel" (90 : Nat) "StrengthenFirstModel" "words" "[I") ∈ lw_all := lw_g (lw_at lw_m7 66 rfl) rfl
theorem q1591 : (Jvm.Cond.fieldLink "StrengthenFirstModel" (185 : Nat) "StrengthenFirstModel" "base" "I") ∈ lw_all := lw_g (lw_at lw_m7 67 rfl) rfl
theorem q1592 : (Jvm.Cond.fieldLink "StrengthenFirstModel" (179 : Nat) "StrengthenFirstModel" "at" "I") ∈ lw_all := lw_g (lw_at lw_m7 68 rfl) rfl
theorem q1593 : (Jvm.Cond.fieldLink "StrengthenFirstModel" (182 : Nat) "StrengthenFirstModel" "end" "I") ∈ lw_all := lw_g (lw_at lw_m7 69 rfl) rfl
theorem q1594 : (Jvm.Cond.fieldLink "StrengthenFirstModel" (188 : Nat) "StrengthenFirstModel" "told" "I") ∈ lw_all := lw_g (lw_at lw_m7 70 rfl) rfl
theorem q1595 : (Jvm.Cond.fieldLink "StrengthenFirstModel" (176 : Nat) "StrengthenFirstModel" "wrongAt" "I") ∈ lw_all := lw_g (lw_at lw_m7 71 rfl) rfl
theorem q1596 : (Jvm.Cond.fieldLink "StrengthenFirstModel" (93 : Nat) "StrengthenFirstModel" "was" "[I") ∈ lw_all := lw_g (lw_at lw_m7 72 rfl) rfl
theorem q1597 : (Jvm.Cond.fieldLink "StrengthenFirstModel" (96 : Nat) "StrengthenFirstModel" "kept" "[I") ∈ lw_all := lw_g (lw_at lw_m7 73 rfl) rfl
theorem q1598 : (Jvm.Cond.fieldLink "StrengthenFirstModel" (99 : Nat) "StrengthenFirstModel" "aside" "[I") ∈ lw_all := lw_g (lw_at lw_m7 74 rfl) rfl
theorem q1599 : (Jvm.Cond.fieldLink "StrengthenFirstModel" (102 : Nat) "StrengthenFirstModel" "odds" "[J") ∈ lw_all := lw_g (lw_at lw_m7 75 rfl) rfl
theorem q1600 : (Jvm.Cond.fieldLink "StrengthenFirstModel" (105 : Nat) "StrengthenFirstModel" "worths" "[J") ∈ lw_all := lw_g (lw_at lw_m7 76 rfl) rfl
theorem q1601 : (Jvm.Cond.fieldLink "StrengthenFirstModel" (108 : Nat) "StrengthenFirstModel" "order" "[I") ∈ lw_all := lw_g (lw_at lw_m7 77 rfl) rfl
theorem q1602 : (Jvm.Cond.fieldLink "StrengthenFirstModel" (146 : Nat) "StrengthenFirstModel" "many" "I") ∈ lw_all := lw_g (lw_at lw_m7 78 rfl) rfl
theorem q1603 : (Jvm.Cond.fieldLink "StrengthenFirstModel" (111 : Nat) "StrengthenFirstModel" "row" "[I") ∈ lw_all := lw_g (lw_at lw_m7 79 rfl) rfl
theorem q1604 : (Jvm.Cond.fieldLink "StrengthenFirstModel" (287 : Nat) "StrengthenFirstModel" "length" "I") ∈ lw_all := lw_g (lw_at lw_m7 80 rfl) rfl
theorem q1605 : (Jvm.Cond.fieldLink "StrengthenFirstModel" (284 : Nat) "StrengthenFirstModel" "at1" "I") ∈ lw_all := lw_g (lw_at lw_m7 81 rfl) rfl
theorem q1606 : (Jvm.Cond.fieldLink "StrengthenFirstModel" (290 : Nat) "StrengthenFirstModel" "made" "I") ∈ lw_all := lw_g (lw_at lw_m7 82 rfl) rfl
theorem q1607 : (Jvm.Cond.fieldLink "StrengthenFirstModel" (114 : Nat) "StrengthenFirstModel" "best" "[I") ∈ lw_all := lw_g (lw_at lw_m7 83 rfl) rfl
theorem q1608 : (Jvm.Cond.fieldLink "StrengthenFirstModel" (117 : Nat) "StrengthenFirstModel" "tried" "[I") ∈ lw_all := lw_g (lw_at lw_m7 84 rfl) rfl
theorem q1609 : (Jvm.Cond.fieldLink "StrengthenFirstModel" (309 : Nat) "StrengthenFirstModel" "bestLoss" "J") ∈ lw_all := lw_g (lw_at lw_m7 85 rfl) rfl
theorem q1610 : (Jvm.Cond.fieldLink "StrengthenFirstModel" (305 : Nat) "StrengthenFirstModel" "isBest" "Z") ∈ lw_all := lw_g (lw_at lw_m7 86 rfl) rfl
theorem q1611 : (Jvm.Cond.fieldLink "StrengthenFirstModel" (120 : Nat) "StrengthenFirstModel" "trace" "[I") ∈ lw_all := lw_g (lw_at lw_m7 87 rfl) rfl
theorem q1612 : (Jvm.Cond.fieldLink "StrengthenFirstModel" (331 : Nat) "StrengthenFirstModel" "ran" "I") ∈ lw_all := lw_g (lw_at lw_m7 88 rfl) rfl
theorem q1613 : (Jvm.Cond.fieldLink "StrengthenFirstModel" (346 : Nat) "StrengthenFirstModel" "isKept" "Z") ∈ lw_all := lw_g (lw_at lw_m7 89 rfl) rfl
theorem q1614 : (Jvm.Cond.lays "StrengthenFirstModel" "StrengthenFirstModel" "streets" "I") ∈ lw_all := lw_g (lw_at lw_m7 90 rfl) rfl
theorem q1615 : (Jvm.Cond.soleField "StrengthenFirstModel" "streets") ∈ lw_all := lw_g (lw_at lw_m7 91 rfl) rfl
theorem q1616 : (Jvm.Cond.lays "StrengthenFirstModel" "StrengthenFirstModel" "houses" "I") ∈ lw_all := lw_g (lw_at lw_m7 92 rfl) rfl
theorem q1617 : (Jvm.Cond.soleField "StrengthenFirstModel" "houses") ∈ lw_all := lw_g (lw_at lw_m7 93 rfl) rfl
theorem q1618 : (Jvm.Cond.lays "StrengthenFirstModel" "StrengthenFirstModel" "shakes" "I") ∈ lw_all := lw_g (lw_at lw_m7 94 rfl) rfl
theorem q1619 : (Jvm.Cond.soleField "StrengthenFirstModel" "shakes") ∈ lw_all := lw_g (lw_at lw_m7 95 rfl) rfl
theorem q1620 : (Jvm.Cond.lays "StrengthenFirstModel" "StrengthenFirstModel" "coin" "I") ∈ lw_all := lw_g (lw_at lw_m7 96 rfl) rfl
theorem q1621 : (Jvm.Cond.soleField "StrengthenFirstModel" "coin") ∈ lw_all := lw_g (lw_at lw_m7 97 rfl) rfl
theorem q1622 : (Jvm.Cond.lays "StrengthenFirstModel" "StrengthenFirstModel" "shut" "I") ∈ lw_all := lw_g (lw_at lw_m7 98 rfl) rfl
theorem q1623 : (Jvm.Cond.soleField "StrengthenFirstModel" "shut") ∈ lw_all := lw_g (lw_at lw_m7 99 rfl) rfl
theorem q1624 : (Jvm.Cond.lays "StrengthenFirstModel" "StrengthenFirstModel" "daypart" "I") ∈ lw_all := lw_g (lw_at lw_m7 100 rfl) rfl
theorem q1625 : (Jvm.Cond.soleField "StrengthenFirstModel" "daypart") ∈ lw_all := lw_g (lw_at lw_m7 101 rfl) rfl
theorem q1626 : (Jvm.Cond.lays "StrengthenFirstModel" "StrengthenFirstModel" "purse" "I") ∈ lw_all := lw_g (lw_at lw_m7 102 rfl) rfl
theorem q1627 : (Jvm.Cond.soleField "StrengthenFirstModel" "purse") ∈ lw_all := lw_g (lw_at lw_m7 103 rfl) rfl
theorem q1628 : (Jvm.Cond.lays "StrengthenFirstModel" "StrengthenFirstModel" "year" "I") ∈ lw_all := lw_g (lw_at lw_m7 104 rfl) rfl
theorem q1629 : (Jvm.Cond.soleField "StrengthenFirstModel" "year") ∈ lw_all := lw_g (lw_at lw_m7 105 rfl) rfl
theorem q1630 : (Jvm.Cond.lays "StrengthenFirstModel" "StrengthenFirstModel" "gone" "I") ∈ lw_all := lw_g (lw_at lw_m7 106 rfl) rfl
theorem q1631 : (Jvm.Cond.soleField "StrengthenFirstModel" "gone") ∈ lw_all := lw_g (lw_at lw_m7 107 rfl) rfl
theorem q1632 : (Jvm.Cond.lays "StrengthenFirstModel" "StrengthenFirstModel" "seed" "I") ∈ lw_all := lw_g (lw_at lw_m7 108 rfl) rfl
theorem q1633 : (Jvm.Cond.soleField "StrengthenFirstModel" "seed") ∈ lw_all := lw_g (lw_at lw_m7 109 rfl) rfl
theorem q1634 : (Jvm.Cond.lays "StrengthenFirstModel" "StrengthenFirstModel" "fault" "I") ∈ lw_all := lw_g (lw_at lw_m7 110 rfl) rfl
theorem q1635 : (Jvm.Cond.soleField "StrengthenFirstModel" "fault") ∈ lw_all := lw_g (lw_at lw_m7 111 rfl) rfl
theorem q1636 : (Jvm.Cond.laysFinal "StrengthenFirstModel" "StrengthenFirstModel" "refused" "[I") ∈ lw_all := lw_g (lw_at lw_m7 112 rfl) rfl
theorem q1637 : (Jvm.Cond.soleField "StrengthenFirstModel" "refused") ∈ lw_all := lw_g (lw_at lw_m7 113 rfl) rfl
theorem q1638 : (Jvm.Cond.laysFinal "StrengthenFirstModel" "StrengthenFirstModel" "sideA" "[I") ∈ lw_all := lw_g (lw_at lw_m7 114 rfl) rfl
theorem q1639 : (Jvm.Cond.soleField "StrengthenFirstModel" "sideA") ∈ lw_all := lw_g (lw_at lw_m7 115 rfl) rfl
theorem q1640 : (Jvm.Cond.laysFinal "StrengthenFirstModel" "StrengthenFirstModel" "sideB" "[I") ∈ lw_all := lw_g (lw_at lw_m7 116 rfl) rfl
theorem q1641 : (Jvm.Cond.soleField "StrengthenFirstModel" "sideB") ∈ lw_all := lw_g (lw_at lw_m7 117 rfl) rfl
theorem q1642 : (Jvm.Cond.laysFinal "StrengthenFirstModel" "StrengthenFirstModel" "chance" "[I") ∈ lw_all := lw_g (lw_at lw_m7 118 rfl) rfl
theorem q1643 : (Jvm.Cond.soleField "StrengthenFirstModel" "chance") ∈ lw_all := lw_g (lw_at lw_m7 119 rfl) rfl
theorem q1644 : (Jvm.Cond.laysFinal "StrengthenFirstModel" "StrengthenFirstModel" "hard" "[I") ∈ lw_all := lw_g (lw_at lw_m7 120 rfl) rfl
theorem q1645 : (Jvm.Cond.soleField "StrengthenFirstModel" "hard") ∈ lw_all := lw_g (lw_at lw_m7 121 rfl) rfl
theorem q1646 : (Jvm.Cond.laysFinal "StrengthenFirstModel" "StrengthenFirstModel" "corner" "[I") ∈ lw_all := lw_g (lw_at lw_m7 122 rfl) rfl
theorem q1647 : (Jvm.Cond.soleField "StrengthenFirstModel" "corner") ∈ lw_all := lw_g (lw_at lw_m7 123 rfl) rfl
theorem q1648 : (Jvm.Cond.laysFinal "StrengthenFirstModel" "StrengthenFirstModel" "weak" "[I") ∈ lw_all := lw_g (lw_at lw_m7 124 rfl) rfl
theorem q1649 : (Jvm.Cond.soleField "StrengthenFirstModel" "weak") ∈ lw_all := lw_g (lw_at lw_m7 125 rfl) rfl
theorem q1650 : (Jvm.Cond.laysFinal "StrengthenFirstModel" "StrengthenFirstModel" "day" "[I") ∈ lw_all := lw_g (lw_at lw_m7 126 rfl) rfl
theorem q1651 : (Jvm.Cond.soleField "StrengthenFirstModel" "day") ∈ lw_all := lw_g (lw_at lw_m7 127 rfl) rfl
theorem q1652 : (Jvm.Cond.laysFinal "StrengthenFirstModel" "StrengthenFirstModel" "night" "[I") ∈ lw_all := lw_g (lw_at lw_m7 128 rfl) rfl
theorem q1653 : (Jvm.Cond.soleField "StrengthenFirstModel" "night") ∈ lw_all := lw_g (lw_at lw_m7 129 rfl) rfl
theorem q1654 : (Jvm.Cond.laysFinal "StrengthenFirstModel" "StrengthenFirstModel" "cost" "[I") ∈ lw_all := lw_g (lw_at lw_m7 130 rfl) rfl
theorem q1655 : (Jvm.Cond.soleField "StrengthenFirstModel" "cost") ∈ lw_all := lw_g (lw_at lw_m7 131 rfl) rfl
theorem q1656 : (Jvm.Cond.laysFinal "StrengthenFirstModel" "StrengthenFirstModel" "front" "[I") ∈ lw_all := lw_g (lw_at lw_m7 132 rfl) rfl
theorem q1657 : (Jvm.Cond.soleField "StrengthenFirstModel" "front") ∈ lw_all := lw_g (lw_at lw_m7 133 rfl) rfl
theorem q1658 : (Jvm.Cond.laysFinal "StrengthenFirstModel" "StrengthenFirstModel" "next" "[I") ∈ lw_all := lw_g (lw_at lw_m7 134 rfl) rfl
theorem q1659 : (Jvm.Cond.soleField "StrengthenFirstModel" "next") ∈ lw_all := lw_g (lw_at lw_m7 135 rfl) rfl
theorem q1660 : (Jvm.Cond.laysFinal "StrengthenFirstModel" "StrengthenFirstModel" "steps" "[I") ∈ lw_all := lw_g (lw_at lw_m7 136 rfl) rfl
theorem q1661 : (Jvm.Cond.soleField "StrengthenFirstModel" "steps") ∈ lw_all := lw_g (lw_at lw_m7 137 rfl) rfl
theorem q1662 : (Jvm.Cond.laysFinal "StrengthenFirstModel" "StrengthenFirstModel" "propped" "[I") ∈ lw_all := lw_g (lw_at lw_m7 138 rfl) rfl
theorem q1663 : (Jvm.Cond.soleField "StrengthenFirstModel" "propped") ∈ lw_all := lw_g (lw_at lw_m7 139 rfl) rfl
theorem q1664 : (Jvm.Cond.laysFinal "StrengthenFirstModel" "StrengthenFirstModel" "held" "[I") ∈ lw_all := lw_g (lw_at lw_m7 140 rfl) rfl
theorem q1665 : (Jvm.Cond.soleField "StrengthenFirstModel" "held") ∈ lw_all := lw_g (lw_at lw_m7 141 rfl) rfl
theorem q1666 : (Jvm.Cond.laysFinal "StrengthenFirstModel" "StrengthenFirstModel" "sort" "[I") ∈ lw_all := lw_g (lw_at lw_m7 142 rfl) rfl
theorem q1667 : (Jvm.Cond.soleField "StrengthenFirstModel" "sort") ∈ lw_all := lw_g (lw_at lw_m7 143 rfl) rfl
theorem q1668 : (Jvm.Cond.laysFinal "StrengthenFirstModel" "StrengthenFirstModel" "size" "[I") ∈ lw_all := lw_g (lw_at lw_m7 144 rfl) rfl
theorem q1669 : (Jvm.Cond.soleField "StrengthenFirstModel" "size") ∈ lw_all := lw_g (lw_at lw_m7 145 rfl) rfl
theorem q1670 : (Jvm.Cond.laysFinal "StrengthenFirstModel" "StrengthenFirstModel" "kind" "[I") ∈ lw_all := lw_g (lw_at lw_m7 146 rfl) rfl
theorem q1671 : (Jvm.Cond.soleField "StrengthenFirstModel" "kind") ∈ lw_all := lw_g (lw_at lw_m7 147 rfl) rfl
theorem q1672 : (Jvm.Cond.laysFinal "StrengthenFirstModel" "StrengthenFirstModel" "by" "[I") ∈ lw_all := lw_g (lw_at lw_m7 148 rfl) rfl
theorem q1673 : (Jvm.Cond.soleField "StrengthenFirstModel" "by") ∈ lw_all := lw_g (lw_at lw_m7 149 rfl) rfl
theorem q1674 : (Jvm.Cond.laysFinal "StrengthenFirstModel" "StrengthenFirstModel" "cells" "[J") ∈ lw_all := lw_g (lw_at lw_m7 150 rfl) rfl
theorem q1675 : (Jvm.Cond.soleField "StrengthenFirstModel" "cells") ∈ lw_all := lw_g (lw_at lw_m7 151 rfl) rfl
theorem q1676 : (Jvm.Cond.laysFinal "StrengthenFirstModel" "StrengthenFirstModel" "carried" "[J") ∈ lw_all := lw_g (lw_at lw_m7 152 rfl) rfl
theorem q1677 : (Jvm.Cond.soleField "StrengthenFirstModel" "carried") ∈ lw_all := lw_g (lw_at lw_m7 153 rfl) rfl
theorem q1678 : (Jvm.Cond.laysFinal "StrengthenFirstModel" "StrengthenFirstModel" "words" "[I") ∈ lw_all := lw_g (lw_at lw_m7 154 rfl) rfl
theorem q1679 : (Jvm.Cond.soleField "StrengthenFirstModel" "words") ∈ lw_all := lw_g (lw_at lw_m7 155 rfl) rfl
theorem q1680 : (Jvm.Cond.lays "StrengthenFirstModel" "StrengthenFirstModel" "base" "I") ∈ lw_all := lw_g (lw_at lw_m7 156 rfl) rfl
theorem q1681 : (Jvm.Cond.soleField "StrengthenFirstModel" "base") ∈ lw_all := lw_g (lw_at lw_m7 157 rfl) rfl
theorem q1682 : (Jvm.Cond.lays "StrengthenFirstModel" "StrengthenFirstModel" "at" "I") ∈ lw_all := lw_g (lw_at lw_m7 158 rfl) rfl
theorem q1683 : (Jvm.Cond.soleField "StrengthenFirstModel" "at") ∈ lw_all := lw_g (lw_at lw_m7 159 rfl) rfl
theorem q1684 : (Jvm.Cond.lays "StrengthenFirstModel" "StrengthenFirstModel" "end" "I") ∈ lw_all := lw_g (lw_at lw_m7 160 rfl) rfl
theorem q1685 : (Jvm.Cond.soleField "StrengthenFirstModel" "end") ∈ lw_all := lw_g (lw_at lw_m7 161 rfl) rfl
theorem q1686 : (Jvm.Cond.lays "StrengthenFirstModel" "StrengthenFirstModel" "told" "I") ∈ lw_all := lw_g (lw_at lw_m7 162 rfl) rfl
theorem q1687 : (Jvm.Cond.soleField "StrengthenFirstModel" "told") ∈ lw_all := lw_g (lw_at lw_m7 163 rfl) rfl
theorem q1688 : (Jvm.Cond.lays "StrengthenFirstModel" "StrengthenFirstModel" "wrongAt" "I") ∈ lw_all := lw_g (lw_at lw_m7 164 rfl) rfl
theorem q1689 : (Jvm.Cond.soleField "StrengthenFirstModel" "wrongAt") ∈ lw_all := lw_g (lw_at lw_m7 165 rfl) rfl
theorem q1690 : (Jvm.Cond.laysFinal "StrengthenFirstModel" "StrengthenFirstModel" "was" "[I") ∈ lw_all := lw_g (lw_at lw_m7 166 rfl) rfl
theorem q1691 : (Jvm.Cond.soleField "StrengthenFirstModel" "was") ∈ lw_all := lw_g (lw_at lw_m7 167 rfl) rfl
theorem q1692 : (Jvm.Cond.laysFinal "StrengthenFirstModel" "StrengthenFirstModel" "kept" "[I") ∈ lw_all := lw_g (lw_at lw_m7 168 rfl) rfl
theorem q1693 : (Jvm.Cond.soleField "StrengthenFirstModel" "kept") ∈ lw_all := lw_g (lw_at lw_m7 169 rfl) rfl
theorem q1694 : (Jvm.Cond.laysFinal "StrengthenFirstModel" "StrengthenFirstModel" "aside" "[I") ∈ lw_all := lw_g (lw_at lw_m7 170 rfl) rfl
theorem q1695 : (Jvm.Cond.soleField "StrengthenFirstModel" "aside") ∈ lw_all := lw_g (lw_at lw_m7 171 rfl) rfl
theorem q1696 : (Jvm.Cond.laysFinal "StrengthenFirstModel" "StrengthenFirstModel" "odds" "[J") ∈ lw_all := lw_g (lw_at lw_m7 172 rfl) rfl
theorem q1697 : (Jvm.Cond.soleField "StrengthenFirstModel" "odds") ∈ lw_all := lw_g (lw_at lw_m7 173 rfl) rfl
theorem q1698 : (Jvm.Cond.laysFinal "StrengthenFirstModel" "StrengthenFirstModel" "worths" "[J") ∈ lw_all := lw_g (lw_at lw_m7 174 rfl) rfl
theorem q1699 : (Jvm.Cond.soleField "StrengthenFirstModel" "worths") ∈ lw_all := lw_g (lw_at lw_m7 175 rfl) rfl
theorem q1700 : (Jvm.Cond.laysFinal "StrengthenFirstModel" "StrengthenFirstModel" "order" "[I") ∈ lw_all := lw_g (lw_at lw_m7 176 rfl) rfl
theorem q1701 : (Jvm.Cond.soleField "StrengthenFirstModel" "order") ∈ lw_all := lw_g (lw_at lw_m7 177 rfl) rfl
theorem q1702 : (Jvm.Cond.lays "StrengthenFirstModel" "StrengthenFirstModel" "many" "I") ∈ lw_all := lw_g (lw_at lw_m7 178 rfl) rfl
theorem q1703 : (Jvm.Cond.soleField "StrengthenFirstModel" "many") ∈ lw_all := lw_g (lw_at lw_m7 179 rfl) rfl
theorem q1704 : (Jvm.Cond.laysFinal "StrengthenFirstModel" "StrengthenFirstModel" "row" "[I") ∈ lw_all := lw_g (lw_at lw_m7 180 rfl) rfl
theorem q1705 : (Jvm.Cond.soleField "StrengthenFirstModel" "row") ∈ lw_all := lw_g (lw_at lw_m7 181 rfl) rfl
theorem q1706 : (Jvm.Cond.lays "StrengthenFirstModel" "StrengthenFirstModel" "length" "I") ∈ lw_all := lw_g (lw_at lw_m7 182 rfl) rfl
theorem q1707 : (Jvm.Cond.soleField "StrengthenFirstModel" "length") ∈ lw_all := lw_g (lw_at lw_m7 183 rfl) rfl
theorem q1708 : (Jvm.Cond.lays "StrengthenFirstModel" "StrengthenFirstModel" "at1" "I") ∈ lw_all := lw_g (lw_at lw_m7 184 rfl) rfl
theorem q1709 : (Jvm.Cond.soleField "StrengthenFirstModel" "at1") ∈ lw_all := lw_g (lw_at lw_m7 185 rfl) rfl
theorem q1710 : (Jvm.Cond.lays "StrengthenFirstModel" "StrengthenFirstModel" "made" "I") ∈ lw_all := lw_g (lw_at lw_m7 186 rfl) rfl
theorem q1711 : (Jvm.Cond.soleField "StrengthenFirstModel" "made") ∈ lw_all := lw_g (lw_at lw_m7 187 rfl) rfl
theorem q1712 : (Jvm.Cond.laysFinal "StrengthenFirstModel" "StrengthenFirstModel" "best" "[I") ∈ lw_all := lw_g (lw_at lw_m7 188 rfl) rfl
theorem q1713 : (Jvm.Cond.soleField "StrengthenFirstModel" "best") ∈ lw_all := lw_g (lw_at lw_m7 189 rfl) rfl
theorem q1714 : (Jvm.Cond.laysFinal "StrengthenFirstModel" "StrengthenFirstModel" "tried" "[I") ∈ lw_all := lw_g (lw_at lw_m7 190 rfl) rfl
theorem q1715 : (Jvm.Cond.soleField "StrengthenFirstModel" "tried") ∈ lw_all := lw_g (lw_at lw_m7 191 rfl) rfl
theorem q1716 : (Jvm.Cond.lays "StrengthenFirstModel" "StrengthenFirstModel" "bestLoss" "J") ∈ lw_all := lw_g (lw_at lw_m7 192 rfl) rfl
theorem q1717 : (Jvm.Cond.soleField "StrengthenFirstModel" "bestLoss") ∈ lw_all := lw_g (lw_at lw_m7 193 rfl) rfl
theorem q1718 : (Jvm.Cond.lays "StrengthenFirstModel" "StrengthenFirstModel" "isBest" "Z") ∈ lw_all := lw_g (lw_at lw_m7 194 rfl) rfl
theorem q1719 : (Jvm.Cond.soleField "StrengthenFirstModel" "isBest") ∈ lw_all := lw_g (lw_at lw_m7 195 rfl) rfl
theorem q1720 : (Jvm.Cond.laysFinal "StrengthenFirstModel" "StrengthenFirstModel" "trace" "[I") ∈ lw_all := lw_g (lw_at lw_m7 196 rfl) rfl
theorem q1721 : (Jvm.Cond.soleField "StrengthenFirstModel" "trace") ∈ lw_all := lw_g (lw_at lw_m7 197 rfl) rfl
theorem q1722 : (Jvm.Cond.lays "StrengthenFirstModel" "StrengthenFirstModel" "ran" "I") ∈ lw_all := lw_g (lw_at lw_m7 198 rfl) rfl
theorem q1723 : (Jvm.Cond.soleField "StrengthenFirstModel" "ran") ∈ lw_all := lw_g (lw_at lw_m7 199 rfl) rfl
theorem q1724 : (Jvm.Cond.lays "StrengthenFirstModel" "StrengthenFirstModel" "isKept" "Z") ∈ lw_all := lw_g (lw_at lw_m7 200 rfl) rfl
theorem q1725 : (Jvm.Cond.soleField "StrengthenFirstModel" "isKept") ∈ lw_all := lw_g (lw_at lw_m7 201 rfl) rfl
theorem q1726 : (Jvm.Cond.superclass "StrengthenFirstModel" "java/lang/Object") ∈ lw_all := lw_g (lw_at lw_m7 202 rfl) rfl
theorem q1727 : (Jvm.Cond.methodLink "StrengthenFirstLaw" (17 : Nat) ({ cls := "StrengthenFirstModel", name := "row", desc := "(III)I" } : Jvm.MethodName)) ∈ lw_all := lw_g (lw_at lw_m7 203 rfl) rfl
theorem q1728 : (Jvm.Cond.instanceMethod ({ cls := "StrengthenFirstModel", name := "row", desc := "(III)I" } : Jvm.MethodName)) ∈ lw_all := lw_g (lw_at lw_m7 204 rfl) rfl
theorem q1729 : (Jvm.Cond.selects "StrengthenFirstModel" ({ cls := "StrengthenFirstModel", name := "row", desc := "(III)I" } : Jvm.MethodName) ({ cls := "StrengthenFirstModel", name := "row", desc := "(III)I" } : Jvm.MethodName)) ∈ lw_all := lw_g (lw_at lw_m7 205 rfl) rfl
theorem q1730 : (Jvm.Cond.code ({ cls := "StrengthenFirstModel", name := "row", desc := "(III)I" } : Jvm.MethodName) prog_26_method_9_code (5 : Nat) (Option.some Jvm.ClassFile.FieldType.int)) ∈ lw_all := lw_g (lw_at lw_m7 206 rfl) rfl
theorem q1731 : (Jvm.Cond.methodLink "StrengthenFirstModel" (130 : Nat) ({ cls := "StrengthenFirstModel", name := "isShelf", desc := "(I)Z" } : Jvm.MethodName)) ∈ lw_all := lw_g (lw_at lw_m7 207 rfl) rfl
theorem q1732 : (Jvm.Cond.privateMethod ({ cls := "StrengthenFirstModel", name := "isShelf", desc := "(I)Z" } : Jvm.MethodName)) ∈ lw_tbl := lw_at lw_m7 208 rfl
theorem q1733 : (Jvm.Cond.instanceMethod ({ cls := "StrengthenFirstModel", name := "isShelf", desc := "(I)Z" } : Jvm.MethodName)) ∈ lw_all := lw_g (lw_at lw_m7 209 rfl) rfl
theorem q1734 : (Jvm.Cond.code ({ cls := "StrengthenFirstModel", name := "isShelf", desc := "(I)Z" } : Jvm.MethodName) prog_26_method_5_code (2 : Nat) (Option.some Jvm.ClassFile.FieldType.boolean)) ∈ lw_all := lw_g (lw_at lw_m7 210 rfl) rfl
theorem q1735 : (Jvm.Cond.methodLink "StrengthenFirstModel" (134 : Nat) ({ cls := "StrengthenFirstModel", name := "no", desc := "(I)I" } : Jvm.MethodName)) ∈ lw_all := lw_g (lw_at lw_m7 211 rfl) rfl
theorem q1736 : (Jvm.Cond.privateMethod ({ cls := "StrengthenFirstModel", name := "no", desc := "(I)I" } : Jvm.MethodName)) ∈ lw_tbl := lw_at lw_m7 212 rfl
theorem q1737 : (Jvm.Cond.instanceMethod ({ cls := "StrengthenFirstModel", name := "no", desc := "(I)I" } : Jvm.MethodName)) ∈ lw_all := lw_g (lw_at lw_m7 213 rfl) rfl
theorem q1738 : (Jvm.Cond.code ({ cls := "StrengthenFirstModel", name := "no", desc := "(I)I" } : Jvm.MethodName) prog_26_method_2_code (2 : Nat) (Option.some Jvm.ClassFile.FieldType.int)) ∈ lw_all := lw_g (lw_at lw_m7 214 rfl) rfl
theorem q1739 : (Jvm.Cond.methodLink "StrengthenFirstLaw" (24 : Nat) ({ cls := "StrengthenFirstModel", name := "set", desc := "(IIJ)I" } : Jvm.MethodName)) ∈ lw_all := lw_g (lw_at lw_m7 215 rfl) rfl
theorem q1740 : (Jvm.Cond.instanceMethod ({ cls := "StrengthenFirstModel", name := "set", desc := "(IIJ)I" } : Jvm.MethodName)) ∈ lw_all := lw_g (lw_at lw_m7 216 rfl) rfl
theorem q1741 : (Jvm.Cond.selects "StrengthenFirstModel" ({ cls := "StrengthenFirstModel", name := "set", desc := "(IIJ)I" } : Jvm.MethodName) ({ cls := "StrengthenFirstModel", name := "set", desc := "(IIJ)I" } : Jvm.MethodName)) ∈ lw_all := lw_g (lw_at lw_m7 217 rfl) rfl
theorem q1742 : (Jvm.Cond.code ({ cls := "StrengthenFirstModel", name := "set", desc := "(IIJ)I" } : Jvm.MethodName) prog_26_method_10_code (5 : Nat) (Option.some Jvm.ClassFile.FieldType.int)) ∈ lw_all := lw_g (lw_at lw_m7 218 rfl) rfl
theorem q1743 : (Jvm.Cond.methodLink "StrengthenFirstLaw" (29 : Nat) ({ cls := "StrengthenFirstModel", name := "copy", desc := "(IIIII)I" } : Jvm.MethodName)) ∈ lw_all := lw_g (lw_at lw_m7 219 rfl) rfl
theorem q1744 : (Jvm.Cond.instanceMethod ({ cls := "StrengthenFirstModel", name := "copy", desc := "(IIIII)I" } : Jvm.MethodName)) ∈ lw_all := lw_g (lw_at lw_m7 220 rfl) rfl
theorem q1745 : (Jvm.Cond.selects "StrengthenFirstModel" ({ cls := "StrengthenFirstModel", name := "copy", desc := "(IIIII)I" } : Jvm.MethodName) ({ cls := "StrengthenFirstModel", name := "copy", desc := "(IIIII)I" } : Jvm.MethodName)) ∈ lw_all := lw_g (lw_at lw_m7 221 rfl) rfl
theorem q1746 : (Jvm.Cond.code ({ cls := "StrengthenFirstModel", name := "copy", desc := "(IIIII)I" } : Jvm.MethodName) prog_26_method_11_code (7 : Nat) (Option.some Jvm.ClassFile.FieldType.int)) ∈ lw_all := lw_g (lw_at lw_m7 222 rfl) rfl
theorem q1747 : (Jvm.Cond.methodLink "StrengthenFirstLaw" (34 : Nat) ({ cls := "StrengthenFirstModel", name := "element", desc := "(II)J" } : Jvm.MethodName)) ∈ lw_all := lw_g (lw_at lw_m7 223 rfl) rfl
theorem q1748 : (Jvm.Cond.instanceMethod ({ cls := "StrengthenFirstModel", name := "element", desc := "(II)J" } : Jvm.MethodName)) ∈ lw_all := lw_g (lw_at lw_m7 224 rfl) rfl
theorem q1749 : (Jvm.Cond.selects "StrengthenFirstModel" ({ cls := "StrengthenFirstModel", name := "element", desc := "(II)J" } : Jvm.MethodName) ({ cls := "StrengthenFirstModel", name := "element", desc := "(II)J" } : Jvm.MethodName)) ∈ lw_all := lw_g (lw_at lw_m7 225 rfl) rfl
theorem q1750 : (Jvm.Cond.code ({ cls := "StrengthenFirstModel", name := "element", desc := "(II)J" } : Jvm.MethodName) prog_26_method_12_code (3 : Nat) (Option.some Jvm.ClassFile.FieldType.long)) ∈ lw_all := lw_g (lw_at lw_m7 226 rfl) rfl
theorem q1751 : (Jvm.Cond.methodLink "StrengthenFirstLaw" (38 : Nat) ({ cls := "StrengthenFirstModel", name := "rule", desc := "(III)I" } : Jvm.MethodName)) ∈ lw_all := lw_g (lw_at lw_m7 227 rfl) rfl
theorem q1752 : (Jvm.Cond.instanceMethod ({ cls := "StrengthenFirstModel", name := "rule", desc := "(III)I" } : Jvm.MethodName)) ∈ lw_all := lw_g (lw_at lw_m7 228 rfl) rfl
theorem q1753 : (Jvm.Cond.selects "StrengthenFirstModel" ({ cls := "StrengthenFirstModel", name := "rule", desc := "(III)I" } : Jvm.MethodName) ({ cls := "StrengthenFirstModel", name := "rule", desc := "(III)I" } : Jvm.MethodName)) ∈ lw_all := lw_g (lw_at lw_m7 229 rfl) rfl
theorem q1754 : (Jvm.Cond.code ({ cls := "StrengthenFirstModel", name := "rule", desc := "(III)I" } : Jvm.MethodName) prog_26_method_15_code (7 : Nat) (Option.some Jvm.ClassFile.FieldType.int)) ∈ lw_all := lw_g (lw_at lw_m7 230 rfl) rfl
theorem q1755 : (Jvm.Cond.methodLink "StrengthenFirstModel" (138 : Nat) ({ cls := "StrengthenFirstModel", name := "wants", desc := "(II)I" } : Jvm.MethodName)) ∈ lw_all := lw_g (lw_at lw_m7 231 rfl) rfl
theorem q1756 : (Jvm.Cond.privateMethod ({ cls := "StrengthenFirstModel", name := "wants", desc := "(II)I" } : Jvm.MethodName)) ∈ lw_tbl := lw_at lw_m7 232 rfl
theorem q1757 : (Jvm.Cond.instanceMethod ({ cls := "StrengthenFirstModel", name := "wants", desc := "(II)I" } : Jvm.MethodName)) ∈ lw_all := lw_g (lw_at lw_m7 233 rfl) rfl
theorem q1758 : (Jvm.Cond.code ({ cls := "StrengthenFirstModel", name := "wants", desc := "(II)I" } : Jvm.MethodName) prog_26_method_13_code (3 : Nat) (Option.some Jvm.ClassFile.FieldType.int)) ∈ lw_all := lw_g (lw_at lw_m7 234 rfl) rfl
theorem q1759 : (Jvm.Cond.methodLink "StrengthenFirstLaw" (43 : Nat) ({ cls := "StrengthenFirstModel", name := "holds", desc := "(I)I" } : Jvm.MethodName)) ∈ lw_all := lw_g (lw_at lw_m7 235 rfl) rfl
theorem q1760 : (Jvm.Cond.instanceMethod ({ cls := "StrengthenFirstModel", name := "holds", desc := "(I)I" } : Jvm.MethodName)) ∈ lw_all := lw_g (lw_at lw_m7 236 rfl) rfl
theorem q1761 : (Jvm.Cond.selects "StrengthenFirstModel" ({ cls := "StrengthenFirstModel", name := "holds", desc := "(I)I" } : Jvm.MethodName) ({ cls := "StrengthenFirstModel", name := "holds", desc := "(I)I" } : Jvm.MethodName)) ∈ lw_all := lw_g (lw_at lw_m7 237 rfl) rfl
theorem q1762 : (Jvm.Cond.code ({ cls := "StrengthenFirstModel", name := "holds", desc := "(I)I" } : Jvm.MethodName) prog_26_method_16_code (2 : Nat) (Option.some Jvm.ClassFile.FieldType.int)) ∈ lw_all := lw_g (lw_at lw_m7 238 rfl) rfl
theorem q1763 : (Jvm.Cond.methodLink "StrengthenFirstLaw" (48 : Nat) ({ cls := "StrengthenFirstModel", name := "says", desc := "(II)I" } : Jvm.MethodName)) ∈ lw_all := lw_g (lw_at lw_m7 239 rfl) rfl
theorem q1764 : (Jvm.Cond.instanceMethod ({ cls := "StrengthenFirstModel", name := "says", desc := "(II)I" } : Jvm.MethodName)) ∈ lw_all := lw_g (lw_at lw_m8 0 rfl) rfl
theorem q1765 : (Jvm.Cond.selects "StrengthenFirstModel" ({ cls := "StrengthenFirstModel", name := "says", desc := "(II)I" } : Jvm.MethodName) ({ cls := "StrengthenFirstModel", name := "says", desc := "(II)I" } : Jvm.MethodName)) ∈ lw_all := lw_g (lw_at lw_m8 1 rfl) rfl
theorem q1766 : (Jvm.Cond.code ({ cls := "StrengthenFirstModel", name := "says", desc := "(II)I" } : Jvm.MethodName) prog_26_method_17_code (6 : Nat) (Option.some Jvm.ClassFile.FieldType.int)) ∈ lw_all := lw_g (lw_at lw_m8 2 rfl) rfl
theorem q1767 : (Jvm.Cond.methodLink "StrengthenFirstModel" (142 : Nat) ({ cls := "StrengthenFirstModel", name := "orders", desc := "(I)V" } : Jvm.MethodName)) ∈ lw_all := lw_g (lw_at lw_m8 3 rfl) rfl
theorem q1768 : (Jvm.Cond.privateMethod ({ cls := "StrengthenFirstModel", name := "orders", desc := "(I)V" } : Jvm.MethodName)) ∈ lw_tbl := lw_at lw_m8 4 rfl
theorem q1769 : (Jvm.Cond.instanceMethod ({ cls := "StrengthenFirstModel", name := "orders", desc := "(I)V" } : Jvm.MethodName)) ∈ lw_all := lw_g (lw_at lw_m8 5 rfl) rfl
theorem q1770 : (Jvm.Cond.code ({ cls := "StrengthenFirstModel", name := "orders", desc := "(I)V" } : Jvm.MethodName) prog_26_method_65_code (4 : Nat) (Option.none : Option Jvm.ClassFile.FieldType)) ∈ lw_all := lw_g (lw_at lw_m8 6 rfl) rfl
theorem q1771 : (Jvm.Cond.methodLink "StrengthenFirstModel" (278 : Nat) ({ cls := "StrengthenFirstModel", name := "saves", desc := "(I)V" } : Jvm.MethodName)) ∈ lw_all := lw_g (lw_at lw_m8 7 rfl) rfl
theorem q1772 : (Jvm.Cond.privateMethod ({ cls := "StrengthenFirstModel", name := "saves", desc := "(I)V" } : Jvm.MethodName)) ∈ lw_tbl := lw_at lw_m8 8 rfl
theorem q1773 : (Jvm.Cond.instanceMethod ({ cls := "StrengthenFirstModel", name := "saves", desc := "(I)V" } : Jvm.MethodName)) ∈ lw_all := lw_g (lw_at lw_m8 9 rfl) rfl
theorem q1774 : (Jvm.Cond.code ({ cls := "StrengthenFirstModel", name := "saves", desc := "(I)V" } : Jvm.MethodName) prog_26_method_64_code (9 : Nat) (Option.none : Option Jvm.ClassFile.FieldType)) ∈ lw_all := lw_g (lw_at lw_m8 10 rfl) rfl
theorem q1775 : (Jvm.Cond.methodLink "StrengthenFirstModel" (251 : Nat) ({ cls := "StrengthenFirstModel", name := "worthsBy", desc := "(IZ)V" } : Jvm.MethodName)) ∈ lw_all := lw_g (lw_at lw_m8 11 rfl) rfl
theorem q1776 : (Jvm.Cond.privateMethod ({ cls := "StrengthenFirstModel", name := "worthsBy", desc := "(IZ)V" } : Jvm.MethodName)) ∈ lw_tbl := lw_at lw_m8 12 rfl
theorem q1777 : (Jvm.Cond.instanceMethod ({ cls := "StrengthenFirstModel", name := "worthsBy", desc := "(IZ)V" } : Jvm.MethodName)) ∈ lw_all := lw_g (lw_at lw_m8 13 rfl) rfl
theorem q1778 : (Jvm.Cond.code ({ cls := "StrengthenFirstModel", name := "worthsBy", desc := "(IZ)V" } : Jvm.MethodName) prog_26_method_50_code (8 : Nat) (Option.none : Option Jvm.ClassFile.FieldType)) ∈ lw_all := lw_g (lw_at lw_m8 14 rfl) rfl
theorem q1779 : (Jvm.Cond.methodLink "StrengthenFirstModel" (240 : Nat) ({ cls := "StrengthenFirstModel", name := "cutOf", desc := "(I)I" } : Jvm.MethodName)) ∈ lw_all := lw_g (lw_at lw_m8 15 rfl) rfl
theorem q1780 : (Jvm.Cond.privateMethod ({ cls := "StrengthenFirstModel", name := "cutOf", desc := "(I)I" } : Jvm.MethodName)) ∈ lw_tbl := lw_at lw_m8 16 rfl
theorem q1781 : (Jvm.Cond.instanceMethod ({ cls := "StrengthenFirstModel", name := "cutOf", desc := "(I)I" } : Jvm.MethodName)) ∈ lw_all := lw_g (lw_at lw_m8 17 rfl) rfl
theorem q1782 : (Jvm.Cond.code ({ cls := "StrengthenFirstModel", name := "cutOf", desc := "(I)I" } : Jvm.MethodName) prog_26_method_46_code (7 : Nat) (Option.some Jvm.ClassFile.FieldType.int)) ∈ lw_all := lw_g (lw_at lw_m8 18 rfl) rfl
theorem q1783 : (Jvm.Cond.constantLong "StrengthenFirstModel" (243 : Nat) (10 : Int64)) ∈ lw_all := lw_g (lw_at lw_m8 19 rfl) rfl
theorem q1784 : (Jvm.Cond.methodLink "StrengthenFirstModel" (245 : Nat) ({ cls := "StrengthenFirstModel", name := "people", desc := "(II)I" } : Jvm.MethodName)) ∈ lw_all := lw_g (lw_at lw_m8 20 rfl) rfl
theorem q1785 : (Jvm.Cond.privateMethod ({ cls := "StrengthenFirstModel", name := "people", desc := "(II)I" } : Jvm.MethodName)) ∈ lw_tbl := lw_at lw_m8 21 rfl
theorem q1786 : (Jvm.Cond.instanceMethod ({ cls := "StrengthenFirstModel", name := "people", desc := "(II)I" } : Jvm.MethodName)) ∈ lw_all := lw_g (lw_at lw_m8 22 rfl) rfl
theorem q1787 : (Jvm.Cond.code ({ cls := "StrengthenFirstModel", name := "people", desc := "(II)I" } : Jvm.MethodName) prog_26_method_49_code (3 : Nat) (Option.some Jvm.ClassFile.FieldType.int)) ∈ lw_all := lw_g (lw_at lw_m8 23 rfl) rfl
theorem q1788 : (Jvm.Cond.methodLink "StrengthenFirstModel" (272 : Nat) ({ cls := "StrengthenFirstModel", name := "isIn", desc := "(I)Z" } : Jvm.MethodName)) ∈ lw_all := lw_g (lw_at lw_m8 24 rfl) rfl
theorem q1789 : (Jvm.Cond.privateMethod ({ cls := "StrengthenFirstModel", name := "isIn", desc := "(I)Z" } : Jvm.MethodName)) ∈ lw_tbl := lw_at lw_m8 25 rfl
theorem q1790 : (Jvm.Cond.instanceMethod ({ cls := "StrengthenFirstModel", name := "isIn", desc := "(I)Z" } : Jvm.MethodName)) ∈ lw_all := lw_g (lw_at lw_m8 26 rfl) rfl
theorem q1791 : (Jvm.Cond.code ({ cls := "StrengthenFirstModel", name := "isIn", desc := "(I)Z" } : Jvm.MethodName) prog_26_method_62_code (3 : Nat) (Option.some Jvm.ClassFile.FieldType.boolean)) ∈ lw_all := lw_g (lw_at lw_m8 27 rfl) rfl
theorem q1792 : (Jvm.Cond.methodLink "StrengthenFirstModel" (259 : Nat) ({ cls := "StrengthenFirstModel", name := "meanNow", desc := "()J" } : Jvm.MethodName)) ∈ lw_all := lw_g (lw_at lw_m8 28 rfl) rfl
theorem q1793 : (Jvm.Cond.privateMethod ({ cls := "StrengthenFirstModel", name := "meanNow", desc := "()J" } : Jvm.MethodName)) ∈ lw_tbl := lw_at lw_m8 29 rfl
theorem q1794 : (Jvm.Cond.instanceMethod ({ cls := "StrengthenFirstModel", name := "meanNow", desc := "()J" } : Jvm.MethodName)) ∈ lw_all := lw_g (lw_at lw_m8 30 rfl) rfl
theorem q1795 : (Jvm.Cond.code ({ cls := "StrengthenFirstModel", name := "meanNow", desc := "()J" } : Jvm.MethodName) prog_26_method_55_code (4 : Nat) (Option.some Jvm.ClassFile.FieldType.long)) ∈ lw_all := lw_g (lw_at lw_m8 31 rfl) rfl
theorem q1796 : (Jvm.Cond.methodLink "StrengthenFirstModel" (255 : Nat) ({ cls := "StrengthenFirstModel", name := "lostBy", desc := "(I)J" } : Jvm.MethodName)) ∈ lw_all := lw_g (lw_at lw_m8 32 rfl) rfl
theorem q1797 : (Jvm.Cond.privateMethod ({ cls := "StrengthenFirstModel", name := "lostBy", desc := "(I)J" } : Jvm.MethodName)) ∈ lw_tbl := lw_at lw_m8 33 rfl
theorem q1798 : (Jvm.Cond.instanceMethod ({ cls := "StrengthenFirstModel", name := "lostBy", desc := "(I)J" } : Jvm.MethodName)) ∈ lw_all := lw_g (lw_at lw_m8 34 rfl) rfl
theorem q1799 : (Jvm.Cond.code ({ cls := "StrengthenFirstModel", name := "lostBy", desc := "(I)J" } : Jvm.MethodName) prog_26_method_51_code (5 : Nat) (Option.some Jvm.ClassFile.FieldType.long)) ∈ lw_all := lw_g (lw_at lw_m8 35 rfl) rfl
theorem q1800 : (Jvm.Cond.methodLink "StrengthenFirstModel" (248 : Nat) ({ cls := "StrengthenFirstModel", name := "oddsBy", desc := "(I)V" } : Jvm.MethodName)) ∈ lw_all := lw_g (lw_at lw_m8 36 rfl) rfl
theorem q1801 : (Jvm.Cond.privateMethod ({ cls := "StrengthenFirstModel", name := "oddsBy", desc := "(I)V" } : Jvm.MethodName)) ∈ lw_tbl := lw_at lw_m8 37 rfl
theorem q1802 : (Jvm.Cond.instanceMethod ({ cls := "StrengthenFirstModel", name := "oddsBy", desc := "(I)V" } : Jvm.MethodName)) ∈ lw_all := lw_g (lw_at lw_m8 38 rfl) rfl
theorem q1803 : (Jvm.Cond.code ({ cls := "StrengthenFirstModel", name := "oddsBy", desc := "(I)V" } : Jvm.MethodName) prog_26_method_48_code (5 : Nat) (Option.none : Option Jvm.ClassFile.FieldType)) ∈ lw_all := lw_g (lw_at lw_m8 39 rfl) rfl
theorem q1804 : (Jvm.Cond.methodLink "StrengthenFirstModel" (237 : Nat) ({ cls := "StrengthenFirstModel", name := "fallsOf", desc := "(II)I" } : Jvm.MethodName)) ∈ lw_all := lw_g (lw_at lw_m8 40 rfl) rfl
theorem q1805 : (Jvm.Cond.privateMethod ({ cls := "StrengthenFirstModel", name := "fallsOf", desc := "(II)I" } : Jvm.MethodName)) ∈ lw_tbl := lw_at lw_m8 41 rfl
theorem q1806 : (Jvm.Cond.instanceMethod ({ cls := "StrengthenFirstModel", name := "fallsOf", desc := "(II)I" } : Jvm.MethodName)) ∈ lw_all := lw_g (lw_at lw_m8 42 rfl) rfl
theorem q1807 : (Jvm.Cond.code ({ cls := "StrengthenFirstModel", name := "fallsOf", desc := "(II)I" } : Jvm.MethodName) prog_26_method_44_code (4 : Nat) (Option.some Jvm.ClassFile.FieldType.int)) ∈ lw_all := lw_g (lw_at lw_m8 43 rfl) rfl
theorem q1808 : (Jvm.Cond.methodLink "StrengthenFirstModel" (275 : Nat) ({ cls := "StrengthenFirstModel", name := "rests", desc := "()V" } : Jvm.MethodName)) ∈ lw_all := lw_g (lw_at lw_m8 44 rfl) rfl
theorem q1809 : (Jvm.Cond.privateMethod ({ cls := "StrengthenFirstModel", name := "rests", desc := "()V" } : Jvm.MethodName)) ∈ lw_tbl := lw_at lw_m8 45 rfl
theorem q1810 : (Jvm.Cond.instanceMethod ({ cls := "StrengthenFirstModel", name := "rests", desc := "()V" } : Jvm.MethodName)) ∈ lw_all := lw_g (lw_at lw_m8 46 rfl) rfl
theorem q1811 : (Jvm.Cond.code ({ cls := "StrengthenFirstModel", name := "rests", desc := "()V" } : Jvm.MethodName) prog_26_method_63_code (2 : Nat) (Option.none : Option Jvm.ClassFile.FieldType)) ∈ lw_all := lw_g (lw_at lw_m8 47 rfl) rfl
theorem q1812 : (Jvm.Cond.methodLink "StrengthenFirstModel" (165 : Nat) ({ cls := "StrengthenFirstModel", name := "intAt", desc := "(II)I" } : Jvm.MethodName)) ∈ lw_all := lw_g (lw_at lw_m8 48 rfl) rfl
theorem q1813 : (Jvm.Cond.privateMethod ({ cls := "StrengthenFirstModel", name := "intAt", desc := "(II)I" } : Jvm.MethodName)) ∈ lw_tbl := lw_at lw_m8 49 rfl
theorem q1814 : (Jvm.Cond.instanceMethod ({ cls := "StrengthenFirstModel", name := "intAt", desc := "(II)I" } : Jvm.MethodName)) ∈ lw_all := lw_g (lw_at lw_m8 50 rfl) rfl
theorem q1815 : (Jvm.Cond.code ({ cls := "StrengthenFirstModel", name := "intAt", desc := "(II)I" } : Jvm.MethodName) prog_26_method_14_code (3 : Nat) (Option.some Jvm.ClassFile.FieldType.int)) ∈ lw_all := lw_g (lw_at lw_m8 51 rfl) rfl
theorem q1816 : (Jvm.Cond.methodLink "StrengthenFirstModel" (168 : Nat) ({ cls := "StrengthenFirstModel", name := "isHouse", desc := "(I)Z" } : Jvm.MethodName)) ∈ lw_all := lw_g (lw_at lw_m8 52 rfl) rfl
theorem q1817 : (Jvm.Cond.privateMethod ({ cls := "StrengthenFirstModel", name := "isHouse", desc := "(I)Z" } : Jvm.MethodName)) ∈ lw_tbl := lw_at lw_m8 53 rfl
theorem q1818 : (Jvm.Cond.instanceMethod ({ cls := "StrengthenFirstModel", name := "isHouse", desc := "(I)Z" } : Jvm.MethodName)) ∈ lw_all := lw_g (lw_at lw_m8 54 rfl) rfl
theorem q1819 : (Jvm.Cond.code ({ cls := "StrengthenFirstModel", name := "isHouse", desc := "(I)Z" } : Jvm.MethodName) prog_26_method_6_code (2 : Nat) (Option.some Jvm.ClassFile.FieldType.boolean)) ∈ lw_all := lw_g (lw_at lw_m8 55 rfl) rfl
theorem q1820 : (Jvm.Cond.methodLink "StrengthenFirstModel" (281 : Nat) ({ cls := "StrengthenFirstModel", name := "isAhead", desc := "(III)Z" } : Jvm.MethodName)) ∈ lw_all := lw_g (lw_at lw_m8 56 rfl) rfl
theorem q1821 : (Jvm.Cond.privateMethod ({ cls := "StrengthenFirstModel", name := "isAhead", desc := "(III)Z" } : Jvm.MethodName)) ∈ lw_tbl := lw_at lw_m8 57 rfl
theorem q1822 : (Jvm.Cond.instanceMethod ({ cls := "StrengthenFirstModel", name := "isAhead", desc := "(III)Z" } : Jvm.MethodName)) ∈ lw_all := lw_g (lw_at lw_m8 58 rfl) rfl
theorem q1823 : (Jvm.Cond.code ({ cls := "StrengthenFirstModel", name := "isAhead", desc := "(III)Z" } : Jvm.MethodName) prog_26_method_61_code (4 : Nat) (Option.some Jvm.ClassFile.FieldType.boolean)) ∈ lw_all := lw_g (lw_at lw_m8 59 rfl) rfl
theorem q1824 : (Jvm.Cond.methodLink "StrengthenFirstLaw" (52 : Nat) ({ cls := "StrengthenFirstModel", name := "street", desc := "(II)I" } : Jvm.MethodName)) ∈ lw_all := lw_g (lw_at lw_m8 60 rfl) rfl
theorem q1825 : (Jvm.Cond.instanceMethod ({ cls := "StrengthenFirstModel", name := "street", desc := "(II)I" } : Jvm.MethodName)) ∈ lw_all := lw_g (lw_at lw_m8 61 rfl) rfl
theorem q1826 : (Jvm.Cond.selects "StrengthenFirstModel" ({ cls := "StrengthenFirstModel", name := "street", desc := "(II)I" } : Jvm.MethodName) ({ cls := "StrengthenFirstModel", name := "street", desc := "(II)I" } : Jvm.MethodName)) ∈ lw_all := lw_g (lw_at lw_m8 62 rfl) rfl
theorem q1827 : (Jvm.Cond.code ({ cls := "StrengthenFirstModel", name := "street", desc := "(II)I" } : Jvm.MethodName) prog_26_method_19_code (3 : Nat) (Option.some Jvm.ClassFile.FieldType.int)) ∈ lw_all := lw_g (lw_at lw_m8 63 rfl) rfl
theorem q1828 : (Jvm.Cond.methodLink "StrengthenFirstModel" (152 : Nat) ({ cls := "StrengthenFirstModel", name := "isCorner", desc := "(I)Z" } : Jvm.MethodName)) ∈ lw_all := lw_g (lw_at lw_m8 64 rfl) rfl
theorem q1829 : (Jvm.Cond.privateMethod ({ cls := "StrengthenFirstModel", name := "isCorner", desc := "(I)Z" } : Jvm.MethodName)) ∈ lw_tbl := lw_at lw_m8 65 rfl
theorem q1830 : (Jvm.Cond.instanceMethod ({ cls := "StrengthenFirstModel", name := "isCorner", desc := "(I)Z" } : Jvm.MethodName)) ∈ lw_all := lw_g (lw_at lw_m8 66 rfl) rfl
theorem q1831 : (Jvm.Cond.code ({ cls := "StrengthenFirstModel", name := "isCorner", desc := "(I)Z" } : Jvm.MethodName) prog_26_method_8_code (2 : Nat) (Option.some Jvm.ClassFile.FieldType.boolean)) ∈ lw_all := lw_g (lw_at lw_m8 67 rfl) rfl
theorem q1832 : (Jvm.Cond.methodLink "StrengthenFirstModel" (155 : Nat) ({ cls := "StrengthenFirstModel", name := "streets", desc := "(II)I" } : Jvm.MethodName)) ∈ lw_all := lw_g (lw_at lw_m8 68 rfl) rfl
theorem q1833 : (Jvm.Cond.privateMethod ({ cls := "StrengthenFirstModel", name := "streets", desc := "(II)I" } : Jvm.MethodName)) ∈ lw_tbl := lw_at lw_m8 69 rfl
theorem q1834 : (Jvm.Cond.instanceMethod ({ cls := "StrengthenFirstModel", name := "streets", desc := "(II)I" } : Jvm.MethodName)) ∈ lw_all := lw_g (lw_at lw_m8 70 rfl) rfl
theorem q1835 : (Jvm.Cond.code ({ cls := "StrengthenFirstModel", name := "streets", desc := "(II)I" } : Jvm.MethodName) prog_26_method_18_code (3 : Nat) (Option.some Jvm.ClassFile.FieldType.int)) ∈ lw_all := lw_g (lw_at lw_m8 71 rfl) rfl
theorem q1836 : (Jvm.Cond.methodLink "StrengthenFirstLaw" (56 : Nat) ({ cls := "StrengthenFirstModel", name := "house", desc := "(IIIII)I" } : Jvm.MethodName)) ∈ lw_all := lw_g (lw_at lw_m8 72 rfl) rfl
theorem q1837 : (Jvm.Cond.instanceMethod ({ cls := "StrengthenFirstModel", name := "house", desc := "(IIIII)I" } : Jvm.MethodName)) ∈ lw_all := lw_g (lw_at lw_m8 73 rfl) rfl
theorem q1838 : (Jvm.Cond.selects "StrengthenFirstModel" ({ cls := "StrengthenFirstModel", name := "house", desc := "(IIIII)I" } : Jvm.MethodName) ({ cls := "StrengthenFirstModel", name := "house", desc := "(IIIII)I" } : Jvm.MethodName)) ∈ lw_all := lw_g (lw_at lw_m8 74 rfl) rfl
theorem q1839 : (Jvm.Cond.code ({ cls := "StrengthenFirstModel", name := "house", desc := "(IIIII)I" } : Jvm.MethodName) prog_26_method_22_code (6 : Nat) (Option.some Jvm.ClassFile.FieldType.int)) ∈ lw_all := lw_g (lw_at lw_m8 75 rfl) rfl
theorem q1840 : (Jvm.Cond.methodLink "StrengthenFirstModel" (157 : Nat) ({ cls := "StrengthenFirstModel", name := "isSo", desc := "(IIII)Z" } : Jvm.MethodName)) ∈ lw_all := lw_g (lw_at lw_m8 76 rfl) rfl
theorem q1841 : (Jvm.Cond.privateMethod ({ cls := "StrengthenFirstModel", name := "isSo", desc := "(IIII)Z" } : Jvm.MethodName)) ∈ lw_tbl := lw_at lw_m8 77 rfl
theorem q1842 : (Jvm.Cond.instanceMethod ({ cls := "StrengthenFirstModel", name := "isSo", desc := "(IIII)Z" } : Jvm.MethodName)) ∈ lw_all := lw_g (lw_at lw_m8 78 rfl) rfl
theorem q1843 : (Jvm.Cond.code ({ cls := "StrengthenFirstModel", name := "isSo", desc := "(IIII)Z" } : Jvm.MethodName) prog_26_method_20_code (5 : Nat) (Option.some Jvm.ClassFile.FieldType.boolean)) ∈ lw_all := lw_g (lw_at lw_m8 79 rfl) rfl
theorem q1844 : (Jvm.Cond.methodLink "StrengthenFirstModel" (161 : Nat) ({ cls := "StrengthenFirstModel", name := "comes", desc := "(IIIII)I" } : Jvm.MethodName)) ∈ lw_all := lw_g (lw_at lw_m8 80 rfl) rfl
theorem q1845 : (Jvm.Cond.privateMethod ({ cls := "StrengthenFirstModel", name := "comes", desc := "(IIIII)I" } : Jvm.MethodName)) ∈ lw_tbl := lw_at lw_m8 81 rfl
theorem q1846 : (Jvm.Cond.instanceMethod ({ cls := "StrengthenFirstModel", name := "comes", desc := "(IIIII)I" } : Jvm.MethodName)) ∈ lw_all := lw_g (lw_at lw_m8 82 rfl) rfl
theorem q1847 : (Jvm.Cond.code ({ cls := "StrengthenFirstModel", name := "comes", desc := "(IIIII)I" } : Jvm.MethodName) prog_26_method_21_code (6 : Nat) (Option.some Jvm.ClassFile.FieldType.int)) ∈ lw_all := lw_g (lw_at lw_m8 83 rfl) rfl
theorem q1848 : (Jvm.Cond.methodLink "StrengthenFirstLaw" (60 : Nat) ({ cls := "StrengthenFirstModel", name := "houses", desc := "(III)I" } : Jvm.MethodName)) ∈ lw_all := lw_g (lw_at lw_m8 84 rfl) rfl
theorem q1849 : (Jvm.Cond.instanceMethod ({ cls := "StrengthenFirstModel", name := "houses", desc := "(III)I" } : Jvm.MethodName)) ∈ lw_all := lw_g (lw_at lw_m8 85 rfl) rfl
theorem q1850 : (Jvm.Cond.selects "StrengthenFirstModel" ({ cls := "StrengthenFirstModel", name := "houses", desc := "(III)I" } : Jvm.MethodName) ({ cls := "StrengthenFirstModel", name := "houses", desc := "(III)I" } : Jvm.MethodName)) ∈ lw_all := lw_g (lw_at lw_m8 86 rfl) rfl
theorem q1851 : (Jvm.Cond.code ({ cls := "StrengthenFirstModel", name := "houses", desc := "(III)I" } : Jvm.MethodName) prog_26_method_23_code (7 : Nat) (Option.some Jvm.ClassFile.FieldType.int)) ∈ lw_all := lw_g (lw_at lw_m8 87 rfl) rfl
theorem q1852 : (Jvm.Cond.methodLink "StrengthenFirstLaw" (64 : Nat) ({ cls := "StrengthenFirstModel", name := "houseOf", desc := "(II)I" } : Jvm.MethodName)) ∈ lw_all := lw_g (lw_at lw_m8 88 rfl) rfl
theorem q1853 : (Jvm.Cond.instanceMethod ({ cls := "StrengthenFirstModel", name := "houseOf", desc := "(II)I" } : Jvm.MethodName)) ∈ lw_all := lw_g (lw_at lw_m8 89 rfl) rfl
theorem q1854 : (Jvm.Cond.selects "StrengthenFirstModel" ({ cls := "StrengthenFirstModel", name := "houseOf", desc := "(II)I" } : Jvm.MethodName) ({ cls := "StrengthenFirstModel", name := "houseOf", desc := "(II)I" } : Jvm.MethodName)) ∈ lw_all := lw_g (lw_at lw_m8 90 rfl) rfl
theorem q1855 : (Jvm.Cond.code ({ cls := "StrengthenFirstModel", name := "houseOf", desc := "(II)I" } : Jvm.MethodName) prog_26_method_24_code (3 : Nat) (Option.some Jvm.ClassFile.FieldType.int)) ∈ lw_all := lw_g (lw_at lw_m8 91 rfl) rfl
theorem q1856 : (Jvm.Cond.methodLink "StrengthenFirstLaw" (68 : Nat) ({ cls := "StrengthenFirstModel", name := "front", desc := "(II)I" } : Jvm.MethodName)) ∈ lw_all := lw_g (lw_at lw_m8 92 rfl) rfl
theorem q1857 : (Jvm.Cond.instanceMethod ({ cls := "StrengthenFirstModel", name := "front", desc := "(II)I" } : Jvm.MethodName)) ∈ lw_all := lw_g (lw_at lw_m8 93 rfl) rfl
theorem q1858 : (Jvm.Cond.selects "StrengthenFirstModel" ({ cls := "StrengthenFirstModel", name := "front", desc := "(II)I" } : Jvm.MethodName) ({ cls := "StrengthenFirstModel", name := "front", desc := "(II)I" } : Jvm.MethodName)) ∈ lw_all := lw_g (lw_at lw_m8 94 rfl) rfl
theorem q1859 : (Jvm.Cond.code ({ cls := "StrengthenFirstModel", name := "front", desc := "(II)I" } : Jvm.MethodName) prog_26_method_25_code (4 : Nat) (Option.some Jvm.ClassFile.FieldType.int)) ∈ lw_all := lw_g (lw_at lw_m8 95 rfl) rfl
theorem q1860 : (Jvm.Cond.methodLink "StrengthenFirstModel" (171 : Nat) ({ cls := "StrengthenFirstModel", name := "noTen", desc := "(I)I" } : Jvm.MethodName)) ∈ lw_all := lw_g (lw_at lw_m8 96 rfl) rfl
theorem q1861 : (Jvm.Cond.privateMethod ({ cls := "StrengthenFirstModel", name := "noTen", desc := "(I)I" } : Jvm.MethodName)) ∈ lw_tbl := lw_at lw_m8 97 rfl
theorem q1862 : (Jvm.Cond.instanceMethod ({ cls := "StrengthenFirstModel", name := "noTen", desc := "(I)I" } : Jvm.MethodName)) ∈ lw_all := lw_g (lw_at lw_m8 98 rfl) rfl
theorem q1863 : (Jvm.Cond.code ({ cls := "StrengthenFirstModel", name := "noTen", desc := "(I)I" } : Jvm.MethodName) prog_26_method_3_code (2 : Nat) (Option.some Jvm.ClassFile.FieldType.int)) ∈ lw_all := lw_g (lw_at lw_m8 99 rfl) rfl
theorem q1864 : (Jvm.Cond.methodLink "StrengthenFirstLaw" (72 : Nat) ({ cls := "StrengthenFirstModel", name := "next", desc := "(II)I" } : Jvm.MethodName)) ∈ lw_all := lw_g (lw_at lw_m8 100 rfl) rfl
theorem q1865 : (Jvm.Cond.instanceMethod ({ cls := "StrengthenFirstModel", name := "next", desc := "(II)I" } : Jvm.MethodName)) ∈ lw_all := lw_g (lw_at lw_m8 101 rfl) rfl
theorem q1866 : (Jvm.Cond.selects "StrengthenFirstModel" ({ cls := "StrengthenFirstModel", name := "next", desc := "(II)I" } : Jvm.MethodName) ({ cls := "StrengthenFirstModel", name := "next", desc := "(II)I" } : Jvm.MethodName)) ∈ lw_all := lw_g (lw_at lw_m8 102 rfl) rfl
theorem q1867 : (Jvm.Cond.code ({ cls := "StrengthenFirstModel", name := "next", desc := "(II)I" } : Jvm.MethodName) prog_26_method_26_code (4 : Nat) (Option.some Jvm.ClassFile.FieldType.int)) ∈ lw_all := lw_g (lw_at lw_m8 103 rfl) rfl
theorem q1868 : (Jvm.Cond.methodLink "StrengthenFirstLaw" (76 : Nat) ({ cls := "StrengthenFirstModel", name := "alter", desc := "(III)I" } : Jvm.MethodName)) ∈ lw_all := lw_g (lw_at lw_m8 104 rfl) rfl
theorem q1869 : (Jvm.Cond.instanceMethod ({ cls := "StrengthenFirstModel", name := "alter", desc := "(III)I" } : Jvm.MethodName)) ∈ lw_all := lw_g (lw_at lw_m8 105 rfl) rfl
theorem q1870 : (Jvm.Cond.selects "StrengthenFirstModel" ({ cls := "StrengthenFirstModel", name := "alter", desc := "(III)I" } : Jvm.MethodName) ({ cls := "StrengthenFirstModel", name := "alter", desc := "(III)I" } : Jvm.MethodName)) ∈ lw_all := lw_g (lw_at lw_m8 106 rfl) rfl
theorem q1871 : (Jvm.Cond.code ({ cls := "StrengthenFirstModel", name := "alter", desc := "(III)I" } : Jvm.MethodName) prog_26_method_27_code (5 : Nat) (Option.some Jvm.ClassFile.FieldType.int)) ∈ lw_all := lw_g (lw_at lw_m8 107 rfl) rfl
theorem q1872 : (Jvm.Cond.methodLink "StrengthenFirstLaw" (81 : Nat) ({ cls := "StrengthenFirstModel", name := "prop", desc := "(IZ)I" } : Jvm.MethodName)) ∈ lw_all := lw_g (lw_at lw_m8 108 rfl) rfl
theorem q1873 : (Jvm.Cond.instanceMethod ({ cls := "StrengthenFirstModel", name := "prop", desc := "(IZ)I" } : Jvm.MethodName)) ∈ lw_all := lw_g (lw_at lw_m8 109 rfl) rfl
theorem q1874 : (Jvm.Cond.selects "StrengthenFirstModel" ({ cls := "StrengthenFirstModel", name := "prop", desc := "(IZ)I" } : Jvm.MethodName) ({ cls := "StrengthenFirstModel", name := "prop", desc := "(IZ)I" } : Jvm.MethodName)) ∈ lw_all := lw_g (lw_at lw_m8 110 rfl) rfl
theorem q1875 : (Jvm.Cond.code ({ cls := "StrengthenFirstModel", name := "prop", desc := "(IZ)I" } : Jvm.MethodName) prog_26_method_28_code (4 : Nat) (Option.some Jvm.ClassFile.FieldType.int)) ∈ lw_all := lw_g (lw_at lw_m8 111 rfl) rfl
theorem q1876 : (Jvm.Cond.methodLink "StrengthenFirstLaw" (85 : Nat) ({ cls := "StrengthenFirstModel", name := "shake", desc := "(II)I" } : Jvm.MethodName)) ∈ lw_all := lw_g (lw_at lw_m8 112 rfl) rfl
theorem q1877 : (Jvm.Cond.instanceMethod ({ cls := "StrengthenFirstModel", name := "shake", desc := "(II)I" } : Jvm.MethodName)) ∈ lw_all := lw_g (lw_at lw_m8 113 rfl) rfl
theorem q1878 : (Jvm.Cond.selects "StrengthenFirstModel" ({ cls := "StrengthenFirstModel", name := "shake", desc := "(II)I" } : Jvm.MethodName) ({ cls := "StrengthenFirstModel", name := "shake", desc := "(II)I" } : Jvm.MethodName)) ∈ lw_all := lw_g (lw_at lw_m8 114 rfl) rfl
theorem q1879 : (Jvm.Cond.code ({ cls := "StrengthenFirstModel", name := "shake", desc := "(II)I" } : Jvm.MethodName) prog_26_method_30_code (3 : Nat) (Option.some Jvm.ClassFile.FieldType.int)) ∈ lw_all := lw_g (lw_at lw_m8 115 rfl) rfl
theorem q1880 : (Jvm.Cond.methodLink "StrengthenFirstModel" (174 : Nat) ({ cls := "StrengthenFirstModel", name := "shakes", desc := "(II)I" } : Jvm.MethodName)) ∈ lw_all := lw_g (lw_at lw_m8 116 rfl) rfl
theorem q1881 : (Jvm.Cond.privateMethod ({ cls := "StrengthenFirstModel", name := "shakes", desc := "(II)I" } : Jvm.MethodName)) ∈ lw_tbl := lw_at lw_m8 117 rfl
theorem q1882 : (Jvm.Cond.instanceMethod ({ cls := "StrengthenFirstModel", name := "shakes", desc := "(II)I" } : Jvm.MethodName)) ∈ lw_all := lw_g (lw_at lw_m8 118 rfl) rfl
theorem q1883 : (Jvm.Cond.code ({ cls := "StrengthenFirstModel", name := "shakes", desc := "(II)I" } : Jvm.MethodName) prog_26_method_29_code (3 : Nat) (Option.some Jvm.ClassFile.FieldType.int)) ∈ lw_all := lw_g (lw_at lw_m8 119 rfl) rfl
theorem q1884 : (Jvm.Cond.methodLink "StrengthenFirstLaw" (89 : Nat) ({ cls := "StrengthenFirstModel", name := "ask", desc := "(II)I" } : Jvm.MethodName)) ∈ lw_all := lw_g (lw_at lw_m8 120 rfl) rfl
theorem q1885 : (Jvm.Cond.instanceMethod ({ cls := "StrengthenFirstModel", name := "ask", desc := "(II)I" } : Jvm.MethodName)) ∈ lw_all := lw_g (lw_at lw_m8 121 rfl) rfl
theorem q1886 : (Jvm.Cond.selects "StrengthenFirstModel" ({ cls := "StrengthenFirstModel", name := "ask", desc := "(II)I" } : Jvm.MethodName) ({ cls := "StrengthenFirstModel", name := "ask", desc := "(II)I" } : Jvm.MethodName)) ∈ lw_all := lw_g (lw_at lw_m8 122 rfl) rfl
theorem q1887 : (Jvm.Cond.code ({ cls := "StrengthenFirstModel", name := "ask", desc := "(II)I" } : Jvm.MethodName) prog_26_method_31_code (4 : Nat) (Option.some Jvm.ClassFile.FieldType.int)) ∈ lw_all := lw_g (lw_at lw_m8 123 rfl) rfl
theorem q1888 : (Jvm.Cond.methodLink "StrengthenFirstLaw" (93 : Nat) ({ cls := "StrengthenFirstModel", name := "town", desc := "(I)I" } : Jvm.MethodName)) ∈ lw_all := lw_g (lw_at lw_m8 124 rfl) rfl
theorem q1889 : (Jvm.Cond.instanceMethod ({ cls := "StrengthenFirstModel", name := "town", desc := "(I)I" } : Jvm.MethodName)) ∈ lw_all := lw_g (lw_at lw_m8 125 rfl) rfl
theorem q1890 : (Jvm.Cond.selects "StrengthenFirstModel" ({ cls := "StrengthenFirstModel", name := "town", desc := "(I)I" } : Jvm.MethodName) ({ cls := "StrengthenFirstModel", name := "town", desc := "(I)I" } : Jvm.MethodName)) ∈ lw_all := lw_g (lw_at lw_m8 126 rfl) rfl
theorem q1891 : (Jvm.Cond.code ({ cls := "StrengthenFirstModel", name := "town", desc := "(I)I" } : Jvm.MethodName) prog_26_method_42_code (5 : Nat) (Option.some Jvm.ClassFile.FieldType.int)) ∈ lw_all := lw_g (lw_at lw_m8 127 rfl) rfl
theorem q1892 : (Jvm.Cond.methodLink "StrengthenFirstModel" (227 : Nat) ({ cls := "StrengthenFirstModel", name := "all", desc := "([IZ)V" } : Jvm.MethodName)) ∈ lw_all := lw_g (lw_at lw_m8 128 rfl) rfl
theorem q1893 : (Jvm.Cond.privateMethod ({ cls := "StrengthenFirstModel", name := "all", desc := "([IZ)V" } : Jvm.MethodName)) ∈ lw_tbl := lw_at lw_m8 129 rfl
theorem q1894 : (Jvm.Cond.instanceMethod ({ cls := "StrengthenFirstModel", name := "all", desc := "([IZ)V" } : Jvm.MethodName)) ∈ lw_all := lw_g (lw_at lw_m8 130 rfl) rfl
theorem q1895 : (Jvm.Cond.code ({ cls := "StrengthenFirstModel", name := "all", desc := "([IZ)V" } : Jvm.MethodName) prog_26_method_41_code (4 : Nat) (Option.none : Option Jvm.ClassFile.FieldType)) ∈ lw_all := lw_g (lw_at lw_m8 131 rfl) rfl
theorem q1896 : (Jvm.Cond.methodLink "StrengthenFirstModel" (214 : Nat) ({ cls := "StrengthenFirstModel", name := "keeps", desc := "([II[IIZ)I" } : Jvm.MethodName)) ∈ lw_all := lw_g (lw_at lw_m8 132 rfl) rfl
theorem q1897 : (Jvm.Cond.privateMethod ({ cls := "StrengthenFirstModel", name := "keeps", desc := "([II[IIZ)I" } : Jvm.MethodName)) ∈ lw_tbl := lw_at lw_m8 133 rfl
theorem q1898 : (Jvm.Cond.instanceMethod ({ cls := "StrengthenFirstModel", name := "keeps", desc := "([II[IIZ)I" } : Jvm.MethodName)) ∈ lw_all := lw_g (lw_at lw_m8 134 rfl) rfl
theorem q1899 : (Jvm.Cond.code ({ cls := "StrengthenFirstModel", name := "keeps", desc := "([II[IIZ)I" } : Jvm.MethodName) prog_26_method_40_code (7 : Nat) (Option.some Jvm.ClassFile.FieldType.int)) ∈ lw_all := lw_g (lw_at lw_m8 135 rfl) rfl
theorem q1900 : (Jvm.Cond.methodLink "StrengthenFirstModel" (231 : Nat) ({ cls := "StrengthenFirstModel", name := "item", desc := "()Z" } : Jvm.MethodName)) ∈ lw_all := lw_g (lw_at lw_m8 136 rfl) rfl
theorem q1901 : (Jvm.Cond.privateMethod ({ cls := "StrengthenFirstModel", name := "item", desc := "()Z" } : Jvm.MethodName)) ∈ lw_tbl := lw_at lw_m8 137 rfl
theorem q1902 : (Jvm.Cond.instanceMethod ({ cls := "StrengthenFirstModel", name := "item", desc := "()Z" } : Jvm.MethodName)) ∈ lw_all := lw_g (lw_at lw_m8 138 rfl) rfl
theorem q1903 : (Jvm.Cond.code ({ cls := "StrengthenFirstModel", name := "item", desc := "()Z" } : Jvm.MethodName) prog_26_method_39_code (12 : Nat) (Option.some Jvm.ClassFile.FieldType.boolean)) ∈ lw_all := lw_g (lw_at lw_m8 139 rfl) rfl
theorem q1904 : (Jvm.Cond.methodLink "StrengthenFirstModel" (202 : Nat) ({ cls := "StrengthenFirstModel", name := "isWordAt", desc := "(I)Z" } : Jvm.MethodName)) ∈ lw_all := lw_g (lw_at lw_m8 140 rfl) rfl
theorem q1905 : (Jvm.Cond.privateMethod ({ cls := "StrengthenFirstModel", name := "isWordAt", desc := "(I)Z" } : Jvm.MethodName)) ∈ lw_tbl := lw_at lw_m8 141 rfl
theorem q1906 : (Jvm.Cond.instanceMethod ({ cls := "StrengthenFirstModel", name := "isWordAt", desc := "(I)Z" } : Jvm.MethodName)) ∈ lw_all := lw_g (lw_at lw_m8 142 rfl) rfl
theorem q1907 : (Jvm.Cond.code ({ cls := "StrengthenFirstModel", name := "isWordAt", desc := "(I)Z" } : Jvm.MethodName) prog_26_method_38_code (4 : Nat) (Option.some Jvm.ClassFile.FieldType.boolean)) ∈ lw_all := lw_g (lw_at lw_m8 143 rfl) rfl
theorem q1908 : (Jvm.Cond.methodLink "StrengthenFirstModel" (205 : Nat) ({ cls := "StrengthenFirstModel", name := "isFull", desc := "(I)Z" } : Jvm.MethodName)) ∈ lw_all := lw_g (lw_at lw_m8 144 rfl) rfl
theorem q1909 : (Jvm.Cond.privateMethod ({ cls := "StrengthenFirstModel", name := "isFull", desc := "(I)Z" } : Jvm.MethodName)) ∈ lw_tbl := lw_at lw_m8 145 rfl
theorem q1910 : (Jvm.Cond.instanceMethod ({ cls := "StrengthenFirstModel", name := "isFull", desc := "(I)Z" } : Jvm.MethodName)) ∈ lw_all := lw_g (lw_at lw_m8 146 rfl) rfl
theorem q1911 : (Jvm.Cond.code ({ cls := "StrengthenFirstModel", name := "isFull", desc := "(I)Z" } : Jvm.MethodName) prog_26_method_37_code (2 : Nat) (Option.some Jvm.ClassFile.FieldType.boolean)) ∈ lw_all := lw_g (lw_at lw_m8 147 rfl) rfl
theorem q1912 : (Jvm.Cond.methodLink "StrengthenFirstModel" (195 : Nat) ({ cls := "StrengthenFirstModel", name := "wrong", desc := "(I)Z" } : Jvm.MethodName)) ∈ lw_all := lw_g (lw_at lw_m8 148 rfl) rfl
theorem q1913 : (Jvm.Cond.privateMethod ({ cls := "StrengthenFirstModel", name := "wrong", desc := "(I)Z" } : Jvm.MethodName)) ∈ lw_tbl := lw_at lw_m8 149 rfl
theorem q1914 : (Jvm.Cond.instanceMethod ({ cls := "StrengthenFirstModel", name := "wrong", desc := "(I)Z" } : Jvm.MethodName)) ∈ lw_all := lw_g (lw_at lw_m8 150 rfl) rfl
theorem q1915 : (Jvm.Cond.code ({ cls := "StrengthenFirstModel", name := "wrong", desc := "(I)Z" } : Jvm.MethodName) prog_26_method_32_code (2 : Nat) (Option.some Jvm.ClassFile.FieldType.boolean)) ∈ lw_all := lw_g (lw_at lw_m8 151 rfl) rfl
theorem q1916 : (Jvm.Cond.methodLink "StrengthenFirstModel" (208 : Nat) ({ cls := "StrengthenFirstModel", name := "word", desc := "(II)I" } : Jvm.MethodName)) ∈ lw_all := lw_g (lw_at lw_m8 152 rfl) rfl
theorem q1917 : (Jvm.Cond.privateMethod ({ cls := "StrengthenFirstModel", name := "word", desc := "(II)I" } : Jvm.MethodName)) ∈ lw_tbl := lw_at lw_m8 153 rfl
theorem q1918 : (Jvm.Cond.instanceMethod ({ cls := "StrengthenFirstModel", name := "word", desc := "(II)I" } : Jvm.MethodName)) ∈ lw_all := lw_g (lw_at lw_m8 154 rfl) rfl
theorem q1919 : (Jvm.Cond.code ({ cls := "StrengthenFirstModel", name := "word", desc := "(II)I" } : Jvm.MethodName) prog_26_method_33_code (8 : Nat) (Option.some Jvm.ClassFile.FieldType.int)) ∈ lw_all := lw_g (lw_at lw_m8 155 rfl) rfl
theorem q1920 : (Jvm.Cond.methodLink "StrengthenFirstModel" (198 : Nat) ({ cls := "StrengthenFirstModel", name := "number", desc := "(III)Z" } : Jvm.MethodName)) ∈ lw_all := lw_g (lw_at lw_m8 156 rfl) rfl
theorem q1921 : (Jvm.Cond.privateMethod ({ cls := "StrengthenFirstModel", name := "number", desc := "(III)Z" } : Jvm.MethodName)) ∈ lw_tbl := lw_at lw_m8 157 rfl
theorem q1922 : (Jvm.Cond.instanceMethod ({ cls := "StrengthenFirstModel", name := "number", desc := "(III)Z" } : Jvm.MethodName)) ∈ lw_all := lw_g (lw_at lw_m8 158 rfl) rfl
theorem q1923 : (Jvm.Cond.code ({ cls := "StrengthenFirstModel", name := "number", desc := "(III)Z" } : Jvm.MethodName) prog_26_method_35_code (6 : Nat) (Option.some Jvm.ClassFile.FieldType.boolean)) ∈ lw_all := lw_g (lw_at lw_m8 159 rfl) rfl
theorem q1924 : (Jvm.Cond.methodLink "StrengthenFirstModel" (191 : Nat) ({ cls := "StrengthenFirstModel", name := "isDigit", desc := "()Z" } : Jvm.MethodName)) ∈ lw_all := lw_g (lw_at lw_m8 160 rfl) rfl
theorem q1925 : (Jvm.Cond.privateMethod ({ cls := "StrengthenFirstModel", name := "isDigit", desc := "()Z" } : Jvm.MethodName)) ∈ lw_tbl := lw_at lw_m8 161 rfl
theorem q1926 : (Jvm.Cond.instanceMethod ({ cls := "StrengthenFirstModel", name := "isDigit", desc := "()Z" } : Jvm.MethodName)) ∈ lw_all := lw_g (lw_at lw_m8 162 rfl) rfl
theorem q1927 : (Jvm.Cond.code ({ cls := "StrengthenFirstModel", name := "isDigit", desc := "()Z" } : Jvm.MethodName) prog_26_method_34_code (1 : Nat) (Option.some Jvm.ClassFile.FieldType.boolean)) ∈ lw_all := lw_g (lw_at lw_m8 163 rfl) rfl
theorem q1928 : (Jvm.Cond.methodLink "StrengthenFirstModel" (211 : Nat) ({ cls := "StrengthenFirstModel", name := "more", desc := "(III)Z" } : Jvm.MethodName)) ∈ lw_all := lw_g (lw_at lw_m8 164 rfl) rfl
theorem q1929 : (Jvm.Cond.privateMethod ({ cls := "StrengthenFirstModel", name := "more", desc := "(III)Z" } : Jvm.MethodName)) ∈ lw_tbl := lw_at lw_m8 165 rfl
theorem q1930 : (Jvm.Cond.instanceMethod ({ cls := "StrengthenFirstModel", name := "more", desc := "(III)Z" } : Jvm.MethodName)) ∈ lw_all := lw_g (lw_at lw_m8 166 rfl) rfl
theorem q1931 : (Jvm.Cond.code ({ cls := "StrengthenFirstModel", name := "more", desc := "(III)Z" } : Jvm.MethodName) prog_26_method_36_code (4 : Nat) (Option.some Jvm.ClassFile.FieldType.boolean)) ∈ lw_all := lw_g (lw_at lw_m8 167 rfl) rfl
theorem q1932 : (Jvm.Cond.methodLink "StrengthenFirstLaw" (98 : Nat) ({ cls := "StrengthenFirstModel", name := "fault", desc := "()I" } : Jvm.MethodName)) ∈ lw_all := lw_g (lw_at lw_m8 168 rfl) rfl
theorem q1933 : (Jvm.Cond.instanceMethod ({ cls := "StrengthenFirstModel", name := "fault", desc := "()I" } : Jvm.MethodName)) ∈ lw_all := lw_g (lw_at lw_m8 169 rfl) rfl
theorem q1934 : (Jvm.Cond.selects "StrengthenFirstModel" ({ cls := "StrengthenFirstModel", name := "fault", desc := "()I" } : Jvm.MethodName) ({ cls := "StrengthenFirstModel", name := "fault", desc := "()I" } : Jvm.MethodName)) ∈ lw_all := lw_g (lw_at lw_m8 170 rfl) rfl
theorem q1935 : (Jvm.Cond.code ({ cls := "StrengthenFirstModel", name := "fault", desc := "()I" } : Jvm.MethodName) prog_26_method_43_code (1 : Nat) (Option.some Jvm.ClassFile.FieldType.int)) ∈ lw_all := lw_g (lw_at lw_m8 171 rfl) rfl
theorem q1936 : (Jvm.Cond.methodLink "StrengthenFirstLaw" (102 : Nat) ({ cls := "StrengthenFirstModel", name := "falls", desc := "(II)I" } : Jvm.MethodName)) ∈ lw_all := lw_g (lw_at lw_m8 172 rfl) rfl
theorem q1937 : (Jvm.Cond.instanceMethod ({ cls := "StrengthenFirstModel", name := "falls", desc := "(II)I" } : Jvm.MethodName)) ∈ lw_all := lw_g (lw_at lw_m8 173 rfl) rfl
theorem q1938 : (Jvm.Cond.selects "StrengthenFirstModel" ({ cls := "StrengthenFirstModel", name := "falls", desc := "(II)I" } : Jvm.MethodName) ({ cls := "StrengthenFirstModel", name := "falls", desc := "(II)I" } : Jvm.MethodName)) ∈ lw_all := lw_g (lw_at lw_m8 174 rfl) rfl
theorem q1939 : (Jvm.Cond.code ({ cls := "StrengthenFirstModel", name := "falls", desc := "(II)I" } : Jvm.MethodName) prog_26_method_45_code (3 : Nat) (Option.some Jvm.ClassFile.FieldType.int)) ∈ lw_all := lw_g (lw_at lw_m8 175 rfl) rfl
theorem q1940 : (Jvm.Cond.methodLink "StrengthenFirstModel" (234 : Nat) ({ cls := "StrengthenFirstModel", name := "isShake", desc := "(I)Z" } : Jvm.MethodName)) ∈ lw_all := lw_g (lw_at lw_m8 176 rfl) rfl
theorem q1941 : (Jvm.Cond.privateMethod ({ cls := "StrengthenFirstModel", name := "isShake", desc := "(I)Z" } : Jvm.MethodName)) ∈ lw_tbl := lw_at lw_m8 177 rfl
theorem q1942 : (Jvm.Cond.instanceMethod ({ cls := "StrengthenFirstModel", name := "isShake", desc := "(I)Z" } : Jvm.MethodName)) ∈ lw_all := lw_g (lw_at lw_m8 178 rfl) rfl
theorem q1943 : (Jvm.Cond.code ({ cls := "StrengthenFirstModel", name := "isShake", desc := "(I)Z" } : Jvm.MethodName) prog_26_method_7_code (2 : Nat) (Option.some Jvm.ClassFile.FieldType.boolean)) ∈ lw_all := lw_g (lw_at lw_m8 179 rfl) rfl
theorem q1944 : (Jvm.Cond.methodLink "StrengthenFirstLaw" (106 : Nat) ({ cls := "StrengthenFirstModel", name := "cut", desc := "(I)I" } : Jvm.MethodName)) ∈ lw_all := lw_g (lw_at lw_m8 180 rfl) rfl
theorem q1945 : (Jvm.Cond.instanceMethod ({ cls := "StrengthenFirstModel", name := "cut", desc := "(I)I" } : Jvm.MethodName)) ∈ lw_all := lw_g (lw_at lw_m8 181 rfl) rfl
theorem q1946 : (Jvm.Cond.selects "StrengthenFirstModel" ({ cls := "StrengthenFirstModel", name := "cut", desc := "(I)I" } : Jvm.MethodName) ({ cls := "StrengthenFirstModel", name := "cut", desc := "(I)I" } : Jvm.MethodName)) ∈ lw_all := lw_g (lw_at lw_m8 182 rfl) rfl
theorem q1947 : (Jvm.Cond.code ({ cls := "StrengthenFirstModel", name := "cut", desc := "(I)I" } : Jvm.MethodName) prog_26_method_47_code (2 : Nat) (Option.some Jvm.ClassFile.FieldType.int)) ∈ lw_all := lw_g (lw_at lw_m8 183 rfl) rfl
theorem q1948 : (Jvm.Cond.methodLink "StrengthenFirstLaw" (110 : Nat) ({ cls := "StrengthenFirstModel", name := "lost", desc := "(II)J" } : Jvm.MethodName)) ∈ lw_all := lw_g (lw_at lw_m8 184 rfl) rfl
theorem q1949 : (Jvm.Cond.instanceMethod ({ cls := "StrengthenFirstModel", name := "lost", desc := "(II)J" } : Jvm.MethodName)) ∈ lw_all := lw_g (lw_at lw_m8 185 rfl) rfl
theorem q1950 : (Jvm.Cond.selects "StrengthenFirstModel" ({ cls := "StrengthenFirstModel", name := "lost", desc := "(II)J" } : Jvm.MethodName) ({ cls := "StrengthenFirstModel", name := "lost", desc := "(II)J" } : Jvm.MethodName)) ∈ lw_all := lw_g (lw_at lw_m8 186 rfl) rfl
theorem q1951 : (Jvm.Cond.code ({ cls := "StrengthenFirstModel", name := "lost", desc := "(II)J" } : Jvm.MethodName) prog_26_method_52_code (3 : Nat) (Option.some Jvm.ClassFile.FieldType.long)) ∈ lw_all := lw_g (lw_at lw_m8 187 rfl) rfl
theorem q1952 : (Jvm.Cond.methodLink "StrengthenFirstLaw" (114 : Nat) ({ cls := "StrengthenFirstModel", name := "dead", desc := "(II)J" } : Jvm.MethodName)) ∈ lw_all := lw_g (lw_at lw_m8 188 rfl) rfl
theorem q1953 : (Jvm.Cond.instanceMethod ({ cls := "StrengthenFirstModel", name := "dead", desc := "(II)J" } : Jvm.MethodName)) ∈ lw_all := lw_g (lw_at lw_m8 189 rfl) rfl
theorem q1954 : (Jvm.Cond.selects "StrengthenFirstModel" ({ cls := "StrengthenFirstModel", name := "dead", desc := "(II)J" } : Jvm.MethodName) ({ cls := "StrengthenFirstModel", name := "dead", desc := "(II)J" } : Jvm.MethodName)) ∈ lw_all := lw_g (lw_at lw_m8 190 rfl) rfl
theorem q1955 : (Jvm.Cond.code ({ cls := "StrengthenFirstModel", name := "dead", desc := "(II)J" } : Jvm.MethodName) prog_26_method_53_code (3 : Nat) (Option.some Jvm.ClassFile.FieldType.long)) ∈ lw_all := lw_g (lw_at lw_m8 191 rfl) rfl
theorem q1956 : (Jvm.Cond.methodLink "StrengthenFirstLaw" (118 : Nat) ({ cls := "StrengthenFirstModel", name := "shuts", desc := "(II)J" } : Jvm.MethodName)) ∈ lw_all := lw_g (lw_at lw_m8 192 rfl) rfl
theorem q1957 : (Jvm.Cond.instanceMethod ({ cls := "StrengthenFirstModel", name := "shuts", desc := "(II)J" } : Jvm.MethodName)) ∈ lw_all := lw_g (lw_at lw_m8 193 rfl) rfl
theorem q1958 : (Jvm.Cond.selects "StrengthenFirstModel" ({ cls := "StrengthenFirstModel", name := "shuts", desc := "(II)J" } : Jvm.MethodName) ({ cls := "StrengthenFirstModel", name := "shuts", desc := "(II)J" } : Jvm.MethodName)) ∈ lw_all := lw_g (lw_at lw_m8 194 rfl) rfl
theorem q1959 : (Jvm.Cond.code ({ cls := "StrengthenFirstModel", name := "shuts", desc := "(II)J" } : Jvm.MethodName) prog_26_method_54_code (6 : Nat) (Option.some Jvm.ClassFile.FieldType.long)) ∈ lw_all := lw_g (lw_at lw_m8 195 rfl) rfl
theorem q1960 : (Jvm.Cond.methodLink "StrengthenFirstLaw" (123 : Nat) ({ cls := "StrengthenFirstModel", name := "mean", desc := "()J" } : Jvm.MethodName)) ∈ lw_all := lw_g (lw_at lw_m8 196 rfl) rfl
theorem q1961 : (Jvm.Cond.instanceMethod ({ cls := "StrengthenFirstModel", name := "mean", desc := "()J" } : Jvm.MethodName)) ∈ lw_all := lw_g (lw_at lw_m8 197 rfl) rfl
theorem q1962 : (Jvm.Cond.selects "StrengthenFirstModel" ({ cls := "StrengthenFirstModel", name := "mean", desc := "()J" } : Jvm.MethodName) ({ cls := "StrengthenFirstModel", name := "mean", desc := "()J" } : Jvm.MethodName)) ∈ lw_all := lw_g (lw_at lw_m8 198 rfl) rfl
theorem q1963 : (Jvm.Cond.code ({ cls := "StrengthenFirstModel", name := "mean", desc := "()J" } : Jvm.MethodName) prog_26_method_57_code (1 : Nat) (Option.some Jvm.ClassFile.FieldType.long)) ∈ lw_all := lw_g (lw_at lw_m8 199 rfl) rfl
theorem q1964 : (Jvm.Cond.methodLink "StrengthenFirstModel" (263 : Nat) ({ cls := "StrengthenFirstModel", name := "meanOf", desc := "()J" } : Jvm.MethodName)) ∈ lw_all := lw_g (lw_at lw_m8 200 rfl) rfl
theorem q1965 : (Jvm.Cond.privateMethod ({ cls := "StrengthenFirstModel", name := "meanOf", desc := "()J" } : Jvm.MethodName)) ∈ lw_tbl := lw_at lw_m8 201 rfl
theorem q1966 : (Jvm.Cond.instanceMethod ({ cls := "StrengthenFirstModel", name := "meanOf", desc := "()J" } : Jvm.MethodName)) ∈ lw_all := lw_g (lw_at lw_m8 202 rfl) rfl
theorem q1967 : (Jvm.Cond.code ({ cls := "StrengthenFirstModel", name := "meanOf", desc := "()J" } : Jvm.MethodName) prog_26_method_56_code (1 : Nat) (Option.some Jvm.ClassFile.FieldType.long)) ∈ lw_all := lw_g (lw_at lw_m8 203 rfl) rfl
theorem q1968 : (Jvm.Cond.methodLink "StrengthenFirstLaw" (128 : Nat) ({ cls := "StrengthenFirstModel", name := "worth", desc := "(I)J" } : Jvm.MethodName)) ∈ lw_all := lw_g (lw_at lw_m8 204 rfl) rfl
theorem q1969 : (Jvm.Cond.instanceMethod ({ cls := "StrengthenFirstModel", name := "worth", desc := "(I)J" } : Jvm.MethodName)) ∈ lw_all := lw_g (lw_at lw_m8 205 rfl) rfl
theorem q1970 : (Jvm.Cond.selects "StrengthenFirstModel" ({ cls := "StrengthenFirstModel", name := "worth", desc := "(I)J" } : Jvm.MethodName) ({ cls := "StrengthenFirstModel", name := "worth", desc := "(I)J" } : Jvm.MethodName)) ∈ lw_all := lw_g (lw_at lw_m8 206 rfl) rfl
theorem q1971 : (Jvm.Cond.code ({ cls := "StrengthenFirstModel", name := "worth", desc := "(I)J" } : Jvm.MethodName) prog_26_method_59_code (2 : Nat) (Option.some Jvm.ClassFile.FieldType.long)) ∈ lw_all := lw_g (lw_at lw_m8 207 rfl) rfl
theorem q1972 : (Jvm.Cond.methodLink "StrengthenFirstModel" (266 : Nat) ({ cls := "StrengthenFirstModel", name := "noLow", desc := "(I)I" } : Jvm.MethodName)) ∈ lw_all := lw_g (lw_at lw_m8 208 rfl) rfl
theorem q1973 : (Jvm.Cond.privateMethod ({ cls := "StrengthenFirstModel", name := "noLow", desc := "(I)I" } : Jvm.MethodName)) ∈ lw_tbl := lw_at lw_m8 209 rfl
theorem q1974 : (Jvm.Cond.instanceMethod ({ cls := "StrengthenFirstModel", name := "noLow", desc := "(I)I" } : Jvm.MethodName)) ∈ lw_all := lw_g (lw_at lw_m8 210 rfl) rfl
theorem q1975 : (Jvm.Cond.code ({ cls := "StrengthenFirstModel", name := "noLow", desc := "(I)I" } : Jvm.MethodName) prog_26_method_4_code (2 : Nat) (Option.some Jvm.ClassFile.FieldType.int)) ∈ lw_all := lw_g (lw_at lw_m8 211 rfl) rfl
theorem q1976 : (Jvm.Cond.constant "StrengthenFirstModel" (123 : Nat) (-1000000 : Int32)) ∈ lw_all := lw_g (lw_at lw_m8 212 rfl) rfl
theorem q1977 : (Jvm.Cond.methodLink "StrengthenFirstModel" (269 : Nat) ({ cls := "StrengthenFirstModel", name := "worthOf", desc := "(I)J" } : Jvm.MethodName)) ∈ lw_all := lw_g (lw_at lw_m8 213 rfl) rfl
theorem q1978 : (Jvm.Cond.privateMethod ({ cls := "StrengthenFirstModel", name := "worthOf", desc := "(I)J" } : Jvm.MethodName)) ∈ lw_tbl := lw_at lw_m8 214 rfl
theorem q1979 : (Jvm.Cond.instanceMethod ({ cls := "StrengthenFirstModel", name := "worthOf", desc := "(I)J" } : Jvm.MethodName)) ∈ lw_all := lw_g (lw_at lw_m8 215 rfl) rfl
theorem q1980 : (Jvm.Cond.code ({ cls := "StrengthenFirstModel", name := "worthOf", desc := "(I)J" } : Jvm.MethodName) prog_26_method_58_code (4 : Nat) (Option.some Jvm.ClassFile.FieldType.long)) ∈ lw_all := lw_g (lw_at lw_m8 216 rfl) rfl
theorem q1981 : (Jvm.Cond.methodLink "StrengthenFirstLaw" (132 : Nat) ({ cls := "StrengthenFirstModel", name := "which", desc := "()I" } : Jvm.MethodName)) ∈ lw_all := lw_g (lw_at lw_m8 217 rfl) rfl
theorem q1982 : (Jvm.Cond.instanceMethod ({ cls := "StrengthenFirstModel", name := "which", desc := "()I" } : Jvm.MethodName)) ∈ lw_all := lw_g (lw_at lw_m8 218 rfl) rfl
theorem q1983 : (Jvm.Cond.selects "StrengthenFirstModel" ({ cls := "StrengthenFirstModel", name := "which", desc := "()I" } : Jvm.MethodName) ({ cls := "StrengthenFirstModel", name := "which", desc := "()I" } : Jvm.MethodName)) ∈ lw_all := lw_g (lw_at lw_m8 219 rfl) rfl
theorem q1984 : (Jvm.Cond.code ({ cls := "StrengthenFirstModel", name := "which", desc := "()I" } : Jvm.MethodName) prog_26_method_60_code (7 : Nat) (Option.some Jvm.ClassFile.FieldType.int)) ∈ lw_all := lw_g (lw_at lw_m8 220 rfl) rfl
theorem q1985 : (Jvm.Cond.methodLink "StrengthenFirstLaw" (136 : Nat) ({ cls := "StrengthenFirstModel", name := "order", desc := "(II)I" } : Jvm.MethodName)) ∈ lw_all := lw_g (lw_at lw_m8 221 rfl) rfl
theorem q1986 : (Jvm.Cond.instanceMethod ({ cls := "StrengthenFirstModel", name := "order", desc := "(II)I" } : Jvm.MethodName)) ∈ lw_all := lw_g (lw_at lw_m8 222 rfl) rfl
theorem q1987 : (Jvm.Cond.selects "StrengthenFirstModel" ({ cls := "StrengthenFirstModel", name := "order", desc := "(II)I" } : Jvm.MethodName) ({ cls := "StrengthenFirstModel", name := "order", desc := "(II)I" } : Jvm.MethodName)) ∈ lw_all := lw_g (lw_at lw_m8 223 rfl) rfl
theorem q1988 : (Jvm.Cond.code ({ cls := "StrengthenFirstModel", name := "order", desc := "(II)I" } : Jvm.MethodName) prog_26_method_66_code (4 : Nat) (Option.some Jvm.ClassFile.FieldType.int)) ∈ lw_all := lw_g (lw_at lw_m8 224 rfl) rfl
theorem q1989 : (Jvm.Cond.methodLink "StrengthenFirstLaw" (140 : Nat) ({ cls := "StrengthenFirstModel", name := "plan", desc := "(II)J" } : Jvm.MethodName)) ∈ lw_all := lw_g (lw_at lw_m8 225 rfl) rfl
theorem q1990 : (Jvm.Cond.instanceMethod ({ cls := "StrengthenFirstModel", name := "plan", desc := "(II)J" } : Jvm.MethodName)) ∈ lw_all := lw_g (lw_at lw_m8 226 rfl) rfl
theorem q1991 : (Jvm.Cond.selects "StrengthenFirstModel" ({ cls := "StrengthenFirstModel", name := "plan", desc := "(II)J" } : Jvm.MethodName) ({ cls := "StrengthenFirstModel", name := "plan", desc := "(II)J" } : Jvm.MethodName)) ∈ lw_all := lw_g (lw_at lw_m8 227 rfl) rfl
theorem q1992 : (Jvm.Cond.code ({ cls := "StrengthenFirstModel", name := "plan", desc := "(II)J" } : Jvm.MethodName) prog_26_method_71_code (4 : Nat) (Option.some Jvm.ClassFile.FieldType.long)) ∈ lw_all := lw_g (lw_at lw_m8 228 rfl) rfl
theorem q1993 : (Jvm.Cond.methodLink "StrengthenFirstModel" (296 : Nat) ({ cls := "StrengthenFirstModel", name := "isYears", desc := "(I)Z" } : Jvm.MethodName)) ∈ lw_all := lw_g (lw_at lw_m8 229 rfl) rfl
theorem q1994 : (Jvm.Cond.privateMethod ({ cls := "StrengthenFirstModel", name := "isYears", desc := "(I)Z" } : Jvm.MethodName)) ∈ lw_tbl := lw_at lw_m8 230 rfl
theorem q1995 : (Jvm.Cond.instanceMethod ({ cls := "StrengthenFirstModel", name := "isYears", desc := "(I)Z" } : Jvm.MethodName)) ∈ lw_all := lw_g (lw_at lw_m8 231 rfl) rfl
theorem q1996 : (Jvm.Cond.code ({ cls := "StrengthenFirstModel", name := "isYears", desc := "(I)Z" } : Jvm.MethodName) prog_26_method_69_code (2 : Nat) (Option.some Jvm.ClassFile.FieldType.boolean)) ∈ lw_all := lw_g (lw_at lw_m8 232 rfl) rfl
theorem q1997 : (Jvm.Cond.methodLink "StrengthenFirstModel" (299 : Nat) ({ cls := "StrengthenFirstModel", name := "rowBy", desc := "(I)V" } : Jvm.MethodName)) ∈ lw_all := lw_g (lw_at lw_m8 233 rfl) rfl
theorem q1998 : (Jvm.Cond.privateMethod ({ cls := "StrengthenFirstModel", name := "rowBy", desc := "(I)V" } : Jvm.MethodName)) ∈ lw_tbl := lw_at lw_m8 234 rfl
theorem q1999 : (Jvm.Cond.instanceMethod ({ cls := "StrengthenFirstModel", name := "rowBy", desc := "(I)V" } : Jvm.MethodName)) ∈ lw_all := lw_g (lw_at lw_m8 235 rfl) rfl
theorem q2000 : (Jvm.Cond.code ({ cls := "StrengthenFirstModel", name := "rowBy", desc := "(I)V" } : Jvm.MethodName) prog_26_method_70_code (3 : Nat) (Option.none : Option Jvm.ClassFile.FieldType)) ∈ lw_all := lw_g (lw_at lw_m8 236 rfl) rfl
theorem q2001 : (Jvm.Cond.methodLink "StrengthenFirstModel" (302 : Nat) ({ cls := "StrengthenFirstModel", name := "planned", desc := "(I)J" } : Jvm.MethodName)) ∈ lw_all := lw_g (lw_at lw_m8 237 rfl) rfl
theorem q2002 : (Jvm.Cond.privateMethod ({ cls := "StrengthenFirstModel", name := "planned", desc := "(I)J" } : Jvm.MethodName)) ∈ lw_tbl := lw_at lw_m8 238 rfl
theorem q2003 : (Jvm.Cond.instanceMethod ({ cls := "StrengthenFirstModel", name := "planned", desc := "(I)J" } : Jvm.MethodName)) ∈ lw_all := lw_g (lw_at lw_m8 239 rfl) rfl
theorem q2004 : (Jvm.Cond.code ({ cls := "StrengthenFirstModel", name := "planned", desc := "(I)J" } : Jvm.MethodName) prog_26_method_68_code (5 : Nat) (Option.some Jvm.ClassFile.FieldType.long)) ∈ lw_all := lw_g (lw_at lw_m9 0 rfl) rfl
theorem q2005 : (Jvm.Cond.methodLink "StrengthenFirstModel" (293 : Nat) ({ cls := "StrengthenFirstModel", name := "builds", desc := "()V" } : Jvm.MethodName)) ∈ lw_all := lw_g (lw_at lw_m9 1 rfl) rfl
theorem q2006 : (Jvm.Cond.privateMethod ({ cls := "StrengthenFirstModel", name := "builds", desc := "()V" } : Jvm.MethodName)) ∈ lw_tbl := lw_at lw_m9 2 rfl
theorem q2007 : (Jvm.Cond.instanceMethod ({ cls := "StrengthenFirstModel", name := "builds", desc := "()V" } : Jvm.MethodName)) ∈ lw_all := lw_g (lw_at lw_m9 3 rfl) rfl
theorem q2008 : (Jvm.Cond.code ({ cls := "StrengthenFirstModel", name := "builds", desc := "()V" } : Jvm.MethodName) prog_26_method_67_code (2 : Nat) (Option.none : Option Jvm.ClassFile.FieldType)) ∈ lw_all := lw_g (lw_at lw_m9 4 rfl) rfl
theorem q2009 : (Jvm.Cond.methodLink "StrengthenFirstLaw" (144 : Nat) ({ cls := "StrengthenFirstModel", name := "steps", desc := "(II)I" } : Jvm.MethodName)) ∈ lw_all := lw_g (lw_at lw_m9 5 rfl) rfl
theorem q2010 : (Jvm.Cond.instanceMethod ({ cls := "StrengthenFirstModel", name := "steps", desc := "(II)I" } : Jvm.MethodName)) ∈ lw_all := lw_g (lw_at lw_m9 6 rfl) rfl
theorem q2011 : (Jvm.Cond.selects "StrengthenFirstModel" ({ cls := "StrengthenFirstModel", name := "steps", desc := "(II)I" } : Jvm.MethodName) ({ cls := "StrengthenFirstModel", name := "steps", desc := "(II)I" } : Jvm.MethodName)) ∈ lw_all := lw_g (lw_at lw_m9 7 rfl) rfl
theorem q2012 : (Jvm.Cond.code ({ cls := "StrengthenFirstModel", name := "steps", desc := "(II)I" } : Jvm.MethodName) prog_26_method_72_code (4 : Nat) (Option.some Jvm.ClassFile.FieldType.int)) ∈ lw_all := lw_g (lw_at lw_m9 8 rfl) rfl
theorem q2013 : (Jvm.Cond.methodLink "StrengthenFirstLaw" (148 : Nat) ({ cls := "StrengthenFirstModel", name := "judge", desc := "(II)J" } : Jvm.MethodName)) ∈ lw_all := lw_g (lw_at lw_m9 9 rfl) rfl
theorem q2014 : (Jvm.Cond.instanceMethod ({ cls := "StrengthenFirstModel", name := "judge", desc := "(II)J" } : Jvm.MethodName)) ∈ lw_all := lw_g (lw_at lw_m9 10 rfl) rfl
theorem q2015 : (Jvm.Cond.selects "StrengthenFirstModel" ({ cls := "StrengthenFirstModel", name := "judge", desc := "(II)J" } : Jvm.MethodName) ({ cls := "StrengthenFirstModel", name := "judge", desc := "(II)J" } : Jvm.MethodName)) ∈ lw_all := lw_g (lw_at lw_m9 11 rfl) rfl
theorem q2016 : (Jvm.Cond.code ({ cls := "StrengthenFirstModel", name := "judge", desc := "(II)J" } : Jvm.MethodName) prog_26_method_73_code (7 : Nat) (Option.some Jvm.ClassFile.FieldType.long)) ∈ lw_all := lw_g (lw_at lw_m9 12 rfl) rfl
theorem q2017 : (Jvm.Cond.methodLink "StrengthenFirstLaw" (152 : Nat) ({ cls := "StrengthenFirstModel", name := "best", desc := "(I)J" } : Jvm.MethodName)) ∈ lw_all := lw_g (lw_at lw_m9 13 rfl) rfl
theorem q2018 : (Jvm.Cond.instanceMethod ({ cls := "StrengthenFirstModel", name := "best", desc := "(I)J" } : Jvm.MethodName)) ∈ lw_all := lw_g (lw_at lw_m9 14 rfl) rfl
theorem q2019 : (Jvm.Cond.selects "StrengthenFirstModel" ({ cls := "StrengthenFirstModel", name := "best", desc := "(I)J" } : Jvm.MethodName) ({ cls := "StrengthenFirstModel", name := "best", desc := "(I)J" } : Jvm.MethodName)) ∈ lw_all := lw_g (lw_at lw_m9 15 rfl) rfl
theorem q2020 : (Jvm.Cond.code ({ cls := "StrengthenFirstModel", name := "best", desc := "(I)J" } : Jvm.MethodName) prog_26_method_77_code (2 : Nat) (Option.some Jvm.ClassFile.FieldType.long)) ∈ lw_all := lw_g (lw_at lw_m9 16 rfl) rfl
theorem q2021 : (Jvm.Cond.methodLink "StrengthenFirstModel" (317 : Nat) ({ cls := "StrengthenFirstModel", name := "fresh", desc := "()I" } : Jvm.MethodName)) ∈ lw_all := lw_g (lw_at lw_m9 17 rfl) rfl
theorem q2022 : (Jvm.Cond.privateMethod ({ cls := "StrengthenFirstModel", name := "fresh", desc := "()I" } : Jvm.MethodName)) ∈ lw_tbl := lw_at lw_m9 18 rfl
theorem q2023 : (Jvm.Cond.instanceMethod ({ cls := "StrengthenFirstModel", name := "fresh", desc := "()I" } : Jvm.MethodName)) ∈ lw_all := lw_g (lw_at lw_m9 19 rfl) rfl
theorem q2024 : (Jvm.Cond.code ({ cls := "StrengthenFirstModel", name := "fresh", desc := "()I" } : Jvm.MethodName) prog_26_method_75_code (3 : Nat) (Option.some Jvm.ClassFile.FieldType.int)) ∈ lw_all := lw_g (lw_at lw_m9 20 rfl) rfl
theorem q2025 : (Jvm.Cond.methodLink "StrengthenFirstModel" (321 : Nat) ({ cls := "StrengthenFirstModel", name := "bests", desc := "(I)V" } : Jvm.MethodName)) ∈ lw_all := lw_g (lw_at lw_m9 21 rfl) rfl
theorem q2026 : (Jvm.Cond.privateMethod ({ cls := "StrengthenFirstModel", name := "bests", desc := "(I)V" } : Jvm.MethodName)) ∈ lw_tbl := lw_at lw_m9 22 rfl
theorem q2027 : (Jvm.Cond.instanceMethod ({ cls := "StrengthenFirstModel", name := "bests", desc := "(I)V" } : Jvm.MethodName)) ∈ lw_all := lw_g (lw_at lw_m9 23 rfl) rfl
theorem q2028 : (Jvm.Cond.code ({ cls := "StrengthenFirstModel", name := "bests", desc := "(I)V" } : Jvm.MethodName) prog_26_method_76_code (2 : Nat) (Option.none : Option Jvm.ClassFile.FieldType)) ∈ lw_all := lw_g (lw_at lw_m9 24 rfl) rfl
theorem q2029 : (Jvm.Cond.methodLink "StrengthenFirstModel" (313 : Nat) ({ cls := "StrengthenFirstModel", name := "tries", desc := "(IIII)V" } : Jvm.MethodName)) ∈ lw_all := lw_g (lw_at lw_m9 25 rfl) rfl
theorem q2030 : (Jvm.Cond.privateMethod ({ cls := "StrengthenFirstModel", name := "tries", desc := "(IIII)V" } : Jvm.MethodName)) ∈ lw_tbl := lw_at lw_m9 26 rfl
theorem q2031 : (Jvm.Cond.instanceMethod ({ cls := "StrengthenFirstModel", name := "tries", desc := "(IIII)V" } : Jvm.MethodName)) ∈ lw_all := lw_g (lw_at lw_m9 27 rfl) rfl
theorem q2032 : (Jvm.Cond.code ({ cls := "StrengthenFirstModel", name := "tries", desc := "(IIII)V" } : Jvm.MethodName) prog_26_method_74_code (8 : Nat) (Option.none : Option Jvm.ClassFile.FieldType)) ∈ lw_all := lw_g (lw_at lw_m9 28 rfl) rfl
theorem q2033 : (Jvm.Cond.methodLink "StrengthenFirstLaw" (156 : Nat) ({ cls := "StrengthenFirstModel", name := "first", desc := "(II)I" } : Jvm.MethodName)) ∈ lw_all := lw_g (lw_at lw_m9 29 rfl) rfl
theorem q2034 : (Jvm.Cond.instanceMethod ({ cls := "StrengthenFirstModel", name := "first", desc := "(II)I" } : Jvm.MethodName)) ∈ lw_all := lw_g (lw_at lw_m9 30 rfl) rfl
theorem q2035 : (Jvm.Cond.selects "StrengthenFirstModel" ({ cls := "StrengthenFirstModel", name := "first", desc := "(II)I" } : Jvm.MethodName) ({ cls := "StrengthenFirstModel", name := "first", desc := "(II)I" } : Jvm.MethodName)) ∈ lw_all := lw_g (lw_at lw_m9 31 rfl) rfl
theorem q2036 : (Jvm.Cond.code ({ cls := "StrengthenFirstModel", name := "first", desc := "(II)I" } : Jvm.MethodName) prog_26_method_78_code (3 : Nat) (Option.some Jvm.ClassFile.FieldType.int)) ∈ lw_all := lw_g (lw_at lw_m9 32 rfl) rfl
theorem q2037 : (Jvm.Cond.methodLink "StrengthenFirstLaw" (160 : Nat) ({ cls := "StrengthenFirstModel", name := "gap", desc := "(II)J" } : Jvm.MethodName)) ∈ lw_all := lw_g (lw_at lw_m9 33 rfl) rfl
theorem q2038 : (Jvm.Cond.instanceMethod ({ cls := "StrengthenFirstModel", name := "gap", desc := "(II)J" } : Jvm.MethodName)) ∈ lw_all := lw_g (lw_at lw_m9 34 rfl) rfl
theorem q2039 : (Jvm.Cond.selects "StrengthenFirstModel" ({ cls := "StrengthenFirstModel", name := "gap", desc := "(II)J" } : Jvm.MethodName) ({ cls := "StrengthenFirstModel", name := "gap", desc := "(II)J" } : Jvm.MethodName)) ∈ lw_all := lw_g (lw_at lw_m9 35 rfl) rfl
theorem q2040 : (Jvm.Cond.code ({ cls := "StrengthenFirstModel", name := "gap", desc := "(II)J" } : Jvm.MethodName) prog_26_method_79_code (6 : Nat) (Option.some Jvm.ClassFile.FieldType.long)) ∈ lw_all := lw_g (lw_at lw_m9 36 rfl) rfl
theorem q2041 : (Jvm.Cond.methodLink "StrengthenFirstLaw" (164 : Nat) ({ cls := "StrengthenFirstModel", name := "bound", desc := "(I)J" } : Jvm.MethodName)) ∈ lw_all := lw_g (lw_at lw_m9 37 rfl) rfl
theorem q2042 : (Jvm.Cond.instanceMethod ({ cls := "StrengthenFirstModel", name := "bound", desc := "(I)J" } : Jvm.MethodName)) ∈ lw_all := lw_g (lw_at lw_m9 38 rfl) rfl
theorem q2043 : (Jvm.Cond.selects "StrengthenFirstModel" ({ cls := "StrengthenFirstModel", name := "bound", desc := "(I)J" } : Jvm.MethodName) ({ cls := "StrengthenFirstModel", name := "bound", desc := "(I)J" } : Jvm.MethodName)) ∈ lw_all := lw_g (lw_at lw_m9 39 rfl) rfl
theorem q2044 : (Jvm.Cond.code ({ cls := "StrengthenFirstModel", name := "bound", desc := "(I)J" } : Jvm.MethodName) prog_26_method_80_code (6 : Nat) (Option.some Jvm.ClassFile.FieldType.long)) ∈ lw_all := lw_g (lw_at lw_m9 40 rfl) rfl
theorem q2045 : (Jvm.Cond.methodLink "StrengthenFirstLaw" (168 : Nat) ({ cls := "StrengthenFirstModel", name := "head", desc := "(I)I" } : Jvm.MethodName)) ∈ lw_all := lw_g (lw_at lw_m9 41 rfl) rfl
theorem q2046 : (Jvm.Cond.instanceMethod ({ cls := "StrengthenFirstModel", name := "head", desc := "(I)I" } : Jvm.MethodName)) ∈ lw_all := lw_g (lw_at lw_m9 42 rfl) rfl
theorem q2047 : (Jvm.Cond.selects "StrengthenFirstModel" ({ cls := "StrengthenFirstModel", name := "head", desc := "(I)I" } : Jvm.MethodName) ({ cls := "StrengthenFirstModel", name := "head", desc := "(I)I" } : Jvm.MethodName)) ∈ lw_all := lw_g (lw_at lw_m9 43 rfl) rfl
theorem q2048 : (Jvm.Cond.code ({ cls := "StrengthenFirstModel", name := "head", desc := "(I)I" } : Jvm.MethodName) prog_26_method_81_code (9 : Nat) (Option.some Jvm.ClassFile.FieldType.int)) ∈ lw_all := lw_g (lw_at lw_m9 44 rfl) rfl
theorem q2049 : (Jvm.Cond.methodLink "StrengthenFirstLaw" (172 : Nat) ({ cls := "StrengthenFirstModel", name := "narrow", desc := "(I)I" } : Jvm.MethodName)) ∈ lw_all := lw_g (lw_at lw_m9 45 rfl) rfl
theorem q2050 : (Jvm.Cond.instanceMethod ({ cls := "StrengthenFirstModel", name := "narrow", desc := "(I)I" } : Jvm.MethodName)) ∈ lw_all := lw_g (lw_at lw_m9 46 rfl) rfl
theorem q2051 : (Jvm.Cond.selects "StrengthenFirstModel" ({ cls := "StrengthenFirstModel", name := "narrow", desc := "(I)I" } : Jvm.MethodName) ({ cls := "StrengthenFirstModel", name := "narrow", desc := "(I)I" } : Jvm.MethodName)) ∈ lw_all := lw_g (lw_at lw_m9 47 rfl) rfl
theorem q2052 : (Jvm.Cond.code ({ cls := "StrengthenFirstModel", name := "narrow", desc := "(I)I" } : Jvm.MethodName) prog_26_method_82_code (11 : Nat) (Option.some Jvm.ClassFile.FieldType.int)) ∈ lw_all := lw_g (lw_at lw_m9 48 rfl) rfl
theorem q2053 : (Jvm.Cond.methodLink "StrengthenFirstLaw" (176 : Nat) ({ cls := "StrengthenFirstModel", name := "years", desc := "(II)I" } : Jvm.MethodName)) ∈ lw_all := lw_g (lw_at lw_m9 49 rfl) rfl
theorem q2054 : (Jvm.Cond.instanceMethod ({ cls := "StrengthenFirstModel", name := "years", desc := "(II)I" } : Jvm.MethodName)) ∈ lw_all := lw_g (lw_at lw_m9 50 rfl) rfl
theorem q2055 : (Jvm.Cond.selects "StrengthenFirstModel" ({ cls := "StrengthenFirstModel", name := "years", desc := "(II)I" } : Jvm.MethodName) ({ cls := "StrengthenFirstModel", name := "years", desc := "(II)I" } : Jvm.MethodName)) ∈ lw_all := lw_g (lw_at lw_m9 51 rfl) rfl
theorem q2056 : (Jvm.Cond.code ({ cls := "StrengthenFirstModel", name := "years", desc := "(II)I" } : Jvm.MethodName) prog_26_method_85_code (6 : Nat) (Option.some Jvm.ClassFile.FieldType.int)) ∈ lw_all := lw_g (lw_at lw_m9 52 rfl) rfl
theorem q2057 : (Jvm.Cond.methodLink "StrengthenFirstModel" (328 : Nat) ({ cls := "StrengthenFirstModel", name := "lives", desc := "(I)I" } : Jvm.MethodName)) ∈ lw_all := lw_g (lw_at lw_m9 53 rfl) rfl
theorem q2058 : (Jvm.Cond.privateMethod ({ cls := "StrengthenFirstModel", name := "lives", desc := "(I)I" } : Jvm.MethodName)) ∈ lw_tbl := lw_at lw_m9 54 rfl
theorem q2059 : (Jvm.Cond.instanceMethod ({ cls := "StrengthenFirstModel", name := "lives", desc := "(I)I" } : Jvm.MethodName)) ∈ lw_all := lw_g (lw_at lw_m9 55 rfl) rfl
theorem q2060 : (Jvm.Cond.code ({ cls := "StrengthenFirstModel", name := "lives", desc := "(I)I" } : Jvm.MethodName) prog_26_method_84_code (9 : Nat) (Option.some Jvm.ClassFile.FieldType.int)) ∈ lw_all := lw_g (lw_at lw_m9 56 rfl) rfl
theorem q2061 : (Jvm.Cond.methodLink "StrengthenFirstModel" (325 : Nat) ({ cls := "StrengthenFirstModel", name := "draw", desc := "(I)I" } : Jvm.MethodName)) ∈ lw_all := lw_g (lw_at lw_m9 57 rfl) rfl
theorem q2062 : (Jvm.Cond.privateMethod ({ cls := "StrengthenFirstModel", name := "draw", desc := "(I)I" } : Jvm.MethodName)) ∈ lw_tbl := lw_at lw_m9 58 rfl
theorem q2063 : (Jvm.Cond.instanceMethod ({ cls := "StrengthenFirstModel", name := "draw", desc := "(I)I" } : Jvm.MethodName)) ∈ lw_all := lw_g (lw_at lw_m9 59 rfl) rfl
theorem q2064 : (Jvm.Cond.code ({ cls := "StrengthenFirstModel", name := "draw", desc := "(I)I" } : Jvm.MethodName) prog_26_method_83_code (2 : Nat) (Option.some Jvm.ClassFile.FieldType.int)) ∈ lw_all := lw_g (lw_at lw_m9 60 rfl) rfl
theorem q2065 : (Jvm.Cond.constant "StrengthenFirstModel" (324 : Nat) (1103515245 : Int32)) ∈ lw_all := lw_g (lw_at lw_m9 61 rfl) rfl
theorem q2066 : (Jvm.Cond.methodLink "StrengthenFirstLaw" (180 : Nat) ({ cls := "StrengthenFirstModel", name := "seed", desc := "(I)I" } : Jvm.MethodName)) ∈ lw_all := lw_g (lw_at lw_m9 62 rfl) rfl
theorem q2067 : (Jvm.Cond.instanceMethod ({ cls := "StrengthenFirstModel", name := "seed", desc := "(I)I" } : Jvm.MethodName)) ∈ lw_all := lw_g (lw_at lw_m9 63 rfl) rfl
theorem q2068 : (Jvm.Cond.selects "StrengthenFirstModel" ({ cls := "StrengthenFirstModel", name := "seed", desc := "(I)I" } : Jvm.MethodName) ({ cls := "StrengthenFirstModel", name := "seed", desc := "(I)I" } : Jvm.MethodName)) ∈ lw_all := lw_g (lw_at lw_m9 64 rfl) rfl
theorem q2069 : (Jvm.Cond.code ({ cls := "StrengthenFirstModel", name := "seed", desc := "(I)I" } : Jvm.MethodName) prog_26_method_86_code (3 : Nat) (Option.some Jvm.ClassFile.FieldType.int)) ∈ lw_all := lw_g (lw_at lw_m9 65 rfl) rfl
theorem q2070 : (Jvm.Cond.methodLink "StrengthenFirstLaw" (184 : Nat) ({ cls := "StrengthenFirstModel", name := "act", desc := "(III)I" } : Jvm.MethodName)) ∈ lw_all := lw_g (lw_at lw_m9 66 rfl) rfl
theorem q2071 : (Jvm.Cond.instanceMethod ({ cls := "StrengthenFirstModel", name := "act", desc := "(III)I" } : Jvm.MethodName)) ∈ lw_all := lw_g (lw_at lw_m9 67 rfl) rfl
theorem q2072 : (Jvm.Cond.selects "StrengthenFirstModel" ({ cls := "StrengthenFirstModel", name := "act", desc := "(III)I" } : Jvm.MethodName) ({ cls := "StrengthenFirstModel", name := "act", desc := "(III)I" } : Jvm.MethodName)) ∈ lw_all := lw_g (lw_at lw_m9 68 rfl) rfl
theorem q2073 : (Jvm.Cond.code ({ cls := "StrengthenFirstModel", name := "act", desc := "(III)I" } : Jvm.MethodName) prog_26_method_91_code (4 : Nat) (Option.some Jvm.ClassFile.FieldType.int)) ∈ lw_all := lw_g (lw_at lw_m9 69 rfl) rfl
theorem q2074 : (Jvm.Cond.methodLink "StrengthenFirstModel" (337 : Nat) ({ cls := "StrengthenFirstModel", name := "ordering", desc := "(II)I" } : Jvm.MethodName)) ∈ lw_all := lw_g (lw_at lw_m9 70 rfl) rfl
theorem q2075 : (Jvm.Cond.privateMethod ({ cls := "StrengthenFirstModel", name := "ordering", desc := "(II)I" } : Jvm.MethodName)) ∈ lw_tbl := lw_at lw_m9 71 rfl
theorem q2076 : (Jvm.Cond.instanceMethod ({ cls := "StrengthenFirstModel", name := "ordering", desc := "(II)I" } : Jvm.MethodName)) ∈ lw_all := lw_g (lw_at lw_m9 72 rfl) rfl
theorem q2077 : (Jvm.Cond.code ({ cls := "StrengthenFirstModel", name := "ordering", desc := "(II)I" } : Jvm.MethodName) prog_26_method_88_code (6 : Nat) (Option.some Jvm.ClassFile.FieldType.int)) ∈ lw_all := lw_g (lw_at lw_m9 73 rfl) rfl
theorem q2078 : (Jvm.Cond.methodLink "StrengthenFirstModel" (334 : Nat) ({ cls := "StrengthenFirstModel", name := "body", desc := "(I)V" } : Jvm.MethodName)) ∈ lw_all := lw_g (lw_at lw_m9 74 rfl) rfl
theorem q2079 : (Jvm.Cond.privateMethod ({ cls := "StrengthenFirstModel", name := "body", desc := "(I)V" } : Jvm.MethodName)) ∈ lw_tbl := lw_at lw_m9 75 rfl
theorem q2080 : (Jvm.Cond.instanceMethod ({ cls := "StrengthenFirstModel", name := "body", desc := "(I)V" } : Jvm.MethodName)) ∈ lw_all := lw_g (lw_at lw_m9 76 rfl) rfl
theorem q2081 : (Jvm.Cond.code ({ cls := "StrengthenFirstModel", name := "body", desc := "(I)V" } : Jvm.MethodName) prog_26_method_87_code (2 : Nat) (Option.none : Option Jvm.ClassFile.FieldType)) ∈ lw_all := lw_g (lw_at lw_m9 77 rfl) rfl
theorem q2082 : (Jvm.Cond.methodLink "StrengthenFirstModel" (340 : Nat) ({ cls := "StrengthenFirstModel", name := "costing", desc := "(II)I" } : Jvm.MethodName)) ∈ lw_all := lw_g (lw_at lw_m9 78 rfl) rfl
theorem q2083 : (Jvm.Cond.privateMethod ({ cls := "StrengthenFirstModel", name := "costing", desc := "(II)I" } : Jvm.MethodName)) ∈ lw_tbl := lw_at lw_m9 79 rfl
theorem q2084 : (Jvm.Cond.instanceMethod ({ cls := "StrengthenFirstModel", name := "costing", desc := "(II)I" } : Jvm.MethodName)) ∈ lw_all := lw_g (lw_at lw_m9 80 rfl) rfl
theorem q2085 : (Jvm.Cond.code ({ cls := "StrengthenFirstModel", name := "costing", desc := "(II)I" } : Jvm.MethodName) prog_26_method_89_code (6 : Nat) (Option.some Jvm.ClassFile.FieldType.int)) ∈ lw_all := lw_g (lw_at lw_m9 81 rfl) rfl
theorem q2086 : (Jvm.Cond.methodLink "StrengthenFirstModel" (343 : Nat) ({ cls := "StrengthenFirstModel", name := "saving", desc := "(II)I" } : Jvm.MethodName)) ∈ lw_all := lw_g (lw_at lw_m9 82 rfl) rfl
theorem q2087 : (Jvm.Cond.privateMethod ({ cls := "StrengthenFirstModel", name := "saving", desc := "(II)I" } : Jvm.MethodName)) ∈ lw_tbl := lw_at lw_m9 83 rfl
theorem q2088 : (Jvm.Cond.instanceMethod ({ cls := "StrengthenFirstModel", name := "saving", desc := "(II)I" } : Jvm.MethodName)) ∈ lw_all := lw_g (lw_at lw_m9 84 rfl) rfl
theorem q2089 : (Jvm.Cond.code ({ cls := "StrengthenFirstModel", name := "saving", desc := "(II)I" } : Jvm.MethodName) prog_26_method_90_code (5 : Nat) (Option.some Jvm.ClassFile.FieldType.int)) ∈ lw_all := lw_g (lw_at lw_m9 85 rfl) rfl
theorem q2090 : (Jvm.Cond.methodLink "StrengthenFirstLaw" (188 : Nat) ({ cls := "StrengthenFirstModel", name := "trace", desc := "(I)I" } : Jvm.MethodName)) ∈ lw_all := lw_g (lw_at lw_m9 86 rfl) rfl
theorem q2091 : (Jvm.Cond.instanceMethod ({ cls := "StrengthenFirstModel", name := "trace", desc := "(I)I" } : Jvm.MethodName)) ∈ lw_all := lw_g (lw_at lw_m9 87 rfl) rfl
theorem q2092 : (Jvm.Cond.selects "StrengthenFirstModel" ({ cls := "StrengthenFirstModel", name := "trace", desc := "(I)I" } : Jvm.MethodName) ({ cls := "StrengthenFirstModel", name := "trace", desc := "(I)I" } : Jvm.MethodName)) ∈ lw_all := lw_g (lw_at lw_m9 88 rfl) rfl
theorem q2093 : (Jvm.Cond.code ({ cls := "StrengthenFirstModel", name := "trace", desc := "(I)I" } : Jvm.MethodName) prog_26_method_92_code (2 : Nat) (Option.some Jvm.ClassFile.FieldType.int)) ∈ lw_all := lw_g (lw_at lw_m9 89 rfl) rfl
theorem q2094 : (Jvm.Cond.methodLink "StrengthenFirstLaw" (192 : Nat) ({ cls := "StrengthenFirstModel", name := "image", desc := "()I" } : Jvm.MethodName)) ∈ lw_all := lw_g (lw_at lw_m9 90 rfl) rfl
theorem q2095 : (Jvm.Cond.instanceMethod ({ cls := "StrengthenFirstModel", name := "image", desc := "()I" } : Jvm.MethodName)) ∈ lw_all := lw_g (lw_at lw_m9 91 rfl) rfl
theorem q2096 : (Jvm.Cond.selects "StrengthenFirstModel" ({ cls := "StrengthenFirstModel", name := "image", desc := "()I" } : Jvm.MethodName) ({ cls := "StrengthenFirstModel", name := "image", desc := "()I" } : Jvm.MethodName)) ∈ lw_all := lw_g (lw_at lw_m9 92 rfl) rfl
theorem q2097 : (Jvm.Cond.code ({ cls := "StrengthenFirstModel", name := "image", desc := "()I" } : Jvm.MethodName) prog_26_method_93_code (1 : Nat) (Option.some Jvm.ClassFile.FieldType.int)) ∈ lw_all := lw_g (lw_at lw_m9 93 rfl) rfl
theorem q2098 : (Jvm.Cond.methodLink "StrengthenFirstLaw" (196 : Nat) ({ cls := "StrengthenFirstModel", name := "restore", desc := "()I" } : Jvm.MethodName)) ∈ lw_all := lw_g (lw_at lw_m9 94 rfl) rfl
theorem q2099 : (Jvm.Cond.instanceMethod ({ cls := "StrengthenFirstModel", name := "restore", desc := "()I" } : Jvm.MethodName)) ∈ lw_all := lw_g (lw_at lw_m9 95 rfl) rfl
theorem q2100 : (Jvm.Cond.selects "StrengthenFirstModel" ({ cls := "StrengthenFirstModel", name := "restore", desc := "()I" } : Jvm.MethodName) ({ cls := "StrengthenFirstModel", name := "restore", desc := "()I" } : Jvm.MethodName)) ∈ lw_all := lw_g (lw_at lw_m9 96 rfl) rfl
theorem q2101 : (Jvm.Cond.code ({ cls := "StrengthenFirstModel", name := "restore", desc := "()I" } : Jvm.MethodName) prog_26_method_94_code (1 : Nat) (Option.some Jvm.ClassFile.FieldType.int)) ∈ lw_all := lw_g (lw_at lw_m9 97 rfl) rfl
theorem q2102 : (Jvm.Cond.methodLink "StrengthenFirstLaw" (200 : Nat) ({ cls := "StrengthenFirstModel", name := "status", desc := "(I)I" } : Jvm.MethodName)) ∈ lw_all := lw_g (lw_at lw_m9 98 rfl) rfl
theorem q2103 : (Jvm.Cond.instanceMethod ({ cls := "StrengthenFirstModel", name := "status", desc := "(I)I" } : Jvm.MethodName)) ∈ lw_all := lw_g (lw_at lw_m9 99 rfl) rfl
theorem q2104 : (Jvm.Cond.selects "StrengthenFirstModel" ({ cls := "StrengthenFirstModel", name := "status", desc := "(I)I" } : Jvm.MethodName) ({ cls := "StrengthenFirstModel", name := "status", desc := "(I)I" } : Jvm.MethodName)) ∈ lw_all := lw_g (lw_at lw_m9 100 rfl) rfl
theorem q2105 : (Jvm.Cond.code ({ cls := "StrengthenFirstModel", name := "status", desc := "(I)I" } : Jvm.MethodName) prog_26_method_95_code (4 : Nat) (Option.some Jvm.ClassFile.FieldType.int)) ∈ lw_all := lw_g (lw_at lw_m9 101 rfl) rfl
theorem q2106 : (Jvm.Cond.constantLong "StrengthenFirstLaw" (18 : Nat) (4294967295 : Int64)) ∈ lw_all := lw_g (lw_at lw_m9 102 rfl) rfl
theorem q2107 : (Jvm.Cond.sameMethod "java/lang/Throwable" "java/lang/Throwable" "fillInStackTrace" "(I)Ljava/lang/Throwable;") ∈ lw_all := lw_g (lw_at lw_m9 103 rfl) rfl
theorem q2108 : (Jvm.Cond.sameMethod "StrengthenFirst$Weak" "StrengthenFirst$Weak" "isAhead" "(LStrengthenFirst$Town;LStrengthenFirst$House;LStrengthenFirst$House;)Z") ∈ lw_all := lw_g (lw_at lw_m9 104 rfl) rfl
theorem q2109 : (Jvm.Cond.sameMethod "StrengthenFirst$Full" "StrengthenFirst$Full" "isAhead" "(LStrengthenFirst$Town;LStrengthenFirst$House;LStrengthenFirst$House;)Z") ∈ lw_all := lw_g (lw_at lw_m9 105 rfl) rfl
theorem q2110 : (Jvm.Cond.sameMethod "StrengthenFirst$Rule" "StrengthenFirst$Rule" "fill" "(LStrengthenFirst$Town;LStrengthenFirst$Order;)V") ∈ lw_all := lw_g (lw_at lw_m9 106 rfl) rfl
theorem q2111 : (Jvm.Cond.selects "StrengthenFirst$Full" ({ cls := "StrengthenFirst$Rule", name := "fill", desc := "(LStrengthenFirst$Town;LStrengthenFirst$Order;)V" } : Jvm.MethodName) ({ cls := "StrengthenFirst$Rule", name := "fill", desc := "(LStrengthenFirst$Town;LStrengthenFirst$Order;)V" } : Jvm.MethodName)) ∈ lw_all := lw_g (lw_at lw_m9 107 rfl) rfl
theorem q2112 : (Jvm.Cond.selects "StrengthenFirst$Prop" ({ cls := "StrengthenFirst$Rule", name := "fill", desc := "(LStrengthenFirst$Town;LStrengthenFirst$Order;)V" } : Jvm.MethodName) ({ cls := "StrengthenFirst$Rule", name := "fill", desc := "(LStrengthenFirst$Town;LStrengthenFirst$Order;)V" } : Jvm.MethodName)) ∈ lw_all := lw_g (lw_at lw_m9 108 rfl) rfl
theorem q2113 : (Jvm.Cond.selects "StrengthenFirst$Rule" ({ cls := "StrengthenFirst$Rule", name := "fill", desc := "(LStrengthenFirst$Town;LStrengthenFirst$Order;)V" } : Jvm.MethodName) ({ cls := "StrengthenFirst$Rule", name := "fill", desc := "(LStrengthenFirst$Town;LStrengthenFirst$Order;)V" } : Jvm.MethodName)) ∈ lw_all := lw_g (lw_at lw_m9 109 rfl) rfl
theorem q2114 : (Jvm.Cond.selects "StrengthenFirst$Saves" ({ cls := "StrengthenFirst$Rule", name := "fill", desc := "(LStrengthenFirst$Town;LStrengthenFirst$Order;)V" } : Jvm.MethodName) ({ cls := "StrengthenFirst$Rule", name := "fill", desc := "(LStrengthenFirst$Town;LStrengthenFirst$Order;)V" } : Jvm.MethodName)) ∈ lw_all := lw_g (lw_at lw_m9 110 rfl) rfl
theorem q2115 : (Jvm.Cond.selects "StrengthenFirst$Street" ({ cls := "StrengthenFirst$Rule", name := "fill", desc := "(LStrengthenFirst$Town;LStrengthenFirst$Order;)V" } : Jvm.MethodName) ({ cls := "StrengthenFirst$Rule", name := "fill", desc := "(LStrengthenFirst$Town;LStrengthenFirst$Order;)V" } : Jvm.MethodName)) ∈ lw_all := lw_g (lw_at lw_m9 111 rfl) rfl
theorem q2116 : (Jvm.Cond.selects "StrengthenFirst$Told" ({ cls := "StrengthenFirst$Rule", name := "fill", desc := "(LStrengthenFirst$Town;LStrengthenFirst$Order;)V" } : Jvm.MethodName) ({ cls := "StrengthenFirst$Rule", name := "fill", desc := "(LStrengthenFirst$Town;LStrengthenFirst$Order;)V" } : Jvm.MethodName)) ∈ lw_all := lw_g (lw_at lw_m9 112 rfl) rfl
theorem q2117 : (Jvm.Cond.selects "StrengthenFirst$Weak" ({ cls := "StrengthenFirst$Rule", name := "fill", desc := "(LStrengthenFirst$Town;LStrengthenFirst$Order;)V" } : Jvm.MethodName) ({ cls := "StrengthenFirst$Rule", name := "fill", desc := "(LStrengthenFirst$Town;LStrengthenFirst$Order;)V" } : Jvm.MethodName)) ∈ lw_all := lw_g (lw_at lw_m9 113 rfl) rfl
theorem q2118 : (Jvm.Cond.sameMethod "StrengthenFirst$Full" "StrengthenFirst$Full" "ordering" "(ILStrengthenFirst$Trace;)I") ∈ lw_all := lw_g (lw_at lw_m9 114 rfl) rfl
theorem q2119 : (Jvm.Cond.sameMethod "StrengthenFirst$Weak" "StrengthenFirst$Weak" "costing" "(ILStrengthenFirst$Trace;)I") ∈ lw_all := lw_g (lw_at lw_m9 115 rfl) rfl
theorem q2120 : (Jvm.Cond.castable "java/lang/ArrayIndexOutOfBoundsException" "java/lang/IndexOutOfBoundsException") ∈ lw_tbl := lw_at lw_m9 116 rfl
theorem q2121 : (Jvm.Cond.castable "StrengthenFirst$Bytes" "StrengthenFirst$Row") ∈ lw_tbl := lw_at lw_m9 117 rfl
theorem q2122 : (Jvm.Cond.castable "StrengthenFirst$Ints" "StrengthenFirst$Row") ∈ lw_tbl := lw_at lw_m9 118 rfl
theorem q2123 : (Jvm.Cond.castable "StrengthenFirst$Longs" "StrengthenFirst$Row") ∈ lw_tbl := lw_at lw_m9 119 rfl
theorem q2124 : (Jvm.Cond.castable "StrengthenFirst$Shorts" "StrengthenFirst$Row") ∈ lw_tbl := lw_at lw_m9 120 rfl
theorem q2125 : (Jvm.Cond.castable "StrengthenFirst$Full" "StrengthenFirst$Rule") ∈ lw_tbl := lw_at lw_m9 121 rfl
theorem q2126 : (Jvm.Cond.castable "StrengthenFirst$Prop" "StrengthenFirst$Rule") ∈ lw_tbl := lw_at lw_m9 122 rfl
theorem q2127 : (Jvm.Cond.castable "StrengthenFirst$Saves" "StrengthenFirst$Rule") ∈ lw_tbl := lw_at lw_m9 123 rfl
theorem q2128 : (Jvm.Cond.castable "StrengthenFirst$Street" "StrengthenFirst$Rule") ∈ lw_tbl := lw_at lw_m9 124 rfl
theorem q2129 : (Jvm.Cond.castable "StrengthenFirst$Told" "StrengthenFirst$Rule") ∈ lw_tbl := lw_at lw_m9 125 rfl
theorem q2130 : (Jvm.Cond.castable "StrengthenFirst$Weak" "StrengthenFirst$Rule") ∈ lw_tbl := lw_at lw_m9 126 rfl
theorem q2131 : (Jvm.Cond.castable "StrengthenFirst$Street" "StrengthenFirst$Full") ∈ lw_tbl := lw_at lw_m9 127 rfl
theorem q2132 : (Jvm.Cond.castable "StrengthenFirst$Prop" "StrengthenFirst$Weak") ∈ lw_tbl := lw_at lw_m9 128 rfl
theorem q2133 : (Jvm.Cond.fieldLink "java/lang/String" (9 : Nat) "java/lang/String" "value" "[B") ∈ lw_all := lw_g (lw_at lw_m9 129 rfl) rfl
theorem q2134 : (Jvm.Cond.fieldLink "java/lang/String" (15 : Nat) "java/lang/String" "coder" "B") ∈ lw_all := lw_g (lw_at lw_m9 130 rfl) rfl
