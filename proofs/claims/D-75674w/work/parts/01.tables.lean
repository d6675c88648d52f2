-- ===== PART A: goes FIRST, ahead of the names: the tables' words, and 'selects' of the private methods out of them =====
/-- a private method of a class that the tables say can be made, by its rows of tables_1 -/
def lw_okq (q : MethodName × Nat) : Prop := (q.1.cls ≠ "java/lang/invoke/MethodHandle" ∧ q.1.cls ≠ "java/lang/invoke/VarHandle") ∧ Cond.instantiable q.1.cls q.2 ∈ tables_1 ∧ Cond.privateMethod q.1 ∈ tables_1 ∧ Cond.instanceMethod q.1 ∈ tables_1
set_option maxRecDepth 100000
theorem lw_t1 {w : Cond} (h : w ∈ tables_1_1) : w ∈ tables_1 := List.mem_append_left _ h
theorem lw_t2 {w : Cond} (h : w ∈ tables_1_2) : w ∈ tables_1 := List.mem_append_right _ (List.mem_append_left _ h)
theorem lw_t3 {w : Cond} (h : w ∈ tables_1_3) : w ∈ tables_1 := List.mem_append_right _ (List.mem_append_right _ (List.mem_append_left _ h))
theorem lw_t4 {w : Cond} (h : w ∈ tables_1_4) : w ∈ tables_1 := List.mem_append_right _ (List.mem_append_right _ (List.mem_append_right _ (List.mem_append_left _ h)))
theorem lw_t5 {w : Cond} (h : w ∈ tables_1_5) : w ∈ tables_1 := List.mem_append_right _ (List.mem_append_right _ (List.mem_append_right _ (List.mem_append_right _ (List.mem_append_left _ h))))
theorem lw_t6 {w : Cond} (h : w ∈ tables_1_6) : w ∈ tables_1 := List.mem_append_right _ (List.mem_append_right _ (List.mem_append_right _ (List.mem_append_right _ (List.mem_append_right _ (List.mem_append_left _ h)))))
theorem lw_t7 {w : Cond} (h : w ∈ tables_1_7) : w ∈ tables_1 := List.mem_append_right _ (List.mem_append_right _ (List.mem_append_right _ (List.mem_append_right _ (List.mem_append_right _ (List.mem_append_right _ (List.mem_append_left _ h))))))
theorem lw_t8 {w : Cond} (h : w ∈ tables_1_8) : w ∈ tables_1 := List.mem_append_right _ (List.mem_append_right _ (List.mem_append_right _ (List.mem_append_right _ (List.mem_append_right _ (List.mem_append_right _ (List.mem_append_right _ (List.mem_append_left _ h)))))))
theorem lw_t9 {w : Cond} (h : w ∈ tables_1_9) : w ∈ tables_1 := List.mem_append_right _ (List.mem_append_right _ (List.mem_append_right _ (List.mem_append_right _ (List.mem_append_right _ (List.mem_append_right _ (List.mem_append_right _ (List.mem_append_right _ (List.mem_append_left _ h))))))))
theorem lw_t10 {w : Cond} (h : w ∈ tables_1_10) : w ∈ tables_1 := List.mem_append_right _ (List.mem_append_right _ (List.mem_append_right _ (List.mem_append_right _ (List.mem_append_right _ (List.mem_append_right _ (List.mem_append_right _ (List.mem_append_right _ (List.mem_append_right _ h))))))))
theorem lw_p0 : lw_okq (⟨"LehrBelt", "puts", "(I)V"⟩, 32) := ⟨⟨by decide +kernel, by decide +kernel⟩, lw_t1 (List.mem_of_getElem? (i := 35) rfl), lw_t2 (List.mem_of_getElem? (i := 73) rfl), lw_t2 (List.mem_of_getElem? (i := 74) rfl)⟩
theorem lw_p1 : lw_okq (⟨"LehrBelt$Reader", "next", "()V"⟩, 7) := ⟨⟨by decide +kernel, by decide +kernel⟩, lw_t2 (List.mem_of_getElem? (i := 89) rfl), lw_t2 (List.mem_of_getElem? (i := 99) rfl), lw_t2 (List.mem_of_getElem? (i := 100) rfl)⟩
theorem lw_p2 : lw_okq (⟨"LehrBelt$Reader", "isNext", "(II)Z"⟩, 7) := ⟨⟨by decide +kernel, by decide +kernel⟩, lw_t2 (List.mem_of_getElem? (i := 89) rfl), lw_t2 (List.mem_of_getElem? (i := 103) rfl), lw_t2 (List.mem_of_getElem? (i := 104) rfl)⟩
theorem lw_p3 : lw_okq (⟨"LehrBelt$Reader", "head", "()V"⟩, 7) := ⟨⟨by decide +kernel, by decide +kernel⟩, lw_t2 (List.mem_of_getElem? (i := 89) rfl), lw_t2 (List.mem_of_getElem? (i := 146) rfl), lw_t2 (List.mem_of_getElem? (i := 147) rfl)⟩
theorem lw_p4 : lw_okq (⟨"LehrBelt$Reader", "expects", "(Ljava/lang/String;)V"⟩, 7) := ⟨⟨by decide +kernel, by decide +kernel⟩, lw_t2 (List.mem_of_getElem? (i := 89) rfl), lw_t2 (List.mem_of_getElem? (i := 151) rfl), lw_t2 (List.mem_of_getElem? (i := 152) rfl)⟩
theorem lw_p5 : lw_okq (⟨"LehrBelt$Reader", "takes", "(Ljava/lang/String;)Z"⟩, 7) := ⟨⟨by decide +kernel, by decide +kernel⟩, lw_t2 (List.mem_of_getElem? (i := 89) rfl), lw_t2 (List.mem_of_getElem? (i := 155) rfl), lw_t2 (List.mem_of_getElem? (i := 156) rfl)⟩
theorem lw_p6 : lw_okq (⟨"LehrBelt$Reader", "is", "(Ljava/lang/String;)Z"⟩, 7) := ⟨⟨by decide +kernel, by decide +kernel⟩, lw_t2 (List.mem_of_getElem? (i := 89) rfl), lw_t2 (List.mem_of_getElem? (i := 159) rfl), lw_t2 (List.mem_of_getElem? (i := 160) rfl)⟩
theorem lw_p7 : lw_okq (⟨"LehrBelt$Reader", "wrong", "(I)LLehrBelt$Fault;"⟩, 7) := ⟨⟨by decide +kernel, by decide +kernel⟩, lw_t2 (List.mem_of_getElem? (i := 89) rfl), lw_t2 (List.mem_of_getElem? (i := 211) rfl), lw_t2 (List.mem_of_getElem? (i := 212) rfl)⟩
theorem lw_p8 : lw_okq (⟨"java/lang/NullPointerException", "getExtendedNPEMessage", "()Ljava/lang/String;"⟩, 8) := ⟨⟨by decide +kernel, by decide +kernel⟩, lw_t3 (List.mem_of_getElem? (i := 14) rfl), lw_t3 (List.mem_of_getElem? (i := 12) rfl), lw_t3 (List.mem_of_getElem? (i := 13) rfl)⟩
theorem lw_p9 : lw_okq (⟨"java/lang/Throwable", "fillInStackTrace", "(I)Ljava/lang/Throwable;"⟩, 6) := ⟨⟨by decide +kernel, by decide +kernel⟩, lw_t3 (List.mem_of_getElem? (i := 26) rfl), lw_t3 (List.mem_of_getElem? (i := 24) rfl), lw_t3 (List.mem_of_getElem? (i := 25) rfl)⟩
theorem lw_p10 : lw_okq (⟨"LehrBelt$Reader", "told", "(Ljava/lang/String;II)I"⟩, 7) := ⟨⟨by decide +kernel, by decide +kernel⟩, lw_t2 (List.mem_of_getElem? (i := 89) rfl), lw_t3 (List.mem_of_getElem? (i := 60) rfl), lw_t3 (List.mem_of_getElem? (i := 61) rfl)⟩
theorem lw_p11 : lw_okq (⟨"LehrBelt$Reader", "number", "(II)I"⟩, 7) := ⟨⟨by decide +kernel, by decide +kernel⟩, lw_t2 (List.mem_of_getElem? (i := 89) rfl), lw_t3 (List.mem_of_getElem? (i := 64) rfl), lw_t3 (List.mem_of_getElem? (i := 65) rfl)⟩
theorem lw_p12 : lw_okq (⟨"LehrBelt$Reader", "line", "()V"⟩, 7) := ⟨⟨by decide +kernel, by decide +kernel⟩, lw_t2 (List.mem_of_getElem? (i := 89) rfl), lw_t3 (List.mem_of_getElem? (i := 72) rfl), lw_t3 (List.mem_of_getElem? (i := 73) rfl)⟩
theorem lw_p13 : lw_okq (⟨"LehrBelt$Reader", "begins", "(Ljava/lang/String;Z)Z"⟩, 7) := ⟨⟨by decide +kernel, by decide +kernel⟩, lw_t2 (List.mem_of_getElem? (i := 89) rfl), lw_t3 (List.mem_of_getElem? (i := 77) rfl), lw_t3 (List.mem_of_getElem? (i := 78) rfl)⟩
theorem lw_p14 : lw_okq (⟨"LehrBelt$Reader", "newZone", "()V"⟩, 7) := ⟨⟨by decide +kernel, by decide +kernel⟩, lw_t2 (List.mem_of_getElem? (i := 89) rfl), lw_t3 (List.mem_of_getElem? (i := 81) rfl), lw_t3 (List.mem_of_getElem? (i := 82) rfl)⟩
theorem lw_p15 : lw_okq (⟨"LehrBelt$Reader", "newPiece", "()V"⟩, 7) := ⟨⟨by decide +kernel, by decide +kernel⟩, lw_t2 (List.mem_of_getElem? (i := 89) rfl), lw_t3 (List.mem_of_getElem? (i := 86) rfl), lw_t3 (List.mem_of_getElem? (i := 87) rfl)⟩
def lw_privs_1 : List (MethodName × Nat) := [(⟨"LehrBelt", "puts", "(I)V"⟩, 32), (⟨"LehrBelt$Reader", "next", "()V"⟩, 7), (⟨"LehrBelt$Reader", "isNext", "(II)Z"⟩, 7), (⟨"LehrBelt$Reader", "head", "()V"⟩, 7), (⟨"LehrBelt$Reader", "expects", "(Ljava/lang/String;)V"⟩, 7), (⟨"LehrBelt$Reader", "takes", "(Ljava/lang/String;)Z"⟩, 7), (⟨"LehrBelt$Reader", "is", "(Ljava/lang/String;)Z"⟩, 7), (⟨"LehrBelt$Reader", "wrong", "(I)LLehrBelt$Fault;"⟩, 7), (⟨"java/lang/NullPointerException", "getExtendedNPEMessage", "()Ljava/lang/String;"⟩, 8), (⟨"java/lang/Throwable", "fillInStackTrace", "(I)Ljava/lang/Throwable;"⟩, 6), (⟨"LehrBelt$Reader", "told", "(Ljava/lang/String;II)I"⟩, 7), (⟨"LehrBelt$Reader", "number", "(II)I"⟩, 7), (⟨"LehrBelt$Reader", "line", "()V"⟩, 7), (⟨"LehrBelt$Reader", "begins", "(Ljava/lang/String;Z)Z"⟩, 7), (⟨"LehrBelt$Reader", "newZone", "()V"⟩, 7), (⟨"LehrBelt$Reader", "newPiece", "()V"⟩, 7)]
theorem lw_r1 : ∀ q ∈ lw_privs_1, lw_okq q := List.forall_mem_cons.mpr ⟨lw_p0, List.forall_mem_cons.mpr ⟨lw_p1, List.forall_mem_cons.mpr ⟨lw_p2, List.forall_mem_cons.mpr ⟨lw_p3, List.forall_mem_cons.mpr ⟨lw_p4, List.forall_mem_cons.mpr ⟨lw_p5, List.forall_mem_cons.mpr ⟨lw_p6, List.forall_mem_cons.mpr ⟨lw_p7, List.forall_mem_cons.mpr ⟨lw_p8, List.forall_mem_cons.mpr ⟨lw_p9, List.forall_mem_cons.mpr ⟨lw_p10, List.forall_mem_cons.mpr ⟨lw_p11, List.forall_mem_cons.mpr ⟨lw_p12, List.forall_mem_cons.mpr ⟨lw_p13, List.forall_mem_cons.mpr ⟨lw_p14, List.forall_mem_cons.mpr ⟨lw_p15, fun _ h => absurd h List.not_mem_nil⟩⟩⟩⟩⟩⟩⟩⟩⟩⟩⟩⟩⟩⟩⟩⟩
theorem lw_p16 : lw_okq (⟨"LehrBelt", "isZone", "(I)Z"⟩, 32) := ⟨⟨by decide +kernel, by decide +kernel⟩, lw_t1 (List.mem_of_getElem? (i := 35) rfl), lw_t3 (List.mem_of_getElem? (i := 102) rfl), lw_t3 (List.mem_of_getElem? (i := 103) rfl)⟩
theorem lw_p17 : lw_okq (⟨"LehrBelt", "isPiece", "(J)Z"⟩, 32) := ⟨⟨by decide +kernel, by decide +kernel⟩, lw_t1 (List.mem_of_getElem? (i := 35) rfl), lw_t3 (List.mem_of_getElem? (i := 110) rfl), lw_t3 (List.mem_of_getElem? (i := 111) rfl)⟩
theorem lw_p18 : lw_okq (⟨"LehrBelt", "asksStep", "(I)Z"⟩, 32) := ⟨⟨by decide +kernel, by decide +kernel⟩, lw_t1 (List.mem_of_getElem? (i := 35) rfl), lw_t3 (List.mem_of_getElem? (i := 118) rfl), lw_t3 (List.mem_of_getElem? (i := 119) rfl)⟩
theorem lw_p19 : lw_okq (⟨"LehrBelt", "asksLehr", "()Z"⟩, 32) := ⟨⟨by decide +kernel, by decide +kernel⟩, lw_t1 (List.mem_of_getElem? (i := 35) rfl), lw_t3 (List.mem_of_getElem? (i := 122) rfl), lw_t3 (List.mem_of_getElem? (i := 123) rfl)⟩
theorem lw_p20 : lw_okq (⟨"LehrBelt", "asItIs", "()V"⟩, 32) := ⟨⟨by decide +kernel, by decide +kernel⟩, lw_t1 (List.mem_of_getElem? (i := 35) rfl), lw_t3 (List.mem_of_getElem? (i := 126) rfl), lw_t3 (List.mem_of_getElem? (i := 127) rfl)⟩
theorem lw_p21 : lw_okq (⟨"LehrBelt", "lays", "()V"⟩, 32) := ⟨⟨by decide +kernel, by decide +kernel⟩, lw_t1 (List.mem_of_getElem? (i := 35) rfl), lw_t3 (List.mem_of_getElem? (i := 133) rfl), lw_t3 (List.mem_of_getElem? (i := 134) rfl)⟩
theorem lw_p22 : lw_okq (⟨"LehrBelt", "laysStep", "(I)V"⟩, 32) := ⟨⟨by decide +kernel, by decide +kernel⟩, lw_t1 (List.mem_of_getElem? (i := 35) rfl), lw_t3 (List.mem_of_getElem? (i := 137) rfl), lw_t3 (List.mem_of_getElem? (i := 138) rfl)⟩
theorem lw_p23 : lw_okq (⟨"LehrBelt", "mayCrack", "(II)V"⟩, 32) := ⟨⟨by decide +kernel, by decide +kernel⟩, lw_t1 (List.mem_of_getElem? (i := 35) rfl), lw_t3 (List.mem_of_getElem? (i := 141) rfl), lw_t3 (List.mem_of_getElem? (i := 142) rfl)⟩
theorem lw_p24 : lw_okq (⟨"LehrBelt", "placeOf", "(II)I"⟩, 32) := ⟨⟨by decide +kernel, by decide +kernel⟩, lw_t1 (List.mem_of_getElem? (i := 35) rfl), lw_t3 (List.mem_of_getElem? (i := 145) rfl), lw_t3 (List.mem_of_getElem? (i := 146) rfl)⟩
theorem lw_p25 : lw_okq (⟨"LehrBelt", "strainNow", "(I)I"⟩, 32) := ⟨⟨by decide +kernel, by decide +kernel⟩, lw_t1 (List.mem_of_getElem? (i := 35) rfl), lw_t3 (List.mem_of_getElem? (i := 149) rfl), lw_t3 (List.mem_of_getElem? (i := 150) rfl)⟩
theorem lw_p26 : lw_okq (⟨"LehrBelt", "cools", "(II)V"⟩, 32) := ⟨⟨by decide +kernel, by decide +kernel⟩, lw_t1 (List.mem_of_getElem? (i := 35) rfl), lw_t3 (List.mem_of_getElem? (i := 159) rfl), lw_t3 (List.mem_of_getElem? (i := 160) rfl)⟩
theorem lw_p27 : lw_okq (⟨"LehrBelt", "airOf", "(II)I"⟩, 32) := ⟨⟨by decide +kernel, by decide +kernel⟩, lw_t1 (List.mem_of_getElem? (i := 35) rfl), lw_t3 (List.mem_of_getElem? (i := 175) rfl), lw_t3 (List.mem_of_getElem? (i := 176) rfl)⟩
theorem lw_p28 : lw_okq (⟨"LehrBelt", "isGust", "(I)Z"⟩, 32) := ⟨⟨by decide +kernel, by decide +kernel⟩, lw_t1 (List.mem_of_getElem? (i := 35) rfl), lw_t3 (List.mem_of_getElem? (i := 180) rfl), lw_t3 (List.mem_of_getElem? (i := 181) rfl)⟩
theorem lw_p29 : lw_okq (⟨"LehrBelt", "isLehr", "()Z"⟩, 32) := ⟨⟨by decide +kernel, by decide +kernel⟩, lw_t1 (List.mem_of_getElem? (i := 35) rfl), lw_t3 (List.mem_of_getElem? (i := 205) rfl), lw_t3 (List.mem_of_getElem? (i := 206) rfl)⟩
theorem lw_p30 : lw_okq (⟨"LehrBelt", "isStep", "(J)Z"⟩, 32) := ⟨⟨by decide +kernel, by decide +kernel⟩, lw_t1 (List.mem_of_getElem? (i := 35) rfl), lw_t3 (List.mem_of_getElem? (i := 209) rfl), lw_t3 (List.mem_of_getElem? (i := 210) rfl)⟩
theorem lw_p31 : lw_okq (⟨"LehrBelt", "insideOf", "(II)I"⟩, 32) := ⟨⟨by decide +kernel, by decide +kernel⟩, lw_t1 (List.mem_of_getElem? (i := 35) rfl), lw_t3 (List.mem_of_getElem? (i := 222) rfl), lw_t3 (List.mem_of_getElem? (i := 223) rfl)⟩
def lw_privs_2 : List (MethodName × Nat) := [(⟨"LehrBelt", "isZone", "(I)Z"⟩, 32), (⟨"LehrBelt", "isPiece", "(J)Z"⟩, 32), (⟨"LehrBelt", "asksStep", "(I)Z"⟩, 32), (⟨"LehrBelt", "asksLehr", "()Z"⟩, 32), (⟨"LehrBelt", "asItIs", "()V"⟩, 32), (⟨"LehrBelt", "lays", "()V"⟩, 32), (⟨"LehrBelt", "laysStep", "(I)V"⟩, 32), (⟨"LehrBelt", "mayCrack", "(II)V"⟩, 32), (⟨"LehrBelt", "placeOf", "(II)I"⟩, 32), (⟨"LehrBelt", "strainNow", "(I)I"⟩, 32), (⟨"LehrBelt", "cools", "(II)V"⟩, 32), (⟨"LehrBelt", "airOf", "(II)I"⟩, 32), (⟨"LehrBelt", "isGust", "(I)Z"⟩, 32), (⟨"LehrBelt", "isLehr", "()Z"⟩, 32), (⟨"LehrBelt", "isStep", "(J)Z"⟩, 32), (⟨"LehrBelt", "insideOf", "(II)I"⟩, 32)]
theorem lw_r2 : ∀ q ∈ lw_privs_2, lw_okq q := List.forall_mem_cons.mpr ⟨lw_p16, List.forall_mem_cons.mpr ⟨lw_p17, List.forall_mem_cons.mpr ⟨lw_p18, List.forall_mem_cons.mpr ⟨lw_p19, List.forall_mem_cons.mpr ⟨lw_p20, List.forall_mem_cons.mpr ⟨lw_p21, List.forall_mem_cons.mpr ⟨lw_p22, List.forall_mem_cons.mpr ⟨lw_p23, List.forall_mem_cons.mpr ⟨lw_p24, List.forall_mem_cons.mpr ⟨lw_p25, List.forall_mem_cons.mpr ⟨lw_p26, List.forall_mem_cons.mpr ⟨lw_p27, List.forall_mem_cons.mpr ⟨lw_p28, List.forall_mem_cons.mpr ⟨lw_p29, List.forall_mem_cons.mpr ⟨lw_p30, List.forall_mem_cons.mpr ⟨lw_p31, fun _ h => absurd h List.not_mem_nil⟩⟩⟩⟩⟩⟩⟩⟩⟩⟩⟩⟩⟩⟩⟩⟩
theorem lw_p32 : lw_okq (⟨"LehrBelt", "asksPiece", "(I)Z"⟩, 32) := ⟨⟨by decide +kernel, by decide +kernel⟩, lw_t1 (List.mem_of_getElem? (i := 35) rfl), lw_t3 (List.mem_of_getElem? (i := 234) rfl), lw_t3 (List.mem_of_getElem? (i := 235) rfl)⟩
theorem lw_p33 : lw_okq (⟨"LehrBelt", "skinOf", "(II)I"⟩, 32) := ⟨⟨by decide +kernel, by decide +kernel⟩, lw_t1 (List.mem_of_getElem? (i := 35) rfl), lw_t4 (List.mem_of_getElem? (i := 2) rfl), lw_t4 (List.mem_of_getElem? (i := 3) rfl)⟩
theorem lw_p34 : lw_okq (⟨"LehrBelt", "coreOf", "(II)I"⟩, 32) := ⟨⟨by decide +kernel, by decide +kernel⟩, lw_t1 (List.mem_of_getElem? (i := 35) rfl), lw_t4 (List.mem_of_getElem? (i := 10) rfl), lw_t4 (List.mem_of_getElem? (i := 11) rfl)⟩
theorem lw_p35 : lw_okq (⟨"LehrBelt", "strainOf", "(II)I"⟩, 32) := ⟨⟨by decide +kernel, by decide +kernel⟩, lw_t1 (List.mem_of_getElem? (i := 35) rfl), lw_t4 (List.mem_of_getElem? (i := 18) rfl), lw_t4 (List.mem_of_getElem? (i := 19) rfl)⟩
theorem lw_p36 : lw_okq (⟨"LehrBelt", "whenOf", "(I)I"⟩, 32) := ⟨⟨by decide +kernel, by decide +kernel⟩, lw_t1 (List.mem_of_getElem? (i := 35) rfl), lw_t4 (List.mem_of_getElem? (i := 26) rfl), lw_t4 (List.mem_of_getElem? (i := 27) rfl)⟩
theorem lw_p37 : lw_okq (⟨"LehrBelt", "hasCome", "(II)Z"⟩, 32) := ⟨⟨by decide +kernel, by decide +kernel⟩, lw_t1 (List.mem_of_getElem? (i := 35) rfl), lw_t4 (List.mem_of_getElem? (i := 54) rfl), lw_t4 (List.mem_of_getElem? (i := 55) rfl)⟩
theorem lw_p38 : lw_okq (⟨"LehrBelt", "isWhole", "(II)Z"⟩, 32) := ⟨⟨by decide +kernel, by decide +kernel⟩, lw_t1 (List.mem_of_getElem? (i := 35) rfl), lw_t4 (List.mem_of_getElem? (i := 58) rfl), lw_t4 (List.mem_of_getElem? (i := 59) rfl)⟩
theorem lw_p39 : lw_okq (⟨"LehrBelt", "soundNow", "()I"⟩, 32) := ⟨⟨by decide +kernel, by decide +kernel⟩, lw_t1 (List.mem_of_getElem? (i := 35) rfl), lw_t4 (List.mem_of_getElem? (i := 66) rfl), lw_t4 (List.mem_of_getElem? (i := 67) rfl)⟩
theorem lw_p40 : lw_okq (⟨"LehrBelt", "isSound", "(I)Z"⟩, 32) := ⟨⟨by decide +kernel, by decide +kernel⟩, lw_t1 (List.mem_of_getElem? (i := 35) rfl), lw_t4 (List.mem_of_getElem? (i := 70) rfl), lw_t4 (List.mem_of_getElem? (i := 71) rfl)⟩
theorem lw_p41 : lw_okq (⟨"LehrBelt", "cracksIn", "(I)I"⟩, 32) := ⟨⟨by decide +kernel, by decide +kernel⟩, lw_t1 (List.mem_of_getElem? (i := 35) rfl), lw_t4 (List.mem_of_getElem? (i := 94) rfl), lw_t4 (List.mem_of_getElem? (i := 95) rfl)⟩
theorem lw_p42 : lw_okq (⟨"LehrBelt", "cracksAt", "(I)I"⟩, 32) := ⟨⟨by decide +kernel, by decide +kernel⟩, lw_t1 (List.mem_of_getElem? (i := 35) rfl), lw_t4 (List.mem_of_getElem? (i := 102) rfl), lw_t4 (List.mem_of_getElem? (i := 103) rfl)⟩
theorem lw_p43 : lw_okq (⟨"LehrBelt", "fallOf", "(II)I"⟩, 32) := ⟨⟨by decide +kernel, by decide +kernel⟩, lw_t1 (List.mem_of_getElem? (i := 35) rfl), lw_t4 (List.mem_of_getElem? (i := 145) rfl), lw_t4 (List.mem_of_getElem? (i := 146) rfl)⟩
theorem lw_p44 : lw_okq (⟨"LehrBelt", "dropOf", "(II)I"⟩, 32) := ⟨⟨by decide +kernel, by decide +kernel⟩, lw_t1 (List.mem_of_getElem? (i := 35) rfl), lw_t4 (List.mem_of_getElem? (i := 163) rfl), lw_t4 (List.mem_of_getElem? (i := 164) rfl)⟩
theorem lw_p45 : lw_okq (⟨"LehrBelt", "isAhead", "(I)Z"⟩, 32) := ⟨⟨by decide +kernel, by decide +kernel⟩, lw_t1 (List.mem_of_getElem? (i := 35) rfl), lw_t4 (List.mem_of_getElem? (i := 171) rfl), lw_t4 (List.mem_of_getElem? (i := 172) rfl)⟩
theorem lw_p46 : lw_okq (⟨"LehrBelt", "busyOf", "(I)I"⟩, 32) := ⟨⟨by decide +kernel, by decide +kernel⟩, lw_t1 (List.mem_of_getElem? (i := 35) rfl), lw_t4 (List.mem_of_getElem? (i := 211) rfl), lw_t4 (List.mem_of_getElem? (i := 212) rfl)⟩
theorem lw_p47 : lw_okq (⟨"LehrBelt", "needsOf", "(I)I"⟩, 32) := ⟨⟨by decide +kernel, by decide +kernel⟩, lw_t1 (List.mem_of_getElem? (i := 35) rfl), lw_t4 (List.mem_of_getElem? (i := 227) rfl), lw_t4 (List.mem_of_getElem? (i := 228) rfl)⟩
def lw_privs_3 : List (MethodName × Nat) := [(⟨"LehrBelt", "asksPiece", "(I)Z"⟩, 32), (⟨"LehrBelt", "skinOf", "(II)I"⟩, 32), (⟨"LehrBelt", "coreOf", "(II)I"⟩, 32), (⟨"LehrBelt", "strainOf", "(II)I"⟩, 32), (⟨"LehrBelt", "whenOf", "(I)I"⟩, 32), (⟨"LehrBelt", "hasCome", "(II)Z"⟩, 32), (⟨"LehrBelt", "isWhole", "(II)Z"⟩, 32), (⟨"LehrBelt", "soundNow", "()I"⟩, 32), (⟨"LehrBelt", "isSound", "(I)Z"⟩, 32), (⟨"LehrBelt", "cracksIn", "(I)I"⟩, 32), (⟨"LehrBelt", "cracksAt", "(I)I"⟩, 32), (⟨"LehrBelt", "fallOf", "(II)I"⟩, 32), (⟨"LehrBelt", "dropOf", "(II)I"⟩, 32), (⟨"LehrBelt", "isAhead", "(I)Z"⟩, 32), (⟨"LehrBelt", "busyOf", "(I)I"⟩, 32), (⟨"LehrBelt", "needsOf", "(I)I"⟩, 32)]
theorem lw_r3 : ∀ q ∈ lw_privs_3, lw_okq q := List.forall_mem_cons.mpr ⟨lw_p32, List.forall_mem_cons.mpr ⟨lw_p33, List.forall_mem_cons.mpr ⟨lw_p34, List.forall_mem_cons.mpr ⟨lw_p35, List.forall_mem_cons.mpr ⟨lw_p36, List.forall_mem_cons.mpr ⟨lw_p37, List.forall_mem_cons.mpr ⟨lw_p38, List.forall_mem_cons.mpr ⟨lw_p39, List.forall_mem_cons.mpr ⟨lw_p40, List.forall_mem_cons.mpr ⟨lw_p41, List.forall_mem_cons.mpr ⟨lw_p42, List.forall_mem_cons.mpr ⟨lw_p43, List.forall_mem_cons.mpr ⟨lw_p44, List.forall_mem_cons.mpr ⟨lw_p45, List.forall_mem_cons.mpr ⟨lw_p46, List.forall_mem_cons.mpr ⟨lw_p47, fun _ h => absurd h List.not_mem_nil⟩⟩⟩⟩⟩⟩⟩⟩⟩⟩⟩⟩⟩⟩⟩⟩
theorem lw_p48 : lw_okq (⟨"LehrBelt", "isSoundBy", "(I)Z"⟩, 32) := ⟨⟨by decide +kernel, by decide +kernel⟩, lw_t1 (List.mem_of_getElem? (i := 35) rfl), lw_t4 (List.mem_of_getElem? (i := 231) rfl), lw_t4 (List.mem_of_getElem? (i := 232) rfl)⟩
theorem lw_p49 : lw_okq (⟨"LehrBelt", "paceOf", "()I"⟩, 32) := ⟨⟨by decide +kernel, by decide +kernel⟩, lw_t1 (List.mem_of_getElem? (i := 35) rfl), lw_t5 (List.mem_of_getElem? (i := 7) rfl), lw_t5 (List.mem_of_getElem? (i := 8) rfl)⟩
theorem lw_p50 : lw_okq (⟨"LehrBelt", "soundBy", "(I)I"⟩, 32) := ⟨⟨by decide +kernel, by decide +kernel⟩, lw_t1 (List.mem_of_getElem? (i := 35) rfl), lw_t5 (List.mem_of_getElem? (i := 11) rfl), lw_t5 (List.mem_of_getElem? (i := 12) rfl)⟩
theorem lw_p51 : lw_okq (⟨"LehrBelt", "soundMany", "()I"⟩, 32) := ⟨⟨by decide +kernel, by decide +kernel⟩, lw_t1 (List.mem_of_getElem? (i := 35) rfl), lw_t5 (List.mem_of_getElem? (i := 15) rfl), lw_t5 (List.mem_of_getElem? (i := 16) rfl)⟩
theorem lw_p52 : lw_okq (⟨"LehrBelt", "raiseOf", "(II)I"⟩, 32) := ⟨⟨by decide +kernel, by decide +kernel⟩, lw_t1 (List.mem_of_getElem? (i := 35) rfl), lw_t5 (List.mem_of_getElem? (i := 27) rfl), lw_t5 (List.mem_of_getElem? (i := 28) rfl)⟩
theorem lw_p53 : lw_okq (⟨"LehrBelt", "changes", "(II)V"⟩, 32) := ⟨⟨by decide +kernel, by decide +kernel⟩, lw_t1 (List.mem_of_getElem? (i := 35) rfl), lw_t5 (List.mem_of_getElem? (i := 39) rfl), lw_t5 (List.mem_of_getElem? (i := 40) rfl)⟩
theorem lw_p54 : lw_okq (⟨"LehrBelt", "laysFits", "(II)I"⟩, 32) := ⟨⟨by decide +kernel, by decide +kernel⟩, lw_t1 (List.mem_of_getElem? (i := 35) rfl), lw_t5 (List.mem_of_getElem? (i := 51) rfl), lw_t5 (List.mem_of_getElem? (i := 52) rfl)⟩
theorem lw_p55 : lw_okq (⟨"LehrBelt", "asksSeen", "(I)I"⟩, 32) := ⟨⟨by decide +kernel, by decide +kernel⟩, lw_t1 (List.mem_of_getElem? (i := 35) rfl), lw_t5 (List.mem_of_getElem? (i := 55) rfl), lw_t5 (List.mem_of_getElem? (i := 56) rfl)⟩
theorem lw_p56 : lw_okq (⟨"LehrBelt", "isSo", "(I)Z"⟩, 32) := ⟨⟨by decide +kernel, by decide +kernel⟩, lw_t1 (List.mem_of_getElem? (i := 35) rfl), lw_t5 (List.mem_of_getElem? (i := 103) rfl), lw_t5 (List.mem_of_getElem? (i := 104) rfl)⟩
theorem lw_p57 : lw_okq (⟨"LehrBelt", "number", "(II)I"⟩, 32) := ⟨⟨by decide +kernel, by decide +kernel⟩, lw_t1 (List.mem_of_getElem? (i := 35) rfl), lw_t5 (List.mem_of_getElem? (i := 107) rfl), lw_t5 (List.mem_of_getElem? (i := 108) rfl)⟩
theorem lw_p58 : lw_okq (⟨"LehrBelt", "soundByLaw", "(I)I"⟩, 32) := ⟨⟨by decide +kernel, by decide +kernel⟩, lw_t1 (List.mem_of_getElem? (i := 35) rfl), lw_t5 (List.mem_of_getElem? (i := 134) rfl), lw_t5 (List.mem_of_getElem? (i := 135) rfl)⟩
theorem lw_p59 : lw_okq (⟨"LehrBelt", "everyZone", "()I"⟩, 32) := ⟨⟨by decide +kernel, by decide +kernel⟩, lw_t1 (List.mem_of_getElem? (i := 35) rfl), lw_t5 (List.mem_of_getElem? (i := 146) rfl), lw_t5 (List.mem_of_getElem? (i := 147) rfl)⟩
theorem lw_p60 : lw_okq (⟨"LehrBelt", "worthOf", "(I)I"⟩, 32) := ⟨⟨by decide +kernel, by decide +kernel⟩, lw_t1 (List.mem_of_getElem? (i := 35) rfl), lw_t5 (List.mem_of_getElem? (i := 150) rfl), lw_t5 (List.mem_of_getElem? (i := 151) rfl)⟩
theorem lw_p61 : lw_okq (⟨"LehrBelt", "areTwo", "(II)Z"⟩, 32) := ⟨⟨by decide +kernel, by decide +kernel⟩, lw_t1 (List.mem_of_getElem? (i := 35) rfl), lw_t5 (List.mem_of_getElem? (i := 175) rfl), lw_t5 (List.mem_of_getElem? (i := 176) rfl)⟩
theorem lw_p62 : lw_okq (⟨"LehrBelt", "getsOf", "(IIII)I"⟩, 32) := ⟨⟨by decide +kernel, by decide +kernel⟩, lw_t1 (List.mem_of_getElem? (i := 35) rfl), lw_t5 (List.mem_of_getElem? (i := 179) rfl), lw_t5 (List.mem_of_getElem? (i := 180) rfl)⟩
theorem lw_p63 : lw_okq (⟨"LehrBelt", "isChance", "(I)Z"⟩, 32) := ⟨⟨by decide +kernel, by decide +kernel⟩, lw_t1 (List.mem_of_getElem? (i := 35) rfl), lw_t5 (List.mem_of_getElem? (i := 191) rfl), lw_t5 (List.mem_of_getElem? (i := 192) rfl)⟩
def lw_privs_4 : List (MethodName × Nat) := [(⟨"LehrBelt", "isSoundBy", "(I)Z"⟩, 32), (⟨"LehrBelt", "paceOf", "()I"⟩, 32), (⟨"LehrBelt", "soundBy", "(I)I"⟩, 32), (⟨"LehrBelt", "soundMany", "()I"⟩, 32), (⟨"LehrBelt", "raiseOf", "(II)I"⟩, 32), (⟨"LehrBelt", "changes", "(II)V"⟩, 32), (⟨"LehrBelt", "laysFits", "(II)I"⟩, 32), (⟨"LehrBelt", "asksSeen", "(I)I"⟩, 32), (⟨"LehrBelt", "isSo", "(I)Z"⟩, 32), (⟨"LehrBelt", "number", "(II)I"⟩, 32), (⟨"LehrBelt", "soundByLaw", "(I)I"⟩, 32), (⟨"LehrBelt", "everyZone", "()I"⟩, 32), (⟨"LehrBelt", "worthOf", "(I)I"⟩, 32), (⟨"LehrBelt", "areTwo", "(II)Z"⟩, 32), (⟨"LehrBelt", "getsOf", "(IIII)I"⟩, 32), (⟨"LehrBelt", "isChance", "(I)Z"⟩, 32)]
theorem lw_r4 : ∀ q ∈ lw_privs_4, lw_okq q := List.forall_mem_cons.mpr ⟨lw_p48, List.forall_mem_cons.mpr ⟨lw_p49, List.forall_mem_cons.mpr ⟨lw_p50, List.forall_mem_cons.mpr ⟨lw_p51, List.forall_mem_cons.mpr ⟨lw_p52, List.forall_mem_cons.mpr ⟨lw_p53, List.forall_mem_cons.mpr ⟨lw_p54, List.forall_mem_cons.mpr ⟨lw_p55, List.forall_mem_cons.mpr ⟨lw_p56, List.forall_mem_cons.mpr ⟨lw_p57, List.forall_mem_cons.mpr ⟨lw_p58, List.forall_mem_cons.mpr ⟨lw_p59, List.forall_mem_cons.mpr ⟨lw_p60, List.forall_mem_cons.mpr ⟨lw_p61, List.forall_mem_cons.mpr ⟨lw_p62, List.forall_mem_cons.mpr ⟨lw_p63, fun _ h => absurd h List.not_mem_nil⟩⟩⟩⟩⟩⟩⟩⟩⟩⟩⟩⟩⟩⟩⟩⟩
theorem lw_p64 : lw_okq (⟨"LehrBelt", "laysChance", "(II)V"⟩, 32) := ⟨⟨by decide +kernel, by decide +kernel⟩, lw_t1 (List.mem_of_getElem? (i := 35) rfl), lw_t5 (List.mem_of_getElem? (i := 196) rfl), lw_t5 (List.mem_of_getElem? (i := 197) rfl)⟩
theorem lw_p65 : lw_okq (⟨"LehrBelt", "draws", "(J)V"⟩, 32) := ⟨⟨by decide +kernel, by decide +kernel⟩, lw_t1 (List.mem_of_getElem? (i := 35) rfl), lw_t5 (List.mem_of_getElem? (i := 213) rfl), lw_t5 (List.mem_of_getElem? (i := 214) rfl)⟩
theorem lw_p66 : lw_okq (⟨"LehrBelt", "kept", "(I)I"⟩, 32) := ⟨⟨by decide +kernel, by decide +kernel⟩, lw_t1 (List.mem_of_getElem? (i := 35) rfl), lw_t5 (List.mem_of_getElem? (i := 232) rfl), lw_t5 (List.mem_of_getElem? (i := 233) rfl)⟩
theorem lw_p67 : lw_okq (⟨"java/util/ArrayList", "add", "(Ljava/lang/Object;[Ljava/lang/Object;I)V"⟩, 3) := ⟨⟨by decide +kernel, by decide +kernel⟩, lw_t1 (List.mem_of_getElem? (i := 182) rfl), lw_t6 (List.mem_of_getElem? (i := 30) rfl), lw_t6 (List.mem_of_getElem? (i := 31) rfl)⟩
theorem lw_p68 : lw_okq (⟨"java/util/ArrayList", "grow", "()[Ljava/lang/Object;"⟩, 3) := ⟨⟨by decide +kernel, by decide +kernel⟩, lw_t1 (List.mem_of_getElem? (i := 182) rfl), lw_t6 (List.mem_of_getElem? (i := 34) rfl), lw_t6 (List.mem_of_getElem? (i := 35) rfl)⟩
theorem lw_p69 : lw_okq (⟨"java/util/ArrayList", "grow", "(I)[Ljava/lang/Object;"⟩, 3) := ⟨⟨by decide +kernel, by decide +kernel⟩, lw_t1 (List.mem_of_getElem? (i := 182) rfl), lw_t6 (List.mem_of_getElem? (i := 38) rfl), lw_t6 (List.mem_of_getElem? (i := 39) rfl)⟩
theorem lw_p70 : lw_okq (⟨"LehrBeltModel", "four", "(I)V"⟩, 39) := ⟨⟨by decide +kernel, by decide +kernel⟩, lw_t6 (List.mem_of_getElem? (i := 197) rfl), lw_t7 (List.mem_of_getElem? (i := 108) rfl), lw_t7 (List.mem_of_getElem? (i := 109) rfl)⟩
theorem lw_p71 : lw_okq (⟨"LehrBeltModel", "clears", "()V"⟩, 39) := ⟨⟨by decide +kernel, by decide +kernel⟩, lw_t6 (List.mem_of_getElem? (i := 197) rfl), lw_t7 (List.mem_of_getElem? (i := 124) rfl), lw_t7 (List.mem_of_getElem? (i := 125) rfl)⟩
theorem lw_p72 : lw_okq (⟨"LehrBeltModel", "tells", "(II)V"⟩, 39) := ⟨⟨by decide +kernel, by decide +kernel⟩, lw_t6 (List.mem_of_getElem? (i := 197) rfl), lw_t7 (List.mem_of_getElem? (i := 128) rfl), lw_t7 (List.mem_of_getElem? (i := 129) rfl)⟩
theorem lw_p73 : lw_okq (⟨"LehrBeltModel", "begins", "()V"⟩, 39) := ⟨⟨by decide +kernel, by decide +kernel⟩, lw_t6 (List.mem_of_getElem? (i := 197) rfl), lw_t7 (List.mem_of_getElem? (i := 132) rfl), lw_t7 (List.mem_of_getElem? (i := 133) rfl)⟩
theorem lw_p74 : lw_okq (⟨"LehrBeltModel", "next", "()V"⟩, 39) := ⟨⟨by decide +kernel, by decide +kernel⟩, lw_t6 (List.mem_of_getElem? (i := 197) rfl), lw_t7 (List.mem_of_getElem? (i := 136) rfl), lw_t7 (List.mem_of_getElem? (i := 137) rfl)⟩
theorem lw_p75 : lw_okq (⟨"LehrBeltModel", "isByte", "(III)Z"⟩, 39) := ⟨⟨by decide +kernel, by decide +kernel⟩, lw_t6 (List.mem_of_getElem? (i := 197) rfl), lw_t7 (List.mem_of_getElem? (i := 140) rfl), lw_t7 (List.mem_of_getElem? (i := 141) rfl)⟩
theorem lw_p76 : lw_okq (⟨"LehrBeltModel", "isGood", "()Z"⟩, 39) := ⟨⟨by decide +kernel, by decide +kernel⟩, lw_t6 (List.mem_of_getElem? (i := 197) rfl), lw_t7 (List.mem_of_getElem? (i := 149) rfl), lw_t7 (List.mem_of_getElem? (i := 150) rfl)⟩
theorem lw_p77 : lw_okq (⟨"LehrBeltModel", "asks", "(J)V"⟩, 39) := ⟨⟨by decide +kernel, by decide +kernel⟩, lw_t6 (List.mem_of_getElem? (i := 197) rfl), lw_t7 (List.mem_of_getElem? (i := 154) rfl), lw_t7 (List.mem_of_getElem? (i := 155) rfl)⟩
theorem lw_p78 : lw_okq (⟨"LehrBeltModel", "takesWord", "(J)Z"⟩, 39) := ⟨⟨by decide +kernel, by decide +kernel⟩, lw_t6 (List.mem_of_getElem? (i := 197) rfl), lw_t7 (List.mem_of_getElem? (i := 158) rfl), lw_t7 (List.mem_of_getElem? (i := 159) rfl)⟩
theorem lw_p79 : lw_okq (⟨"LehrBeltModel", "is", "(J)Z"⟩, 39) := ⟨⟨by decide +kernel, by decide +kernel⟩, lw_t6 (List.mem_of_getElem? (i := 197) rfl), lw_t7 (List.mem_of_getElem? (i := 162) rfl), lw_t7 (List.mem_of_getElem? (i := 163) rfl)⟩
def lw_privs_5 : List (MethodName × Nat) := [(⟨"LehrBelt", "laysChance", "(II)V"⟩, 32), (⟨"LehrBelt", "draws", "(J)V"⟩, 32), (⟨"LehrBelt", "kept", "(I)I"⟩, 32), (⟨"java/util/ArrayList", "add", "(Ljava/lang/Object;[Ljava/lang/Object;I)V"⟩, 3), (⟨"java/util/ArrayList", "grow", "()[Ljava/lang/Object;"⟩, 3), (⟨"java/util/ArrayList", "grow", "(I)[Ljava/lang/Object;"⟩, 3), (⟨"LehrBeltModel", "four", "(I)V"⟩, 39), (⟨"LehrBeltModel", "clears", "()V"⟩, 39), (⟨"LehrBeltModel", "tells", "(II)V"⟩, 39), (⟨"LehrBeltModel", "begins", "()V"⟩, 39), (⟨"LehrBeltModel", "next", "()V"⟩, 39), (⟨"LehrBeltModel", "isByte", "(III)Z"⟩, 39), (⟨"LehrBeltModel", "isGood", "()Z"⟩, 39), (⟨"LehrBeltModel", "asks", "(J)V"⟩, 39), (⟨"LehrBeltModel", "takesWord", "(J)Z"⟩, 39), (⟨"LehrBeltModel", "is", "(J)Z"⟩, 39)]
theorem lw_r5 : ∀ q ∈ lw_privs_5, lw_okq q := List.forall_mem_cons.mpr ⟨lw_p64, List.forall_mem_cons.mpr ⟨lw_p65, List.forall_mem_cons.mpr ⟨lw_p66, List.forall_mem_cons.mpr ⟨lw_p67, List.forall_mem_cons.mpr ⟨lw_p68, List.forall_mem_cons.mpr ⟨lw_p69, List.forall_mem_cons.mpr ⟨lw_p70, List.forall_mem_cons.mpr ⟨lw_p71, List.forall_mem_cons.mpr ⟨lw_p72, List.forall_mem_cons.mpr ⟨lw_p73, List.forall_mem_cons.mpr ⟨lw_p74, List.forall_mem_cons.mpr ⟨lw_p75, List.forall_mem_cons.mpr ⟨lw_p76, List.forall_mem_cons.mpr ⟨lw_p77, List.forall_mem_cons.mpr ⟨lw_p78, List.forall_mem_cons.mpr ⟨lw_p79, fun _ h => absurd h List.not_mem_nil⟩⟩⟩⟩⟩⟩⟩⟩⟩⟩⟩⟩⟩⟩⟩⟩
theorem lw_p80 : lw_okq (⟨"LehrBeltModel", "fails", "(I)V"⟩, 39) := ⟨⟨by decide +kernel, by decide +kernel⟩, lw_t6 (List.mem_of_getElem? (i := 197) rfl), lw_t7 (List.mem_of_getElem? (i := 166) rfl), lw_t7 (List.mem_of_getElem? (i := 167) rfl)⟩
theorem lw_p81 : lw_okq (⟨"LehrBeltModel", "number", "(JII)I"⟩, 39) := ⟨⟨by decide +kernel, by decide +kernel⟩, lw_t6 (List.mem_of_getElem? (i := 197) rfl), lw_t7 (List.mem_of_getElem? (i := 171) rfl), lw_t7 (List.mem_of_getElem? (i := 172) rfl)⟩
theorem lw_p82 : lw_okq (⟨"LehrBeltModel", "number", "(II)I"⟩, 39) := ⟨⟨by decide +kernel, by decide +kernel⟩, lw_t6 (List.mem_of_getElem? (i := 197) rfl), lw_t7 (List.mem_of_getElem? (i := 175) rfl), lw_t7 (List.mem_of_getElem? (i := 176) rfl)⟩
theorem lw_p83 : lw_okq (⟨"LehrBeltModel", "lineHere", "()V"⟩, 39) := ⟨⟨by decide +kernel, by decide +kernel⟩, lw_t6 (List.mem_of_getElem? (i := 197) rfl), lw_t7 (List.mem_of_getElem? (i := 183) rfl), lw_t7 (List.mem_of_getElem? (i := 184) rfl)⟩
theorem lw_p84 : lw_okq (⟨"LehrBeltModel", "isRoom", "(ZII)Z"⟩, 39) := ⟨⟨by decide +kernel, by decide +kernel⟩, lw_t6 (List.mem_of_getElem? (i := 197) rfl), lw_t7 (List.mem_of_getElem? (i := 188) rfl), lw_t7 (List.mem_of_getElem? (i := 189) rfl)⟩
theorem lw_p85 : lw_okq (⟨"LehrBeltModel", "hasRead", "(I)I"⟩, 39) := ⟨⟨by decide +kernel, by decide +kernel⟩, lw_t6 (List.mem_of_getElem? (i := 197) rfl), lw_t7 (List.mem_of_getElem? (i := 192) rfl), lw_t7 (List.mem_of_getElem? (i := 193) rfl)⟩
theorem lw_p86 : lw_okq (⟨"LehrBeltModel", "pieceLine", "()V"⟩, 39) := ⟨⟨by decide +kernel, by decide +kernel⟩, lw_t6 (List.mem_of_getElem? (i := 197) rfl), lw_t7 (List.mem_of_getElem? (i := 197) rfl), lw_t7 (List.mem_of_getElem? (i := 198) rfl)⟩
theorem lw_p87 : lw_okq (⟨"LehrBeltModel", "ends", "()V"⟩, 39) := ⟨⟨by decide +kernel, by decide +kernel⟩, lw_t6 (List.mem_of_getElem? (i := 197) rfl), lw_t7 (List.mem_of_getElem? (i := 205) rfl), lw_t7 (List.mem_of_getElem? (i := 206) rfl)⟩
theorem lw_p88 : lw_okq (⟨"LehrBeltModel", "isOver", "()V"⟩, 39) := ⟨⟨by decide +kernel, by decide +kernel⟩, lw_t6 (List.mem_of_getElem? (i := 197) rfl), lw_t7 (List.mem_of_getElem? (i := 209) rfl), lw_t7 (List.mem_of_getElem? (i := 210) rfl)⟩
theorem lw_p89 : lw_okq (⟨"LehrBeltModel", "copyLehr", "(II)V"⟩, 39) := ⟨⟨by decide +kernel, by decide +kernel⟩, lw_t6 (List.mem_of_getElem? (i := 197) rfl), lw_t7 (List.mem_of_getElem? (i := 213) rfl), lw_t7 (List.mem_of_getElem? (i := 214) rfl)⟩
theorem lw_p90 : lw_okq (⟨"LehrBeltModel", "isZone", "(I)Z"⟩, 39) := ⟨⟨by decide +kernel, by decide +kernel⟩, lw_t6 (List.mem_of_getElem? (i := 197) rfl), lw_t7 (List.mem_of_getElem? (i := 224) rfl), lw_t7 (List.mem_of_getElem? (i := 225) rfl)⟩
theorem lw_p91 : lw_okq (⟨"LehrBeltModel", "isPiece", "(J)Z"⟩, 39) := ⟨⟨by decide +kernel, by decide +kernel⟩, lw_t6 (List.mem_of_getElem? (i := 197) rfl), lw_t7 (List.mem_of_getElem? (i := 232) rfl), lw_t7 (List.mem_of_getElem? (i := 233) rfl)⟩
theorem lw_p92 : lw_okq (⟨"LehrBeltModel", "pieces", "()I"⟩, 39) := ⟨⟨by decide +kernel, by decide +kernel⟩, lw_t6 (List.mem_of_getElem? (i := 197) rfl), lw_t7 (List.mem_of_getElem? (i := 236) rfl), lw_t7 (List.mem_of_getElem? (i := 237) rfl)⟩
theorem lw_p93 : lw_okq (⟨"LehrBeltModel", "isStep", "(J)Z"⟩, 39) := ⟨⟨by decide +kernel, by decide +kernel⟩, lw_t6 (List.mem_of_getElem? (i := 197) rfl), lw_t8 (List.mem_of_getElem? (i := 4) rfl), lw_t8 (List.mem_of_getElem? (i := 5) rfl)⟩
theorem lw_p94 : lw_okq (⟨"LehrBeltModel", "isLehr", "()Z"⟩, 39) := ⟨⟨by decide +kernel, by decide +kernel⟩, lw_t6 (List.mem_of_getElem? (i := 197) rfl), lw_t8 (List.mem_of_getElem? (i := 8) rfl), lw_t8 (List.mem_of_getElem? (i := 9) rfl)⟩
theorem lw_p95 : lw_okq (⟨"LehrBeltModel", "steps", "()I"⟩, 39) := ⟨⟨by decide +kernel, by decide +kernel⟩, lw_t6 (List.mem_of_getElem? (i := 197) rfl), lw_t8 (List.mem_of_getElem? (i := 12) rfl), lw_t8 (List.mem_of_getElem? (i := 13) rfl)⟩
def lw_privs_6 : List (MethodName × Nat) := [(⟨"LehrBeltModel", "fails", "(I)V"⟩, 39), (⟨"LehrBeltModel", "number", "(JII)I"⟩, 39), (⟨"LehrBeltModel", "number", "(II)I"⟩, 39), (⟨"LehrBeltModel", "lineHere", "()V"⟩, 39), (⟨"LehrBeltModel", "isRoom", "(ZII)Z"⟩, 39), (⟨"LehrBeltModel", "hasRead", "(I)I"⟩, 39), (⟨"LehrBeltModel", "pieceLine", "()V"⟩, 39), (⟨"LehrBeltModel", "ends", "()V"⟩, 39), (⟨"LehrBeltModel", "isOver", "()V"⟩, 39), (⟨"LehrBeltModel", "copyLehr", "(II)V"⟩, 39), (⟨"LehrBeltModel", "isZone", "(I)Z"⟩, 39), (⟨"LehrBeltModel", "isPiece", "(J)Z"⟩, 39), (⟨"LehrBeltModel", "pieces", "()I"⟩, 39), (⟨"LehrBeltModel", "isStep", "(J)Z"⟩, 39), (⟨"LehrBeltModel", "isLehr", "()Z"⟩, 39), (⟨"LehrBeltModel", "steps", "()I"⟩, 39)]
theorem lw_r6 : ∀ q ∈ lw_privs_6, lw_okq q := List.forall_mem_cons.mpr ⟨lw_p80, List.forall_mem_cons.mpr ⟨lw_p81, List.forall_mem_cons.mpr ⟨lw_p82, List.forall_mem_cons.mpr ⟨lw_p83, List.forall_mem_cons.mpr ⟨lw_p84, List.forall_mem_cons.mpr ⟨lw_p85, List.forall_mem_cons.mpr ⟨lw_p86, List.forall_mem_cons.mpr ⟨lw_p87, List.forall_mem_cons.mpr ⟨lw_p88, List.forall_mem_cons.mpr ⟨lw_p89, List.forall_mem_cons.mpr ⟨lw_p90, List.forall_mem_cons.mpr ⟨lw_p91, List.forall_mem_cons.mpr ⟨lw_p92, List.forall_mem_cons.mpr ⟨lw_p93, List.forall_mem_cons.mpr ⟨lw_p94, List.forall_mem_cons.mpr ⟨lw_p95, fun _ h => absurd h List.not_mem_nil⟩⟩⟩⟩⟩⟩⟩⟩⟩⟩⟩⟩⟩⟩⟩⟩
theorem lw_p96 : lw_okq (⟨"LehrBeltModel", "lays", "()V"⟩, 39) := ⟨⟨by decide +kernel, by decide +kernel⟩, lw_t6 (List.mem_of_getElem? (i := 197) rfl), lw_t8 (List.mem_of_getElem? (i := 16) rfl), lw_t8 (List.mem_of_getElem? (i := 17) rfl)⟩
theorem lw_p97 : lw_okq (⟨"LehrBeltModel", "airOf", "(II)I"⟩, 39) := ⟨⟨by decide +kernel, by decide +kernel⟩, lw_t6 (List.mem_of_getElem? (i := 197) rfl), lw_t8 (List.mem_of_getElem? (i := 20) rfl), lw_t8 (List.mem_of_getElem? (i := 21) rfl)⟩
theorem lw_p98 : lw_okq (⟨"LehrBeltModel", "isThen", "(II)Z"⟩, 39) := ⟨⟨by decide +kernel, by decide +kernel⟩, lw_t6 (List.mem_of_getElem? (i := 197) rfl), lw_t8 (List.mem_of_getElem? (i := 34) rfl), lw_t8 (List.mem_of_getElem? (i := 35) rfl)⟩
theorem lw_p99 : lw_okq (⟨"LehrBeltModel", "whereOf", "(II)I"⟩, 39) := ⟨⟨by decide +kernel, by decide +kernel⟩, lw_t6 (List.mem_of_getElem? (i := 197) rfl), lw_t8 (List.mem_of_getElem? (i := 38) rfl), lw_t8 (List.mem_of_getElem? (i := 39) rfl)⟩
theorem lw_p100 : lw_okq (⟨"LehrBeltModel", "comes", "(I)I"⟩, 39) := ⟨⟨by decide +kernel, by decide +kernel⟩, lw_t6 (List.mem_of_getElem? (i := 197) rfl), lw_t8 (List.mem_of_getElem? (i := 42) rfl), lw_t8 (List.mem_of_getElem? (i := 43) rfl)⟩
theorem lw_p101 : lw_okq (⟨"LehrBeltModel", "insideOf", "(II)I"⟩, 39) := ⟨⟨by decide +kernel, by decide +kernel⟩, lw_t6 (List.mem_of_getElem? (i := 197) rfl), lw_t8 (List.mem_of_getElem? (i := 50) rfl), lw_t8 (List.mem_of_getElem? (i := 51) rfl)⟩
theorem lw_p102 : lw_okq (⟨"LehrBeltModel", "laysNow", "()V"⟩, 39) := ⟨⟨by decide +kernel, by decide +kernel⟩, lw_t6 (List.mem_of_getElem? (i := 197) rfl), lw_t8 (List.mem_of_getElem? (i := 66) rfl), lw_t8 (List.mem_of_getElem? (i := 67) rfl)⟩
theorem lw_p103 : lw_okq (⟨"LehrBeltModel", "runs", "()V"⟩, 39) := ⟨⟨by decide +kernel, by decide +kernel⟩, lw_t6 (List.mem_of_getElem? (i := 197) rfl), lw_t8 (List.mem_of_getElem? (i := 70) rfl), lw_t8 (List.mem_of_getElem? (i := 71) rfl)⟩
theorem lw_p104 : lw_okq (⟨"LehrBeltModel", "goesOn", "(II)V"⟩, 39) := ⟨⟨by decide +kernel, by decide +kernel⟩, lw_t6 (List.mem_of_getElem? (i := 197) rfl), lw_t8 (List.mem_of_getElem? (i := 74) rfl), lw_t8 (List.mem_of_getElem? (i := 75) rfl)⟩
theorem lw_p105 : lw_okq (⟨"LehrBeltModel", "skinOf", "(II)I"⟩, 39) := ⟨⟨by decide +kernel, by decide +kernel⟩, lw_t6 (List.mem_of_getElem? (i := 197) rfl), lw_t8 (List.mem_of_getElem? (i := 78) rfl), lw_t8 (List.mem_of_getElem? (i := 79) rfl)⟩
theorem lw_p106 : lw_okq (⟨"LehrBeltModel", "coreOf", "(II)I"⟩, 39) := ⟨⟨by decide +kernel, by decide +kernel⟩, lw_t6 (List.mem_of_getElem? (i := 197) rfl), lw_t8 (List.mem_of_getElem? (i := 82) rfl), lw_t8 (List.mem_of_getElem? (i := 83) rfl)⟩
theorem lw_p107 : lw_okq (⟨"LehrBeltModel", "pullOf", "(III)I"⟩, 39) := ⟨⟨by decide +kernel, by decide +kernel⟩, lw_t6 (List.mem_of_getElem? (i := 197) rfl), lw_t8 (List.mem_of_getElem? (i := 86) rfl), lw_t8 (List.mem_of_getElem? (i := 87) rfl)⟩
theorem lw_p108 : lw_okq (⟨"LehrBeltModel", "strainOf", "(II)I"⟩, 39) := ⟨⟨by decide +kernel, by decide +kernel⟩, lw_t6 (List.mem_of_getElem? (i := 197) rfl), lw_t8 (List.mem_of_getElem? (i := 93) rfl), lw_t8 (List.mem_of_getElem? (i := 94) rfl)⟩
theorem lw_p109 : lw_okq (⟨"LehrBeltModel", "peakOf", "(I)I"⟩, 39) := ⟨⟨by decide +kernel, by decide +kernel⟩, lw_t6 (List.mem_of_getElem? (i := 197) rfl), lw_t8 (List.mem_of_getElem? (i := 112) rfl), lw_t8 (List.mem_of_getElem? (i := 113) rfl)⟩
theorem lw_p110 : lw_okq (⟨"LehrBeltModel", "hasCome", "(II)Z"⟩, 39) := ⟨⟨by decide +kernel, by decide +kernel⟩, lw_t6 (List.mem_of_getElem? (i := 197) rfl), lw_t8 (List.mem_of_getElem? (i := 140) rfl), lw_t8 (List.mem_of_getElem? (i := 141) rfl)⟩
theorem lw_p111 : lw_okq (⟨"LehrBeltModel", "isWhole", "(II)Z"⟩, 39) := ⟨⟨by decide +kernel, by decide +kernel⟩, lw_t6 (List.mem_of_getElem? (i := 197) rfl), lw_t8 (List.mem_of_getElem? (i := 144) rfl), lw_t8 (List.mem_of_getElem? (i := 145) rfl)⟩
def lw_privs_7 : List (MethodName × Nat) := [(⟨"LehrBeltModel", "lays", "()V"⟩, 39), (⟨"LehrBeltModel", "airOf", "(II)I"⟩, 39), (⟨"LehrBeltModel", "isThen", "(II)Z"⟩, 39), (⟨"LehrBeltModel", "whereOf", "(II)I"⟩, 39), (⟨"LehrBeltModel", "comes", "(I)I"⟩, 39), (⟨"LehrBeltModel", "insideOf", "(II)I"⟩, 39), (⟨"LehrBeltModel", "laysNow", "()V"⟩, 39), (⟨"LehrBeltModel", "runs", "()V"⟩, 39), (⟨"LehrBeltModel", "goesOn", "(II)V"⟩, 39), (⟨"LehrBeltModel", "skinOf", "(II)I"⟩, 39), (⟨"LehrBeltModel", "coreOf", "(II)I"⟩, 39), (⟨"LehrBeltModel", "pullOf", "(III)I"⟩, 39), (⟨"LehrBeltModel", "strainOf", "(II)I"⟩, 39), (⟨"LehrBeltModel", "peakOf", "(I)I"⟩, 39), (⟨"LehrBeltModel", "hasCome", "(II)Z"⟩, 39), (⟨"LehrBeltModel", "isWhole", "(II)Z"⟩, 39)]
theorem lw_r7 : ∀ q ∈ lw_privs_7, lw_okq q := List.forall_mem_cons.mpr ⟨lw_p96, List.forall_mem_cons.mpr ⟨lw_p97, List.forall_mem_cons.mpr ⟨lw_p98, List.forall_mem_cons.mpr ⟨lw_p99, List.forall_mem_cons.mpr ⟨lw_p100, List.forall_mem_cons.mpr ⟨lw_p101, List.forall_mem_cons.mpr ⟨lw_p102, List.forall_mem_cons.mpr ⟨lw_p103, List.forall_mem_cons.mpr ⟨lw_p104, List.forall_mem_cons.mpr ⟨lw_p105, List.forall_mem_cons.mpr ⟨lw_p106, List.forall_mem_cons.mpr ⟨lw_p107, List.forall_mem_cons.mpr ⟨lw_p108, List.forall_mem_cons.mpr ⟨lw_p109, List.forall_mem_cons.mpr ⟨lw_p110, List.forall_mem_cons.mpr ⟨lw_p111, fun _ h => absurd h List.not_mem_nil⟩⟩⟩⟩⟩⟩⟩⟩⟩⟩⟩⟩⟩⟩⟩⟩
theorem lw_p112 : lw_okq (⟨"LehrBeltModel", "soundNow", "()I"⟩, 39) := ⟨⟨by decide +kernel, by decide +kernel⟩, lw_t6 (List.mem_of_getElem? (i := 197) rfl), lw_t8 (List.mem_of_getElem? (i := 152) rfl), lw_t8 (List.mem_of_getElem? (i := 153) rfl)⟩
theorem lw_p113 : lw_okq (⟨"LehrBeltModel", "mostAt", "(II)I"⟩, 39) := ⟨⟨by decide +kernel, by decide +kernel⟩, lw_t6 (List.mem_of_getElem? (i := 197) rfl), lw_t8 (List.mem_of_getElem? (i := 164) rfl), lw_t8 (List.mem_of_getElem? (i := 165) rfl)⟩
theorem lw_p114 : lw_okq (⟨"LehrBeltModel", "markOf", "(III)I"⟩, 39) := ⟨⟨by decide +kernel, by decide +kernel⟩, lw_t6 (List.mem_of_getElem? (i := 197) rfl), lw_t8 (List.mem_of_getElem? (i := 168) rfl), lw_t8 (List.mem_of_getElem? (i := 169) rfl)⟩
theorem lw_p115 : lw_okq (⟨"LehrBeltModel", "crackedIn", "(I)I"⟩, 39) := ⟨⟨by decide +kernel, by decide +kernel⟩, lw_t6 (List.mem_of_getElem? (i := 197) rfl), lw_t8 (List.mem_of_getElem? (i := 188) rfl), lw_t8 (List.mem_of_getElem? (i := 189) rfl)⟩
theorem lw_p116 : lw_okq (⟨"LehrBeltModel", "fallOf", "(II)I"⟩, 39) := ⟨⟨by decide +kernel, by decide +kernel⟩, lw_t6 (List.mem_of_getElem? (i := 197) rfl), lw_t8 (List.mem_of_getElem? (i := 232) rfl), lw_t8 (List.mem_of_getElem? (i := 233) rfl)⟩
theorem lw_p117 : lw_okq (⟨"LehrBeltModel", "dropOf", "(II)I"⟩, 39) := ⟨⟨by decide +kernel, by decide +kernel⟩, lw_t6 (List.mem_of_getElem? (i := 197) rfl), lw_t9 (List.mem_of_getElem? (i := 8) rfl), lw_t9 (List.mem_of_getElem? (i := 9) rfl)⟩
theorem lw_p118 : lw_okq (⟨"LehrBeltModel", "isAhead", "(I)Z"⟩, 39) := ⟨⟨by decide +kernel, by decide +kernel⟩, lw_t6 (List.mem_of_getElem? (i := 197) rfl), lw_t9 (List.mem_of_getElem? (i := 16) rfl), lw_t9 (List.mem_of_getElem? (i := 17) rfl)⟩
theorem lw_p119 : lw_okq (⟨"LehrBeltModel", "busyOf", "(I)I"⟩, 39) := ⟨⟨by decide +kernel, by decide +kernel⟩, lw_t6 (List.mem_of_getElem? (i := 197) rfl), lw_t9 (List.mem_of_getElem? (i := 50) rfl), lw_t9 (List.mem_of_getElem? (i := 51) rfl)⟩
theorem lw_p120 : lw_okq (⟨"LehrBeltModel", "isSound", "(I)Z"⟩, 39) := ⟨⟨by decide +kernel, by decide +kernel⟩, lw_t6 (List.mem_of_getElem? (i := 197) rfl), lw_t9 (List.mem_of_getElem? (i := 66) rfl), lw_t9 (List.mem_of_getElem? (i := 67) rfl)⟩
theorem lw_p121 : lw_okq (⟨"LehrBeltModel", "bestPace", "()I"⟩, 39) := ⟨⟨by decide +kernel, by decide +kernel⟩, lw_t6 (List.mem_of_getElem? (i := 197) rfl), lw_t9 (List.mem_of_getElem? (i := 82) rfl), lw_t9 (List.mem_of_getElem? (i := 83) rfl)⟩
theorem lw_p122 : lw_okq (⟨"LehrBeltModel", "soundBy", "(I)I"⟩, 39) := ⟨⟨by decide +kernel, by decide +kernel⟩, lw_t6 (List.mem_of_getElem? (i := 197) rfl), lw_t9 (List.mem_of_getElem? (i := 86) rfl), lw_t9 (List.mem_of_getElem? (i := 87) rfl)⟩
theorem lw_p123 : lw_okq (⟨"LehrBeltModel", "raiseOf", "(II)I"⟩, 39) := ⟨⟨by decide +kernel, by decide +kernel⟩, lw_t6 (List.mem_of_getElem? (i := 197) rfl), lw_t9 (List.mem_of_getElem? (i := 98) rfl), lw_t9 (List.mem_of_getElem? (i := 99) rfl)⟩
theorem lw_p124 : lw_okq (⟨"LehrBeltModel", "skips", "(I)V"⟩, 39) := ⟨⟨by decide +kernel, by decide +kernel⟩, lw_t6 (List.mem_of_getElem? (i := 197) rfl), lw_t9 (List.mem_of_getElem? (i := 114) rfl), lw_t9 (List.mem_of_getElem? (i := 115) rfl)⟩
theorem lw_p125 : lw_okq (⟨"LehrBeltModel", "whyNot", "(IZ)I"⟩, 39) := ⟨⟨by decide +kernel, by decide +kernel⟩, lw_t6 (List.mem_of_getElem? (i := 197) rfl), lw_t9 (List.mem_of_getElem? (i := 122) rfl), lw_t9 (List.mem_of_getElem? (i := 123) rfl)⟩
theorem lw_p126 : lw_okq (⟨"LehrBeltModel", "laysSeen", "(II)V"⟩, 39) := ⟨⟨by decide +kernel, by decide +kernel⟩, lw_t6 (List.mem_of_getElem? (i := 197) rfl), lw_t9 (List.mem_of_getElem? (i := 127) rfl), lw_t9 (List.mem_of_getElem? (i := 128) rfl)⟩
theorem lw_p127 : lw_okq (⟨"LehrBeltModel", "isSo", "(I)Z"⟩, 39) := ⟨⟨by decide +kernel, by decide +kernel⟩, lw_t6 (List.mem_of_getElem? (i := 197) rfl), lw_t9 (List.mem_of_getElem? (i := 131) rfl), lw_t9 (List.mem_of_getElem? (i := 132) rfl)⟩
def lw_privs_8 : List (MethodName × Nat) := [(⟨"LehrBeltModel", "soundNow", "()I"⟩, 39), (⟨"LehrBeltModel", "mostAt", "(II)I"⟩, 39), (⟨"LehrBeltModel", "markOf", "(III)I"⟩, 39), (⟨"LehrBeltModel", "crackedIn", "(I)I"⟩, 39), (⟨"LehrBeltModel", "fallOf", "(II)I"⟩, 39), (⟨"LehrBeltModel", "dropOf", "(II)I"⟩, 39), (⟨"LehrBeltModel", "isAhead", "(I)Z"⟩, 39), (⟨"LehrBeltModel", "busyOf", "(I)I"⟩, 39), (⟨"LehrBeltModel", "isSound", "(I)Z"⟩, 39), (⟨"LehrBeltModel", "bestPace", "()I"⟩, 39), (⟨"LehrBeltModel", "soundBy", "(I)I"⟩, 39), (⟨"LehrBeltModel", "raiseOf", "(II)I"⟩, 39), (⟨"LehrBeltModel", "skips", "(I)V"⟩, 39), (⟨"LehrBeltModel", "whyNot", "(IZ)I"⟩, 39), (⟨"LehrBeltModel", "laysSeen", "(II)V"⟩, 39), (⟨"LehrBeltModel", "isSo", "(I)Z"⟩, 39)]
theorem lw_r8 : ∀ q ∈ lw_privs_8, lw_okq q := List.forall_mem_cons.mpr ⟨lw_p112, List.forall_mem_cons.mpr ⟨lw_p113, List.forall_mem_cons.mpr ⟨lw_p114, List.forall_mem_cons.mpr ⟨lw_p115, List.forall_mem_cons.mpr ⟨lw_p116, List.forall_mem_cons.mpr ⟨lw_p117, List.forall_mem_cons.mpr ⟨lw_p118, List.forall_mem_cons.mpr ⟨lw_p119, List.forall_mem_cons.mpr ⟨lw_p120, List.forall_mem_cons.mpr ⟨lw_p121, List.forall_mem_cons.mpr ⟨lw_p122, List.forall_mem_cons.mpr ⟨lw_p123, List.forall_mem_cons.mpr ⟨lw_p124, List.forall_mem_cons.mpr ⟨lw_p125, List.forall_mem_cons.mpr ⟨lw_p126, List.forall_mem_cons.mpr ⟨lw_p127, fun _ h => absurd h List.not_mem_nil⟩⟩⟩⟩⟩⟩⟩⟩⟩⟩⟩⟩⟩⟩⟩⟩
theorem lw_p128 : lw_okq (⟨"LehrBeltModel", "byLaw", "(I)I"⟩, 39) := ⟨⟨by decide +kernel, by decide +kernel⟩, lw_t6 (List.mem_of_getElem? (i := 197) rfl), lw_t9 (List.mem_of_getElem? (i := 151) rfl), lw_t9 (List.mem_of_getElem? (i := 152) rfl)⟩
theorem lw_p129 : lw_okq (⟨"LehrBeltModel", "worthOf", "(I)I"⟩, 39) := ⟨⟨by decide +kernel, by decide +kernel⟩, lw_t6 (List.mem_of_getElem? (i := 197) rfl), lw_t9 (List.mem_of_getElem? (i := 167) rfl), lw_t9 (List.mem_of_getElem? (i := 168) rfl)⟩
theorem lw_p130 : lw_okq (⟨"LehrBeltModel", "areTwo", "(II)Z"⟩, 39) := ⟨⟨by decide +kernel, by decide +kernel⟩, lw_t6 (List.mem_of_getElem? (i := 197) rfl), lw_t9 (List.mem_of_getElem? (i := 192) rfl), lw_t9 (List.mem_of_getElem? (i := 193) rfl)⟩
theorem lw_p131 : lw_okq (⟨"LehrBeltModel", "getsBy", "(IIIII)I"⟩, 39) := ⟨⟨by decide +kernel, by decide +kernel⟩, lw_t6 (List.mem_of_getElem? (i := 197) rfl), lw_t9 (List.mem_of_getElem? (i := 196) rfl), lw_t9 (List.mem_of_getElem? (i := 197) rfl)⟩
theorem lw_p132 : lw_okq (⟨"LehrBeltModel", "isSoon", "(I)Z"⟩, 39) := ⟨⟨by decide +kernel, by decide +kernel⟩, lw_t6 (List.mem_of_getElem? (i := 197) rfl), lw_t9 (List.mem_of_getElem? (i := 208) rfl), lw_t9 (List.mem_of_getElem? (i := 209) rfl)⟩
theorem lw_p133 : lw_okq (⟨"LehrBeltModel", "weightOf", "(II)J"⟩, 39) := ⟨⟨by decide +kernel, by decide +kernel⟩, lw_t6 (List.mem_of_getElem? (i := 197) rfl), lw_t9 (List.mem_of_getElem? (i := 212) rfl), lw_t9 (List.mem_of_getElem? (i := 213) rfl)⟩
theorem lw_p134 : lw_okq (⟨"LehrBeltModel", "draws", "(J)V"⟩, 39) := ⟨⟨by decide +kernel, by decide +kernel⟩, lw_t6 (List.mem_of_getElem? (i := 197) rfl), lw_t9 (List.mem_of_getElem? (i := 233) rfl), lw_t9 (List.mem_of_getElem? (i := 234) rfl)⟩
theorem lw_p135 : lw_okq (⟨"LehrBeltModel", "does", "(IIII)V"⟩, 39) := ⟨⟨by decide +kernel, by decide +kernel⟩, lw_t6 (List.mem_of_getElem? (i := 197) rfl), lw_t10 (List.mem_of_getElem? (i := 11) rfl), lw_t10 (List.mem_of_getElem? (i := 12) rfl)⟩
def lw_privs_9 : List (MethodName × Nat) := [(⟨"LehrBeltModel", "byLaw", "(I)I"⟩, 39), (⟨"LehrBeltModel", "worthOf", "(I)I"⟩, 39), (⟨"LehrBeltModel", "areTwo", "(II)Z"⟩, 39), (⟨"LehrBeltModel", "getsBy", "(IIIII)I"⟩, 39), (⟨"LehrBeltModel", "isSoon", "(I)Z"⟩, 39), (⟨"LehrBeltModel", "weightOf", "(II)J"⟩, 39), (⟨"LehrBeltModel", "draws", "(J)V"⟩, 39), (⟨"LehrBeltModel", "does", "(IIII)V"⟩, 39)]
theorem lw_r9 : ∀ q ∈ lw_privs_9, lw_okq q := List.forall_mem_cons.mpr ⟨lw_p128, List.forall_mem_cons.mpr ⟨lw_p129, List.forall_mem_cons.mpr ⟨lw_p130, List.forall_mem_cons.mpr ⟨lw_p131, List.forall_mem_cons.mpr ⟨lw_p132, List.forall_mem_cons.mpr ⟨lw_p133, List.forall_mem_cons.mpr ⟨lw_p134, List.forall_mem_cons.mpr ⟨lw_p135, fun _ h => absurd h List.not_mem_nil⟩⟩⟩⟩⟩⟩⟩⟩
def lw_privs : List (MethodName × Nat) := lw_privs_1 ++ (lw_privs_2 ++ (lw_privs_3 ++ (lw_privs_4 ++ (lw_privs_5 ++ (lw_privs_6 ++ (lw_privs_7 ++ (lw_privs_8 ++ (lw_privs_9))))))))
def lw_tbl : List Cond := k2_sels lw_privs ++ tables_1
theorem lw_privs_ok : ∀ q ∈ lw_privs, lw_okq q := by
  show ∀ q ∈ lw_privs_1 ++ (lw_privs_2 ++ (lw_privs_3 ++ (lw_privs_4 ++ (lw_privs_5 ++ (lw_privs_6 ++ (lw_privs_7 ++ (lw_privs_8 ++ (lw_privs_9)))))))), lw_okq q
  exact List.forall_mem_append.mpr ⟨lw_r1, List.forall_mem_append.mpr ⟨lw_r2, List.forall_mem_append.mpr ⟨lw_r3, List.forall_mem_append.mpr ⟨lw_r4, List.forall_mem_append.mpr ⟨lw_r5, List.forall_mem_append.mpr ⟨lw_r6, List.forall_mem_append.mpr ⟨lw_r7, List.forall_mem_append.mpr ⟨lw_r8, lw_r9⟩⟩⟩⟩⟩⟩⟩⟩
-- ===== ONE list of words for every method: the tables' words that hold all through a run =====
def lw_all : List Cond := lw_tbl.filter goodWord
/-- a word of the tables by its place: claim/WORDS.tsv -/
theorem lw_w {w : Cond} (i : Nat) (h : lw_tbl[i]? = some w) (g : goodWord w = true) : w ∈ lw_all := List.mem_filter.mpr ⟨List.mem_of_getElem? h, g⟩
theorem lw_all_tbl {w : Cond} (h : w ∈ lw_all) : w ∈ lw_tbl := (List.mem_filter.mp h).1
theorem lw_self : GoodIn lw_all lw_all := fun w h => ⟨h, good_of_word (List.mem_filter.mp h).2⟩
/-- a class's field words, by their places -/
theorem lw_in (ws : List Cond) (ps : List Nat) (hp : ws = ps.filterMap (fun i => lw_tbl[i]?)) (hg : ws.all goodWord = true) : ∀ w ∈ ws, w ∈ lw_all := by
  intro w h
  have h1 := List.all_eq_true.mp hg w h
  rw [hp] at h
  obtain ⟨i, -, hi⟩ := List.mem_filterMap.mp h
  exact lw_w i hi h1
/-- the words of a contract for the method y with code b, L locals, answer r -/
abbrev ws_ (y : MethodName) (b : ByteArray) (L : Nat) (r : Option FieldType) : List Cond := Cond.code y b L r :: lw_all
theorem lw_meth {y : MethodName} {b : ByteArray} {L : Nat} {r : Option FieldType} (h : Cond.code y b L r ∈ lw_all) : GoodIn lw_all (ws_ y b L r) := by
  intro w hw
  rcases List.mem_cons.mp hw with e | e
  · rw [e]
    exact lw_self _ h
  · exact lw_self _ e
theorem lw_app {a c : List Cond} (ha : ∀ w ∈ a, w ∈ lw_all) (hc : GoodIn lw_all c) : GoodIn lw_all (a ++ c) := by
  intro w hw
  rcases List.mem_append.mp hw with e | e
  · exact lw_self w (ha w e)
  · exact hc w e
/-- what a call through an object asks: cwV n hts (lw_V ..) -/
theorem lw_V {own : String} {idx : Nat} {C : String} {y : MethodName} {b : ByteArray} {L : Nat} {r : Option FieldType} (h1 : Cond.methodLink own idx y ∈ lw_all) (h2 : Cond.instanceMethod y ∈ lw_all) (h3 : Cond.selects C y y ∈ lw_all) (h4 : Cond.initialized C ∈ lw_all) (h5 : Cond.code y b L r ∈ lw_all) : GoodIn lw_all (wsV own idx C y (ws_ y b L r)) := by
  refine lw_app ?_ (lw_meth h5)
  intro w hw
  simp only [List.mem_cons, List.not_mem_nil, or_false] at hw
  rcases hw with e | e | e | e
  · rw [e]; exact h1
  · rw [e]; exact h2
  · rw [e]; exact h3
  · rw [e]; exact h4
/-- what a static call asks: va_cwS n hts (lw_S ..) -/
theorem lw_S {own : String} {idx : Nat} {y : MethodName} {b : ByteArray} {L : Nat} {r : Option FieldType} (h1 : Cond.methodLink own idx y ∈ lw_all) (h2 : Cond.static y ∈ lw_all) (h3 : Cond.initialized y.cls ∈ lw_all) (h4 : Cond.code y b L r ∈ lw_all) : GoodIn lw_all (va_wsS own idx y (ws_ y b L r)) := by
  refine lw_app ?_ (lw_meth h4)
  intro w hw
  simp only [List.mem_cons, List.not_mem_nil, or_false] at hw
  rcases hw with e | e | e
  · rw [e]; exact h1
  · rw [e]; exact h2
  · rw [e]; exact h3
/-- the words of a contract for a method WITH HANDLERS (hh: its table) -/
abbrev wsW_ (y : MethodName) (b : ByteArray) (L : Nat) (r : Option FieldType) (hh : List (Nat × Nat × Nat × Nat)) : List Cond := Cond.codeWith y b L r hh :: lw_all
theorem lw_methW {y : MethodName} {b : ByteArray} {L : Nat} {r : Option FieldType} {hh : List (Nat × Nat × Nat × Nat)} (h : Cond.codeWith y b L r hh ∈ lw_all) : GoodIn lw_all (wsW_ y b L r hh) := by
  intro w hw
  rcases List.mem_cons.mp hw with e | e
  · rw [e]
    exact lw_self _ h
  · exact lw_self _ e
/-- any list of words by their places (lw_in), good -/
theorem lw_good {ws : List Cond} (h : ∀ w ∈ ws, w ∈ lw_all) : GoodIn lw_all ws := fun w hw => lw_self w (h w hw)
/-- what a call of a method with handlers asks: vx_cwVW n hts (lw_VW ..), vx_cwSW n hts (lw_SW ..) -/
theorem lw_VW {own : String} {idx : Nat} {C : String} {y : MethodName} {b : ByteArray} {L : Nat} {r : Option FieldType} {hh : List (Nat × Nat × Nat × Nat)} (h1 : Cond.methodLink own idx y ∈ lw_all) (h2 : Cond.instanceMethod y ∈ lw_all) (h3 : Cond.selects C y y ∈ lw_all) (h4 : Cond.initialized C ∈ lw_all) (h5 : Cond.codeWith y b L r hh ∈ lw_all) : GoodIn lw_all (wsV own idx C y (wsW_ y b L r hh)) := by
  refine lw_app ?_ (lw_methW h5)
  intro w hw
  simp only [List.mem_cons, List.not_mem_nil, or_false] at hw
  rcases hw with e | e | e | e
  · rw [e]; exact h1
  · rw [e]; exact h2
  · rw [e]; exact h3
  · rw [e]; exact h4
theorem lw_SW {own : String} {idx : Nat} {y : MethodName} {b : ByteArray} {L : Nat} {r : Option FieldType} {hh : List (Nat × Nat × Nat × Nat)} (h1 : Cond.methodLink own idx y ∈ lw_all) (h2 : Cond.static y ∈ lw_all) (h3 : Cond.initialized y.cls ∈ lw_all) (h4 : Cond.codeWith y b L r hh ∈ lw_all) : GoodIn lw_all (va_wsS own idx y (wsW_ y b L r hh)) := by
  refine lw_app ?_ (lw_methW h4)
  intro w hw
  simp only [List.mem_cons, List.not_mem_nil, or_false] at hw
  rcases hw with e | e | e
  · rw [e]; exact h1
  · rw [e]; exact h2
  · rw [e]; exact h3
/-- a word by its place in its run of the tables -/
theorem lw_at {r : List Cond} (hr : ∀ w ∈ r, w ∈ lw_tbl) {w : Cond} (i : Nat) (h : r[i]? = some w) : w ∈ lw_tbl := hr w (List.mem_of_getElem? h)
theorem lw_g {w : Cond} (h : w ∈ lw_tbl) (g : goodWord w = true) : w ∈ lw_all := List.mem_filter.mpr ⟨h, g⟩
theorem lw_ms : ∀ w ∈ k2_sels lw_privs, w ∈ lw_tbl := fun w h => show w ∈ k2_sels lw_privs ++ tables_1 from List.mem_append_left _ h
theorem lw_m1 : ∀ w ∈ tables_1_1, w ∈ lw_tbl := fun w h => show w ∈ k2_sels lw_privs ++ tables_1 from List.mem_append_right (k2_sels lw_privs) (show w ∈ tables_1 from List.mem_append_left _ h)
theorem lw_m2 : ∀ w ∈ tables_1_2, w ∈ lw_tbl := fun w h => show w ∈ k2_sels lw_privs ++ tables_1 from List.mem_append_right (k2_sels lw_privs) (show w ∈ tables_1 from List.mem_append_right _ (List.mem_append_left _ h))
theorem lw_m3 : ∀ w ∈ tables_1_3, w ∈ lw_tbl := fun w h => show w ∈ k2_sels lw_privs ++ tables_1 from List.mem_append_right (k2_sels lw_privs) (show w ∈ tables_1 from List.mem_append_right _ (List.mem_append_right _ (List.mem_append_left _ h)))
theorem lw_m4 : ∀ w ∈ tables_1_4, w ∈ lw_tbl := fun w h => show w ∈ k2_sels lw_privs ++ tables_1 from List.mem_append_right (k2_sels lw_privs) (show w ∈ tables_1 from List.mem_append_right _ (List.mem_append_right _ (List.mem_append_right _ (List.mem_append_left _ h))))
theorem lw_m5 : ∀ w ∈ tables_1_5, w ∈ lw_tbl := fun w h => show w ∈ k2_sels lw_privs ++ tables_1 from List.mem_append_right (k2_sels lw_privs) (show w ∈ tables_1 from List.mem_append_right _ (List.mem_append_right _ (List.mem_append_right _ (List.mem_append_right _ (List.mem_append_left _ h)))))
theorem lw_m6 : ∀ w ∈ tables_1_6, w ∈ lw_tbl := fun w h => show w ∈ k2_sels lw_privs ++ tables_1 from List.mem_append_right (k2_sels lw_privs) (show w ∈ tables_1 from List.mem_append_right _ (List.mem_append_right _ (List.mem_append_right _ (List.mem_append_right _ (List.mem_append_right _ (List.mem_append_left _ h))))))
theorem lw_m7 : ∀ w ∈ tables_1_7, w ∈ lw_tbl := fun w h => show w ∈ k2_sels lw_privs ++ tables_1 from List.mem_append_right (k2_sels lw_privs) (show w ∈ tables_1 from List.mem_append_right _ (List.mem_append_right _ (List.mem_append_right _ (List.mem_append_right _ (List.mem_append_right _ (List.mem_append_right _ (List.mem_append_left _ h)))))))
theorem lw_m8 : ∀ w ∈ tables_1_8, w ∈ lw_tbl := fun w h => show w ∈ k2_sels lw_privs ++ tables_1 from List.mem_append_right (k2_sels lw_privs) (show w ∈ tables_1 from List.mem_append_right _ (List.mem_append_right _ (List.mem_append_right _ (List.mem_append_right _ (List.mem_append_right _ (List.mem_append_right _ (List.mem_append_right _ (List.mem_append_left _ h))))))))
theorem lw_m9 : ∀ w ∈ tables_1_9, w ∈ lw_tbl := fun w h => show w ∈ k2_sels lw_privs ++ tables_1 from List.mem_append_right (k2_sels lw_privs) (show w ∈ tables_1 from List.mem_append_right _ (List.mem_append_right _ (List.mem_append_right _ (List.mem_append_right _ (List.mem_append_right _ (List.mem_append_right _ (List.mem_append_right _ (List.mem_append_right _ (List.mem_append_left _ h)))))))))
theorem lw_m10 : ∀ w ∈ tables_1_10, w ∈ lw_tbl := fun w h => show w ∈ k2_sels lw_privs ++ tables_1 from List.mem_append_right (k2_sels lw_privs) (show w ∈ tables_1 from List.mem_append_right _ (List.mem_append_right _ (List.mem_append_right _ (List.mem_append_right _ (List.mem_append_right _ (List.mem_append_right _ (List.mem_append_right _ (List.mem_append_right _ (List.mem_append_right _ h)))))))))
theorem qs0 : (Cond.selects "LehrBelt" ⟨"LehrBelt", "puts", "(I)V"⟩ ⟨"LehrBelt", "puts", "(I)V"⟩) ∈ lw_all := lw_g (lw_at lw_ms 0 rfl) rfl
theorem qs1 : (Cond.selects "LehrBelt$Reader" ⟨"LehrBelt$Reader", "next", "()V"⟩ ⟨"LehrBelt$Reader", "next", "()V"⟩) ∈ lw_all := lw_g (lw_at lw_ms 1 rfl) rfl
theorem qs2 : (Cond.selects "LehrBelt$Reader" ⟨"LehrBelt$Reader", "isNext", "(II)Z"⟩ ⟨"LehrBelt$Reader", "isNext", "(II)Z"⟩) ∈ lw_all := lw_g (lw_at lw_ms 2 rfl) rfl
theorem qs3 : (Cond.selects "LehrBelt$Reader" ⟨"LehrBelt$Reader", "head", "()V"⟩ ⟨"LehrBelt$Reader", "head", "()V"⟩) ∈ lw_all := lw_g (lw_at lw_ms 3 rfl) rfl
theorem qs4 : (Cond.selects "LehrBelt$Reader" ⟨"LehrBelt$Reader", "expects", "(Ljava/lang/String;)V"⟩ ⟨"LehrBelt$Reader", "expects", "(Ljava/lang/String;)V"⟩) ∈ lw_all := lw_g (lw_at lw_ms 4 rfl) rfl
theorem qs5 : (Cond.selects "LehrBelt$Reader" ⟨"LehrBelt$Reader", "takes", "(Ljava/lang/String;)Z"⟩ ⟨"LehrBelt$Reader", "takes", "(Ljava/lang/String;)Z"⟩) ∈ lw_all := lw_g (lw_at lw_ms 5 rfl) rfl
theorem qs6 : (Cond.selects "LehrBelt$Reader" ⟨"LehrBelt$Reader", "is", "(Ljava/lang/String;)Z"⟩ ⟨"LehrBelt$Reader", "is", "(Ljava/lang/String;)Z"⟩) ∈ lw_all := lw_g (lw_at lw_ms 6 rfl) rfl
theorem qs7 : (Cond.selects "LehrBelt$Reader" ⟨"LehrBelt$Reader", "wrong", "(I)LLehrBelt$Fault;"⟩ ⟨"LehrBelt$Reader", "wrong", "(I)LLehrBelt$Fault;"⟩) ∈ lw_all := lw_g (lw_at lw_ms 7 rfl) rfl
theorem qs8 : (Cond.selects "java/lang/NullPointerException" ⟨"java/lang/NullPointerException", "getExtendedNPEMessage", "()Ljava/lang/String;"⟩ ⟨"java/lang/NullPointerException", "getExtendedNPEMessage", "()Ljava/lang/String;"⟩) ∈ lw_all := lw_g (lw_at lw_ms 8 rfl) rfl
theorem qs9 : (Cond.selects "java/lang/Throwable" ⟨"java/lang/Throwable", "fillInStackTrace", "(I)Ljava/lang/Throwable;"⟩ ⟨"java/lang/Throwable", "fillInStackTrace", "(I)Ljava/lang/Throwable;"⟩) ∈ lw_all := lw_g (lw_at lw_ms 9 rfl) rfl
theorem qs10 : (Cond.selects "LehrBelt$Reader" ⟨"LehrBelt$Reader", "told", "(Ljava/lang/String;II)I"⟩ ⟨"LehrBelt$Reader", "told", "(Ljava/lang/String;II)I"⟩) ∈ lw_all := lw_g (lw_at lw_ms 10 rfl) rfl
theorem qs11 : (Cond.selects "LehrBelt$Reader" ⟨"LehrBelt$Reader", "number", "(II)I"⟩ ⟨"LehrBelt$Reader", "number", "(II)I"⟩) ∈ lw_all := lw_g (lw_at lw_ms 11 rfl) rfl
theorem qs12 : (Cond.selects "LehrBelt$Reader" ⟨"LehrBelt$Reader", "line", "()V"⟩ ⟨"LehrBelt$Reader", "line", "()V"⟩) ∈ lw_all := lw_g (lw_at lw_ms 12 rfl) rfl
theorem qs13 : (Cond.selects "LehrBelt$Reader" ⟨"LehrBelt$Reader", "begins", "(Ljava/lang/String;Z)Z"⟩ ⟨"LehrBelt$Reader", "begins", "(Ljava/lang/String;Z)Z"⟩) ∈ lw_all := lw_g (lw_at lw_ms 13 rfl) rfl
theorem qs14 : (Cond.selects "LehrBelt$Reader" ⟨"LehrBelt$Reader", "newZone", "()V"⟩ ⟨"LehrBelt$Reader", "newZone", "()V"⟩) ∈ lw_all := lw_g (lw_at lw_ms 14 rfl) rfl
theorem qs15 : (Cond.selects "LehrBelt$Reader" ⟨"LehrBelt$Reader", "newPiece", "()V"⟩ ⟨"LehrBelt$Reader", "newPiece", "()V"⟩) ∈ lw_all := lw_g (lw_at lw_ms 15 rfl) rfl
theorem qs16 : (Cond.selects "LehrBelt" ⟨"LehrBelt", "isZone", "(I)Z"⟩ ⟨"LehrBelt", "isZone", "(I)Z"⟩) ∈ lw_all := lw_g (lw_at lw_ms 16 rfl) rfl
theorem qs17 : (Cond.selects "LehrBelt" ⟨"LehrBelt", "isPiece", "(J)Z"⟩ ⟨"LehrBelt", "isPiece", "(J)Z"⟩) ∈ lw_all := lw_g (lw_at lw_ms 17 rfl) rfl
theorem qs18 : (Cond.selects "LehrBelt" ⟨"LehrBelt", "asksStep", "(I)Z"⟩ ⟨"LehrBelt", "asksStep", "(I)Z"⟩) ∈ lw_all := lw_g (lw_at lw_ms 18 rfl) rfl
theorem qs19 : (Cond.selects "LehrBelt" ⟨"LehrBelt", "asksLehr", "()Z"⟩ ⟨"LehrBelt", "asksLehr", "()Z"⟩) ∈ lw_all := lw_g (lw_at lw_ms 19 rfl) rfl
theorem qs20 : (Cond.selects "LehrBelt" ⟨"LehrBelt", "asItIs", "()V"⟩ ⟨"LehrBelt", "asItIs", "()V"⟩) ∈ lw_all := lw_g (lw_at lw_ms 20 rfl) rfl
theorem qs21 : (Cond.selects "LehrBelt" ⟨"LehrBelt", "lays", "()V"⟩ ⟨"LehrBelt", "lays", "()V"⟩) ∈ lw_all := lw_g (lw_at lw_ms 21 rfl) rfl
theorem qs22 : (Cond.selects "LehrBelt" ⟨"LehrBelt", "laysStep", "(I)V"⟩ ⟨"LehrBelt", "laysStep", "(I)V"⟩) ∈ lw_all := lw_g (lw_at lw_ms 22 rfl) rfl
theorem qs23 : (Cond.selects "LehrBelt" ⟨"LehrBelt", "mayCrack", "(II)V"⟩ ⟨"LehrBelt", "mayCrack", "(II)V"⟩) ∈ lw_all := lw_g (lw_at lw_ms 23 rfl) rfl
theorem qs24 : (Cond.selects "LehrBelt" ⟨"LehrBelt", "placeOf", "(II)I"⟩ ⟨"LehrBelt", "placeOf", "(II)I"⟩) ∈ lw_all := lw_g (lw_at lw_ms 24 rfl) rfl
theorem qs25 : (Cond.selects "LehrBelt" ⟨"LehrBelt", "strainNow", "(I)I"⟩ ⟨"LehrBelt", "strainNow", "(I)I"⟩) ∈ lw_all := lw_g (lw_at lw_ms 25 rfl) rfl
theorem qs26 : (Cond.selects "LehrBelt" ⟨"LehrBelt", "cools", "(II)V"⟩ ⟨"LehrBelt", "cools", "(II)V"⟩) ∈ lw_all := lw_g (lw_at lw_ms 26 rfl) rfl
theorem qs27 : (Cond.selects "LehrBelt" ⟨"LehrBelt", "airOf", "(II)I"⟩ ⟨"LehrBelt", "airOf", "(II)I"⟩) ∈ lw_all := lw_g (lw_at lw_ms 27 rfl) rfl
theorem qs28 : (Cond.selects "LehrBelt" ⟨"LehrBelt", "isGust", "(I)Z"⟩ ⟨"LehrBelt", "isGust", "(I)Z"⟩) ∈ lw_all := lw_g (lw_at lw_ms 28 rfl) rfl
theorem qs29 : (Cond.selects "LehrBelt" ⟨"LehrBelt", "isLehr", "()Z"⟩ ⟨"LehrBelt", "isLehr", "()Z"⟩) ∈ lw_all := lw_g (lw_at lw_ms 29 rfl) rfl
theorem qs30 : (Cond.selects "LehrBelt" ⟨"LehrBelt", "isStep", "(J)Z"⟩ ⟨"LehrBelt", "isStep", "(J)Z"⟩) ∈ lw_all := lw_g (lw_at lw_ms 30 rfl) rfl
theorem qs31 : (Cond.selects "LehrBelt" ⟨"LehrBelt", "insideOf", "(II)I"⟩ ⟨"LehrBelt", "insideOf", "(II)I"⟩) ∈ lw_all := lw_g (lw_at lw_ms 31 rfl) rfl
theorem qs32 : (Cond.selects "LehrBelt" ⟨"LehrBelt", "asksPiece", "(I)Z"⟩ ⟨"LehrBelt", "asksPiece", "(I)Z"⟩) ∈ lw_all := lw_g (lw_at lw_ms 32 rfl) rfl
theorem qs33 : (Cond.selects "LehrBelt" ⟨"LehrBelt", "skinOf", "(II)I"⟩ ⟨"LehrBelt", "skinOf", "(II)I"⟩) ∈ lw_all := lw_g (lw_at lw_ms 33 rfl) rfl
theorem qs34 : (Cond.selects "LehrBelt" ⟨"LehrBelt", "coreOf", "(II)I"⟩ ⟨"LehrBelt", "coreOf", "(II)I"⟩) ∈ lw_all := lw_g (lw_at lw_ms 34 rfl) rfl
theorem qs35 : (Cond.selects "LehrBelt" ⟨"LehrBelt", "strainOf", "(II)I"⟩ ⟨"LehrBelt", "strainOf", "(II)I"⟩) ∈ lw_all := lw_g (lw_at lw_ms 35 rfl) rfl
theorem qs36 : (Cond.selects "LehrBelt" ⟨"LehrBelt", "whenOf", "(I)I"⟩ ⟨"LehrBelt", "whenOf", "(I)I"⟩) ∈ lw_all := lw_g (lw_at lw_ms 36 rfl) rfl
theorem qs37 : (Cond.selects "LehrBelt" ⟨"LehrBelt", "hasCome", "(II)Z"⟩ ⟨"LehrBelt", "hasCome", "(II)Z"⟩) ∈ lw_all := lw_g (lw_at lw_ms 37 rfl) rfl
theorem qs38 : (Cond.selects "LehrBelt" ⟨"LehrBelt", "isWhole", "(II)Z"⟩ ⟨"LehrBelt", "isWhole", "(II)Z"⟩) ∈ lw_all := lw_g (lw_at lw_ms 38 rfl) rfl
theorem qs39 : (Cond.selects "LehrBelt" ⟨"LehrBelt", "soundNow", "()I"⟩ ⟨"LehrBelt", "soundNow", "()I"⟩) ∈ lw_all := lw_g (lw_at lw_ms 39 rfl) rfl
theorem qs40 : (Cond.selects "LehrBelt" ⟨"LehrBelt", "isSound", "(I)Z"⟩ ⟨"LehrBelt", "isSound", "(I)Z"⟩) ∈ lw_all := lw_g (lw_at lw_ms 40 rfl) rfl
theorem qs41 : (Cond.selects "LehrBelt" ⟨"LehrBelt", "cracksIn", "(I)I"⟩ ⟨"LehrBelt", "cracksIn", "(I)I"⟩) ∈ lw_all := lw_g (lw_at lw_ms 41 rfl) rfl
theorem qs42 : (Cond.selects "LehrBelt" ⟨"LehrBelt", "cracksAt", "(I)I"⟩ ⟨"LehrBelt", "cracksAt", "(I)I"⟩) ∈ lw_all := lw_g (lw_at lw_ms 42 rfl) rfl
theorem qs43 : (Cond.selects "LehrBelt" ⟨"LehrBelt", "fallOf", "(II)I"⟩ ⟨"LehrBelt", "fallOf", "(II)I"⟩) ∈ lw_all := lw_g (lw_at lw_ms 43 rfl) rfl
theorem qs44 : (Cond.selects "LehrBelt" ⟨"LehrBelt", "dropOf", "(II)I"⟩ ⟨"LehrBelt", "dropOf", "(II)I"⟩) ∈ lw_all := lw_g (lw_at lw_ms 44 rfl) rfl
theorem qs45 : (Cond.selects "LehrBelt" ⟨"LehrBelt", "isAhead", "(I)Z"⟩ ⟨"LehrBelt", "isAhead", "(I)Z"⟩) ∈ lw_all := lw_g (lw_at lw_ms 45 rfl) rfl
theorem qs46 : (Cond.selects "LehrBelt" ⟨"LehrBelt", "busyOf", "(I)I"⟩ ⟨"LehrBelt", "busyOf", "(I)I"⟩) ∈ lw_all := lw_g (lw_at lw_ms 46 rfl) rfl
theorem qs47 : (Cond.selects "LehrBelt" ⟨"LehrBelt", "needsOf", "(I)I"⟩ ⟨"LehrBelt", "needsOf", "(I)I"⟩) ∈ lw_all := lw_g (lw_at lw_ms 47 rfl) rfl
theorem qs48 : (Cond.selects "LehrBelt" ⟨"LehrBelt", "isSoundBy", "(I)Z"⟩ ⟨"LehrBelt", "isSoundBy", "(I)Z"⟩) ∈ lw_all := lw_g (lw_at lw_ms 48 rfl) rfl
theorem qs49 : (Cond.selects "LehrBelt" ⟨"LehrBelt", "paceOf", "()I"⟩ ⟨"LehrBelt", "paceOf", "()I"⟩) ∈ lw_all := lw_g (lw_at lw_ms 49 rfl) rfl
theorem qs50 : (Cond.selects "LehrBelt" ⟨"LehrBelt", "soundBy", "(I)I"⟩ ⟨"LehrBelt", "soundBy", "(I)I"⟩) ∈ lw_all := lw_g (lw_at lw_ms 50 rfl) rfl
theorem qs51 : (Cond.selects "LehrBelt" ⟨"LehrBelt", "soundMany", "()I"⟩ ⟨"LehrBelt", "soundMany", "()I"⟩) ∈ lw_all := lw_g (lw_at lw_ms 51 rfl) rfl
theorem qs52 : (Cond.selects "LehrBelt" ⟨"LehrBelt", "raiseOf", "(II)I"⟩ ⟨"LehrBelt", "raiseOf", "(II)I"⟩) ∈ lw_all := lw_g (lw_at lw_ms 52 rfl) rfl
theorem qs53 : (Cond.selects "LehrBelt" ⟨"LehrBelt", "changes", "(II)V"⟩ ⟨"LehrBelt", "changes", "(II)V"⟩) ∈ lw_all := lw_g (lw_at lw_ms 53 rfl) rfl
theorem qs54 : (Cond.selects "LehrBelt" ⟨"LehrBelt", "laysFits", "(II)I"⟩ ⟨"LehrBelt", "laysFits", "(II)I"⟩) ∈ lw_all := lw_g (lw_at lw_ms 54 rfl) rfl
theorem qs55 : (Cond.selects "LehrBelt" ⟨"LehrBelt", "asksSeen", "(I)I"⟩ ⟨"LehrBelt", "asksSeen", "(I)I"⟩) ∈ lw_all := lw_g (lw_at lw_ms 55 rfl) rfl
theorem qs56 : (Cond.selects "LehrBelt" ⟨"LehrBelt", "isSo", "(I)Z"⟩ ⟨"LehrBelt", "isSo", "(I)Z"⟩) ∈ lw_all := lw_g (lw_at lw_ms 56 rfl) rfl
theorem qs57 : (Cond.selects "LehrBelt" ⟨"LehrBelt", "number", "(II)I"⟩ ⟨"LehrBelt", "number", "(II)I"⟩) ∈ lw_all := lw_g (lw_at lw_ms 57 rfl) rfl
theorem qs58 : (Cond.selects "LehrBelt" ⟨"LehrBelt", "soundByLaw", "(I)I"⟩ ⟨"LehrBelt", "soundByLaw", "(I)I"⟩) ∈ lw_all := lw_g (lw_at lw_ms 58 rfl) rfl
theorem qs59 : (Cond.selects "LehrBelt" ⟨"LehrBelt", "everyZone", "()I"⟩ ⟨"LehrBelt", "everyZone", "()I"⟩) ∈ lw_all := lw_g (lw_at lw_ms 59 rfl) rfl
theorem qs60 : (Cond.selects "LehrBelt" ⟨"LehrBelt", "worthOf", "(I)I"⟩ ⟨"LehrBelt", "worthOf", "(I)I"⟩) ∈ lw_all := lw_g (lw_at lw_ms 60 rfl) rfl
theorem qs61 : (Cond.selects "LehrBelt" ⟨"LehrBelt", "areTwo", "(II)Z"⟩ ⟨"LehrBelt", "areTwo", "(II)Z"⟩) ∈ lw_all := lw_g (lw_at lw_ms 61 rfl) rfl
theorem qs62 : (Cond.selects "LehrBelt" ⟨"LehrBelt", "getsOf", "(IIII)I"⟩ ⟨"LehrBelt", "getsOf", "(IIII)I"⟩) ∈ lw_all := lw_g (lw_at lw_ms 62 rfl) rfl
theorem qs63 : (Cond.selects "LehrBelt" ⟨"LehrBelt", "isChance", "(I)Z"⟩ ⟨"LehrBelt", "isChance", "(I)Z"⟩) ∈ lw_all := lw_g (lw_at lw_ms 63 rfl) rfl
theorem qs64 : (Cond.selects "LehrBelt" ⟨"LehrBelt", "laysChance", "(II)V"⟩ ⟨"LehrBelt", "laysChance", "(II)V"⟩) ∈ lw_all := lw_g (lw_at lw_ms 64 rfl) rfl
theorem qs65 : (Cond.selects "LehrBelt" ⟨"LehrBelt", "draws", "(J)V"⟩ ⟨"LehrBelt", "draws", "(J)V"⟩) ∈ lw_all := lw_g (lw_at lw_ms 65 rfl) rfl
theorem qs66 : (Cond.selects "LehrBelt" ⟨"LehrBelt", "kept", "(I)I"⟩ ⟨"LehrBelt", "kept", "(I)I"⟩) ∈ lw_all := lw_g (lw_at lw_ms 66 rfl) rfl
theorem qs67 : (Cond.selects "java/util/ArrayList" ⟨"java/util/ArrayList", "add", "(Ljava/lang/Object;[Ljava/lang/Object;I)V"⟩ ⟨"java/util/ArrayList", "add", "(Ljava/lang/Object;[Ljava/lang/Object;I)V"⟩) ∈ lw_all := lw_g (lw_at lw_ms 67 rfl) rfl
theorem qs68 : (Cond.selects "java/util/ArrayList" ⟨"java/util/ArrayList", "grow", "()[Ljava/lang/Object;"⟩ ⟨"java/util/ArrayList", "grow", "()[Ljava/lang/Object;"⟩) ∈ lw_all := lw_g (lw_at lw_ms 68 rfl) rfl
theorem qs69 : (Cond.selects "java/util/ArrayList" ⟨"java/util/ArrayList", "grow", "(I)[Ljava/lang/Object;"⟩ ⟨"java/util/ArrayList", "grow", "(I)[Ljava/lang/Object;"⟩) ∈ lw_all := lw_g (lw_at lw_ms 69 rfl) rfl
theorem qs70 : (Cond.selects "LehrBeltModel" ⟨"LehrBeltModel", "four", "(I)V"⟩ ⟨"LehrBeltModel", "four", "(I)V"⟩) ∈ lw_all := lw_g (lw_at lw_ms 70 rfl) rfl
theorem qs71 : (Cond.selects "LehrBeltModel" ⟨"LehrBeltModel", "clears", "()V"⟩ ⟨"LehrBeltModel", "clears", "()V"⟩) ∈ lw_all := lw_g (lw_at lw_ms 71 rfl) rfl
theorem qs72 : (Cond.selects "LehrBeltModel" ⟨"LehrBeltModel", "tells", "(II)V"⟩ ⟨"LehrBeltModel", "tells", "(II)V"⟩) ∈ lw_all := lw_g (lw_at lw_ms 72 rfl) rfl
theorem qs73 : (Cond.selects "LehrBeltModel" ⟨"LehrBeltModel", "begins", "()V"⟩ ⟨"LehrBeltModel", "begins", "()V"⟩) ∈ lw_all := lw_g (lw_at lw_ms 73 rfl) rfl
theorem qs74 : (Cond.selects "LehrBeltModel" ⟨"LehrBeltModel", "next", "()V"⟩ ⟨"LehrBeltModel", "next", "()V"⟩) ∈ lw_all := lw_g (lw_at lw_ms 74 rfl) rfl
theorem qs75 : (Cond.selects "LehrBeltModel" ⟨"LehrBeltModel", "isByte", "(III)Z"⟩ ⟨"LehrBeltModel", "isByte", "(III)Z"⟩) ∈ lw_all := lw_g (lw_at lw_ms 75 rfl) rfl
theorem qs76 : (Cond.selects "LehrBeltModel" ⟨"LehrBeltModel", "isGood", "()Z"⟩ ⟨"LehrBeltModel", "isGood", "()Z"⟩) ∈ lw_all := lw_g (lw_at lw_ms 76 rfl) rfl
theorem qs77 : (Cond.selects "LehrBeltModel" ⟨"LehrBeltModel", "asks", "(J)V"⟩ ⟨"LehrBeltModel", "asks", "(J)V"⟩) ∈ lw_all := lw_g (lw_at lw_ms 77 rfl) rfl
theorem qs78 : (Cond.selects "LehrBeltModel" ⟨"LehrBeltModel", "takesWord", "(J)Z"⟩ ⟨"LehrBeltModel", "takesWord", "(J)Z"⟩) ∈ lw_all := lw_g (lw_at lw_ms 78 rfl) rfl
theorem qs79 : (Cond.selects "LehrBeltModel" ⟨"LehrBeltModel", "is", "(J)Z"⟩ ⟨"LehrBeltModel", "is", "(J)Z"⟩) ∈ lw_all := lw_g (lw_at lw_ms 79 rfl) rfl
theorem qs80 : (Cond.selects "LehrBeltModel" ⟨"LehrBeltModel", "fails", "(I)V"⟩ ⟨"LehrBeltModel", "fails", "(I)V"⟩) ∈ lw_all := lw_g (lw_at lw_ms 80 rfl) rfl
theorem qs81 : (Cond.selects "LehrBeltModel" ⟨"LehrBeltModel", "number", "(JII)I"⟩ ⟨"LehrBeltModel", "number", "(JII)I"⟩) ∈ lw_all := lw_g (lw_at lw_ms 81 rfl) rfl
theorem qs82 : (Cond.selects "LehrBeltModel" ⟨"LehrBeltModel", "number", "(II)I"⟩ ⟨"LehrBeltModel", "number", "(II)I"⟩) ∈ lw_all := lw_g (lw_at lw_ms 82 rfl) rfl
theorem qs83 : (Cond.selects "LehrBeltModel" ⟨"LehrBeltModel", "lineHere", "()V"⟩ ⟨"LehrBeltModel", "lineHere", "()V"⟩) ∈ lw_all := lw_g (lw_at lw_ms 83 rfl) rfl
theorem qs84 : (Cond.selects "LehrBeltModel" ⟨"LehrBeltModel", "isRoom", "(ZII)Z"⟩ ⟨"LehrBeltModel", "isRoom", "(ZII)Z"⟩) ∈ lw_all := lw_g (lw_at lw_ms 84 rfl) rfl
theorem qs85 : (Cond.selects "LehrBeltModel" ⟨"LehrBeltModel", "hasRead", "(I)I"⟩ ⟨"LehrBeltModel", "hasRead", "(I)I"⟩) ∈ lw_all := lw_g (lw_at lw_ms 85 rfl) rfl
theorem qs86 : (Cond.selects "LehrBeltModel" ⟨"LehrBeltModel", "pieceLine", "()V"⟩ ⟨"LehrBeltModel", "pieceLine", "()V"⟩) ∈ lw_all := lw_g (lw_at lw_ms 86 rfl) rfl
theorem qs87 : (Cond.selects "LehrBeltModel" ⟨"LehrBeltModel", "ends", "()V"⟩ ⟨"LehrBeltModel", "ends", "()V"⟩) ∈ lw_all := lw_g (lw_at lw_ms 87 rfl) rfl
theorem qs88 : (Cond.selects "LehrBeltModel" ⟨"LehrBeltModel", "isOver", "()V"⟩ ⟨"LehrBeltModel", "isOver", "()V"⟩) ∈ lw_all := lw_g (lw_at lw_ms 88 rfl) rfl
theorem qs89 : (Cond.selects "LehrBeltModel" ⟨"LehrBeltModel", "copyLehr", "(II)V"⟩ ⟨"LehrBeltModel", "copyLehr", "(II)V"⟩) ∈ lw_all := lw_g (lw_at lw_ms 89 rfl) rfl
theorem qs90 : (Cond.selects "LehrBeltModel" ⟨"LehrBeltModel", "isZone", "(I)Z"⟩ ⟨"LehrBeltModel", "isZone", "(I)Z"⟩) ∈ lw_all := lw_g (lw_at lw_ms 90 rfl) rfl
theorem qs91 : (Cond.selects "LehrBeltModel" ⟨"LehrBeltModel", "isPiece", "(J)Z"⟩ ⟨"LehrBeltModel", "isPiece", "(J)Z"⟩) ∈ lw_all := lw_g (lw_at lw_ms 91 rfl) rfl
theorem qs92 : (Cond.selects "LehrBeltModel" ⟨"LehrBeltModel", "pieces", "()I"⟩ ⟨"LehrBeltModel", "pieces", "()I"⟩) ∈ lw_all := lw_g (lw_at lw_ms 92 rfl) rfl
theorem qs93 : (Cond.selects "LehrBeltModel" ⟨"LehrBeltModel", "isStep", "(J)Z"⟩ ⟨"LehrBeltModel", "isStep", "(J)Z"⟩) ∈ lw_all := lw_g (lw_at lw_ms 93 rfl) rfl
theorem qs94 : (Cond.selects "LehrBeltModel" ⟨"LehrBeltModel", "isLehr", "()Z"⟩ ⟨"LehrBeltModel", "isLehr", "()Z"⟩) ∈ lw_all := lw_g (lw_at lw_ms 94 rfl) rfl
theorem qs95 : (Cond.selects "LehrBeltModel" ⟨"LehrBeltModel", "steps", "()I"⟩ ⟨"LehrBeltModel", "steps", "()I"⟩) ∈ lw_all := lw_g (lw_at lw_ms 95 rfl) rfl
theorem qs96 : (Cond.selects "LehrBeltModel" ⟨"LehrBeltModel", "lays", "()V"⟩ ⟨"LehrBeltModel", "lays", "()V"⟩) ∈ lw_all := lw_g (lw_at lw_ms 96 rfl) rfl
theorem qs97 : (Cond.selects "LehrBeltModel" ⟨"LehrBeltModel", "airOf", "(II)I"⟩ ⟨"LehrBeltModel", "airOf", "(II)I"⟩) ∈ lw_all := lw_g (lw_at lw_ms 97 rfl) rfl
theorem qs98 : (Cond.selects "LehrBeltModel" ⟨"LehrBeltModel", "isThen", "(II)Z"⟩ ⟨"LehrBeltModel", "isThen", "(II)Z"⟩) ∈ lw_all := lw_g (lw_at lw_ms 98 rfl) rfl
theorem qs99 : (Cond.selects "LehrBeltModel" ⟨"LehrBeltModel", "whereOf", "(II)I"⟩ ⟨"LehrBeltModel", "whereOf", "(II)I"⟩) ∈ lw_all := lw_g (lw_at lw_ms 99 rfl) rfl
theorem qs100 : (Cond.selects "LehrBeltModel" ⟨"LehrBeltModel", "comes", "(I)I"⟩ ⟨"LehrBeltModel", "comes", "(I)I"⟩) ∈ lw_all := lw_g (lw_at lw_ms 100 rfl) rfl
theorem qs101 : (Cond.selects "LehrBeltModel" ⟨"LehrBeltModel", "insideOf", "(II)I"⟩ ⟨"LehrBeltModel", "insideOf", "(II)I"⟩) ∈ lw_all := lw_g (lw_at lw_ms 101 rfl) rfl
theorem qs102 : (Cond.selects "LehrBeltModel" ⟨"LehrBeltModel", "laysNow", "()V"⟩ ⟨"LehrBeltModel", "laysNow", "()V"⟩) ∈ lw_all := lw_g (lw_at lw_ms 102 rfl) rfl
theorem qs103 : (Cond.selects "LehrBeltModel" ⟨"LehrBeltModel", "runs", "()V"⟩ ⟨"LehrBeltModel", "runs", "()V"⟩) ∈ lw_all := lw_g (lw_at lw_ms 103 rfl) rfl
theorem qs104 : (Cond.selects "LehrBeltModel" ⟨"LehrBeltModel", "goesOn", "(II)V"⟩ ⟨"LehrBeltModel", "goesOn", "(II)V"⟩) ∈ lw_all := lw_g (lw_at lw_ms 104 rfl) rfl
theorem qs105 : (Cond.selects "LehrBeltModel" ⟨"LehrBeltModel", "skinOf", "(II)I"⟩ ⟨"LehrBeltModel", "skinOf", "(II)I"⟩) ∈ lw_all := lw_g (lw_at lw_ms 105 rfl) rfl
theorem qs106 : (Cond.selects "LehrBeltModel" ⟨"LehrBeltModel", "coreOf", "(II)I"⟩ ⟨"LehrBeltModel", "coreOf", "(II)I"⟩) ∈ lw_all := lw_g (lw_at lw_ms 106 rfl) rfl
theorem qs107 : (Cond.selects "LehrBeltModel" ⟨"LehrBeltModel", "pullOf", "(III)I"⟩ ⟨"LehrBeltModel", "pullOf", "(III)I"⟩) ∈ lw_all := lw_g (lw_at lw_ms 107 rfl) rfl
theorem qs108 : (Cond.selects "LehrBeltModel" ⟨"LehrBeltModel", "strainOf", "(II)I"⟩ ⟨"LehrBeltModel", "strainOf", "(II)I"⟩) ∈ lw_all := lw_g (lw_at lw_ms 108 rfl) rfl
theorem qs109 : (Cond.selects "LehrBeltModel" ⟨"LehrBeltModel", "peakOf", "(I)I"⟩ ⟨"LehrBeltModel", "peakOf", "(I)I"⟩) ∈ lw_all := lw_g (lw_at lw_ms 109 rfl) rfl
theorem qs110 : (Cond.selects "LehrBeltModel" ⟨"LehrBeltModel", "hasCome", "(II)Z"⟩ ⟨"LehrBeltModel", "hasCome", "(II)Z"⟩) ∈ lw_all := lw_g (lw_at lw_ms 110 rfl) rfl
theorem qs111 : (Cond.selects "LehrBeltModel" ⟨"LehrBeltModel", "isWhole", "(II)Z"⟩ ⟨"LehrBeltModel", "isWhole", "(II)Z"⟩) ∈ lw_all := lw_g (lw_at lw_ms 111 rfl) rfl
theorem qs112 : (Cond.selects "LehrBeltModel" ⟨"LehrBeltModel", "soundNow", "()I"⟩ ⟨"LehrBeltModel", "soundNow", "()I"⟩) ∈ lw_all := lw_g (lw_at lw_ms 112 rfl) rfl
theorem qs113 : (Cond.selects "LehrBeltModel" ⟨"LehrBeltModel", "mostAt", "(II)I"⟩ ⟨"LehrBeltModel", "mostAt", "(II)I"⟩) ∈ lw_all := lw_g (lw_at lw_ms 113 rfl) rfl
theorem qs114 : (Cond.selects "LehrBeltModel" ⟨"LehrBeltModel", "markOf", "(III)I"⟩ ⟨"LehrBeltModel", "markOf", "(III)I"⟩) ∈ lw_all := lw_g (lw_at lw_ms 114 rfl) rfl
theorem qs115 : (Cond.selects "LehrBeltModel" ⟨"LehrBeltModel", "crackedIn", "(I)I"⟩ ⟨"LehrBeltModel", "crackedIn", "(I)I"⟩) ∈ lw_all := lw_g (lw_at lw_ms 115 rfl) rfl
theorem qs116 : (Cond.selects "LehrBeltModel" ⟨"LehrBeltModel", "fallOf", "(II)I"⟩ ⟨"LehrBeltModel", "fallOf", "(II)I"⟩) ∈ lw_all := lw_g (lw_at lw_ms 116 rfl) rfl
theorem qs117 : (Cond.selects "LehrBeltModel" ⟨"LehrBeltModel", "dropOf", "(II)I"⟩ ⟨"LehrBeltModel", "dropOf", "(II)I"⟩) ∈ lw_all := lw_g (lw_at lw_ms 117 rfl) rfl
theorem qs118 : (Cond.selects "LehrBeltModel" ⟨"LehrBeltModel", "isAhead", "(I)Z"⟩ ⟨"LehrBeltModel", "isAhead", "(I)Z"⟩) ∈ lw_all := lw_g (lw_at lw_ms 118 rfl) rfl
theorem qs119 : (Cond.selects "LehrBeltModel" ⟨"LehrBeltModel", "busyOf", "(I)I"⟩ ⟨"LehrBeltModel", "busyOf", "(I)I"⟩) ∈ lw_all := lw_g (lw_at lw_ms 119 rfl) rfl
theorem qs120 : (Cond.selects "LehrBeltModel" ⟨"LehrBeltModel", "isSound", "(I)Z"⟩ ⟨"LehrBeltModel", "isSound", "(I)Z"⟩) ∈ lw_all := lw_g (lw_at lw_ms 120 rfl) rfl
theorem qs121 : (Cond.selects "LehrBeltModel" ⟨"LehrBeltModel", "bestPace", "()I"⟩ ⟨"LehrBeltModel", "bestPace", "()I"⟩) ∈ lw_all := lw_g (lw_at lw_ms 121 rfl) rfl
theorem qs122 : (Cond.selects "LehrBeltModel" ⟨"LehrBeltModel", "soundBy", "(I)I"⟩ ⟨"LehrBeltModel", "soundBy", "(I)I"⟩) ∈ lw_all := lw_g (lw_at lw_ms 122 rfl) rfl
theorem qs123 : (Cond.selects "LehrBeltModel" ⟨"LehrBeltModel", "raiseOf", "(II)I"⟩ ⟨"LehrBeltModel", "raiseOf", "(II)I"⟩) ∈ lw_all := lw_g (lw_at lw_ms 123 rfl) rfl
theorem qs124 : (Cond.selects "LehrBeltModel" ⟨"LehrBeltModel", "skips", "(I)V"⟩ ⟨"LehrBeltModel", "skips", "(I)V"⟩) ∈ lw_all := lw_g (lw_at lw_ms 124 rfl) rfl
theorem qs125 : (Cond.selects "LehrBeltModel" ⟨"LehrBeltModel", "whyNot", "(IZ)I"⟩ ⟨"LehrBeltModel", "whyNot", "(IZ)I"⟩) ∈ lw_all := lw_g (lw_at lw_ms 125 rfl) rfl
theorem qs126 : (Cond.selects "LehrBeltModel" ⟨"LehrBeltModel", "laysSeen", "(II)V"⟩ ⟨"LehrBeltModel", "laysSeen", "(II)V"⟩) ∈ lw_all := lw_g (lw_at lw_ms 126 rfl) rfl
theorem qs127 : (Cond.selects "LehrBeltModel" ⟨"LehrBeltModel", "isSo", "(I)Z"⟩ ⟨"LehrBeltModel", "isSo", "(I)Z"⟩) ∈ lw_all := lw_g (lw_at lw_ms 127 rfl) rfl
theorem qs128 : (Cond.selects "LehrBeltModel" ⟨"LehrBeltModel", "byLaw", "(I)I"⟩ ⟨"LehrBeltModel", "byLaw", "(I)I"⟩) ∈ lw_all := lw_g (lw_at lw_ms 128 rfl) rfl
theorem qs129 : (Cond.selects "LehrBeltModel" ⟨"LehrBeltModel", "worthOf", "(I)I"⟩ ⟨"LehrBeltModel", "worthOf", "(I)I"⟩) ∈ lw_all := lw_g (lw_at lw_ms 129 rfl) rfl
theorem qs130 : (Cond.selects "LehrBeltModel" ⟨"LehrBeltModel", "areTwo", "(II)Z"⟩ ⟨"LehrBeltModel", "areTwo", "(II)Z"⟩) ∈ lw_all := lw_g (lw_at lw_ms 130 rfl) rfl
theorem qs131 : (Cond.selects "LehrBeltModel" ⟨"LehrBeltModel", "getsBy", "(IIIII)I"⟩ ⟨"LehrBeltModel", "getsBy", "(IIIII)I"⟩) ∈ lw_all := lw_g (lw_at lw_ms 131 rfl) rfl
theorem qs132 : (Cond.selects "LehrBeltModel" ⟨"LehrBeltModel", "isSoon", "(I)Z"⟩ ⟨"LehrBeltModel", "isSoon", "(I)Z"⟩) ∈ lw_all := lw_g (lw_at lw_ms 132 rfl) rfl
theorem qs133 : (Cond.selects "LehrBeltModel" ⟨"LehrBeltModel", "weightOf", "(II)J"⟩ ⟨"LehrBeltModel", "weightOf", "(II)J"⟩) ∈ lw_all := lw_g (lw_at lw_ms 133 rfl) rfl
theorem qs134 : (Cond.selects "LehrBeltModel" ⟨"LehrBeltModel", "draws", "(J)V"⟩ ⟨"LehrBeltModel", "draws", "(J)V"⟩) ∈ lw_all := lw_g (lw_at lw_ms 134 rfl) rfl
theorem qs135 : (Cond.selects "LehrBeltModel" ⟨"LehrBeltModel", "does", "(IIII)V"⟩ ⟨"LehrBeltModel", "does", "(IIII)V"⟩) ∈ lw_all := lw_g (lw_at lw_ms 135 rfl) rfl
