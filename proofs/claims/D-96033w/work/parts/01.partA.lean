-- ===== PART A: goes FIRST, ahead of the names: the tables' words, and 'selects' of the private methods out of them =====
/-- a private method of a class that the tables say can be made, by its rows of tables_1 -/
def lw_okq (q : MethodName × Nat) : Prop := (q.1.cls ≠ "java/lang/invoke/MethodHandle" ∧ q.1.cls ≠ "java/lang/invoke/VarHandle") ∧ Cond.instantiable q.1.cls q.2 ∈ tables_1 ∧ Cond.privateMethod q.1 ∈ tables_1 ∧ Cond.instanceMethod q.1 ∈ tables_1
set_option maxRecDepth 100000
theorem lw_t1 {w : Cond} (h : w ∈ tables_1_1) : w ∈ tables_1 := List.mem_append_left _ h
theorem lw_t2 {w : Cond} (h : w ∈ tables_1_2) : w ∈ tables_1 := List.mem_append_right _ (List.mem_append_left _ h)
theorem lw_t3 {w : Cond} (h : w ∈ tables_1_3) : w ∈ tables_1 := List.mem_append_right _ (List.mem_append_right _ (List.mem_append_left _ h))
theorem lw_t4 {w : Cond} (h : w ∈ tables_1_4) : w ∈ tables_1 := List.mem_append_right _ (List.mem_append_right _ (List.mem_append_right _ (List.mem_append_left _ h)))
theorem lw_t5 {w : Cond} (h : w ∈ tables_1_5) : w ∈ tables_1 := List.mem_append_right _ (List.mem_append_right _ (List.mem_append_right _ (List.mem_append_right _ (List.mem_append_left _ h))))
theorem lw_t6 {w : Cond} (h : w ∈ tables_1_6) : w ∈ tables_1 := List.mem_append_right _ (List.mem_append_right _ (List.mem_append_right _ (List.mem_append_right _ (List.mem_append_right _ (List.mem_append_left _ h)))))
theorem lw_t7 {w : Cond} (h : w ∈ tables_1_7) : w ∈ tables_1 := List.mem_append_right _ (List.mem_append_right _ (List.mem_append_right _ (List.mem_append_right _ (List.mem_append_right _ (List.mem_append_right _ (List.mem_append_left _ h))))))
theorem lw_t8 {w : Cond} (h : w ∈ tables_1_8) : w ∈ tables_1 := List.mem_append_right _ (List.mem_append_right _ (List.mem_append_right _ (List.mem_append_right _ (List.mem_append_right _ (List.mem_append_right _ (List.mem_append_right _ (List.mem_append_left _ h)))))))
theorem lw_t9 {w : Cond} (h : w ∈ tables_1_9) : w ∈ tables_1 := List.mem_append_right _ (List.mem_append_right _ (List.mem_append_right _ (List.mem_append_right _ (List.mem_append_right _ (List.mem_append_right _ (List.mem_append_right _ (List.mem_append_right _ h)))))))
theorem lw_p0 : lw_okq (⟨"ChairOld", "addPart", "(II)I"⟩, 25) := ⟨⟨by decide +kernel, by decide +kernel⟩, lw_t1 (List.mem_of_getElem? (i := 49) rfl), lw_t1 (List.mem_of_getElem? (i := 201) rfl), lw_t1 (List.mem_of_getElem? (i := 202) rfl)⟩
theorem lw_p1 : lw_okq (⟨"java/lang/NullPointerException", "getExtendedNPEMessage", "()Ljava/lang/String;"⟩, 8) := ⟨⟨by decide +kernel, by decide +kernel⟩, lw_t2 (List.mem_of_getElem? (i := 20) rfl), lw_t2 (List.mem_of_getElem? (i := 18) rfl), lw_t2 (List.mem_of_getElem? (i := 19) rfl)⟩
theorem lw_p2 : lw_okq (⟨"java/lang/Throwable", "fillInStackTrace", "(I)Ljava/lang/Throwable;"⟩, 6) := ⟨⟨by decide +kernel, by decide +kernel⟩, lw_t2 (List.mem_of_getElem? (i := 32) rfl), lw_t2 (List.mem_of_getElem? (i := 30) rfl), lw_t2 (List.mem_of_getElem? (i := 31) rfl)⟩
theorem lw_p3 : lw_okq (⟨"ChairOld", "isFound", "(I)Z"⟩, 25) := ⟨⟨by decide +kernel, by decide +kernel⟩, lw_t1 (List.mem_of_getElem? (i := 49) rfl), lw_t2 (List.mem_of_getElem? (i := 131) rfl), lw_t2 (List.mem_of_getElem? (i := 132) rfl)⟩
theorem lw_p4 : lw_okq (⟨"ChairOld", "isPart", "(I)Z"⟩, 25) := ⟨⟨by decide +kernel, by decide +kernel⟩, lw_t1 (List.mem_of_getElem? (i := 49) rfl), lw_t2 (List.mem_of_getElem? (i := 135) rfl), lw_t2 (List.mem_of_getElem? (i := 136) rfl)⟩
theorem lw_p5 : lw_okq (⟨"ChairOld", "setTo", "(III)V"⟩, 25) := ⟨⟨by decide +kernel, by decide +kernel⟩, lw_t1 (List.mem_of_getElem? (i := 49) rfl), lw_t2 (List.mem_of_getElem? (i := 153) rfl), lw_t2 (List.mem_of_getElem? (i := 154) rfl)⟩
theorem lw_p6 : lw_okq (⟨"ChairOld", "become", "(IIII)I"⟩, 25) := ⟨⟨by decide +kernel, by decide +kernel⟩, lw_t1 (List.mem_of_getElem? (i := 49) rfl), lw_t2 (List.mem_of_getElem? (i := 165) rfl), lw_t2 (List.mem_of_getElem? (i := 166) rfl)⟩
theorem lw_p7 : lw_okq (⟨"ChairOld$Reader", "line", "()LChairOld$Line;"⟩, 4) := ⟨⟨by decide +kernel, by decide +kernel⟩, lw_t2 (List.mem_of_getElem? (i := 199) rfl), lw_t2 (List.mem_of_getElem? (i := 223) rfl), lw_t2 (List.mem_of_getElem? (i := 224) rfl)⟩
theorem lw_p8 : lw_okq (⟨"ChairOld$Reader", "either", "()LChairOld$Node;"⟩, 4) := ⟨⟨by decide +kernel, by decide +kernel⟩, lw_t2 (List.mem_of_getElem? (i := 199) rfl), lw_t3 (List.mem_of_getElem? (i := 6) rfl), lw_t3 (List.mem_of_getElem? (i := 7) rfl)⟩
theorem lw_p9 : lw_okq (⟨"ChairOld$Reader", "all", "()LChairOld$Node;"⟩, 4) := ⟨⟨by decide +kernel, by decide +kernel⟩, lw_t2 (List.mem_of_getElem? (i := 199) rfl), lw_t3 (List.mem_of_getElem? (i := 10) rfl), lw_t3 (List.mem_of_getElem? (i := 11) rfl)⟩
theorem lw_p10 : lw_okq (⟨"ChairOld$Reader", "compared", "()LChairOld$Node;"⟩, 4) := ⟨⟨by decide +kernel, by decide +kernel⟩, lw_t2 (List.mem_of_getElem? (i := 199) rfl), lw_t3 (List.mem_of_getElem? (i := 14) rfl), lw_t3 (List.mem_of_getElem? (i := 15) rfl)⟩
theorem lw_p11 : lw_okq (⟨"ChairOld$Reader", "sum", "()LChairOld$Node;"⟩, 4) := ⟨⟨by decide +kernel, by decide +kernel⟩, lw_t2 (List.mem_of_getElem? (i := 199) rfl), lw_t3 (List.mem_of_getElem? (i := 18) rfl), lw_t3 (List.mem_of_getElem? (i := 19) rfl)⟩
theorem lw_p12 : lw_okq (⟨"ChairOld$Reader", "product", "()LChairOld$Node;"⟩, 4) := ⟨⟨by decide +kernel, by decide +kernel⟩, lw_t2 (List.mem_of_getElem? (i := 199) rfl), lw_t3 (List.mem_of_getElem? (i := 22) rfl), lw_t3 (List.mem_of_getElem? (i := 23) rfl)⟩
theorem lw_p13 : lw_okq (⟨"ChairOld$Reader", "operand", "()LChairOld$Node;"⟩, 4) := ⟨⟨by decide +kernel, by decide +kernel⟩, lw_t2 (List.mem_of_getElem? (i := 199) rfl), lw_t3 (List.mem_of_getElem? (i := 26) rfl), lw_t3 (List.mem_of_getElem? (i := 27) rfl)⟩
theorem lw_p14 : lw_okq (⟨"ChairOld$Reader", "here", "()I"⟩, 4) := ⟨⟨by decide +kernel, by decide +kernel⟩, lw_t2 (List.mem_of_getElem? (i := 199) rfl), lw_t3 (List.mem_of_getElem? (i := 30) rfl), lw_t3 (List.mem_of_getElem? (i := 31) rfl)⟩
theorem lw_p15 : lw_okq (⟨"ChairOld$Reader", "isOne", "(Ljava/lang/String;)Z"⟩, 4) := ⟨⟨by decide +kernel, by decide +kernel⟩, lw_t2 (List.mem_of_getElem? (i := 199) rfl), lw_t3 (List.mem_of_getElem? (i := 35) rfl), lw_t3 (List.mem_of_getElem? (i := 36) rfl)⟩
def lw_privs_1 : List (MethodName × Nat) := [(⟨"ChairOld", "addPart", "(II)I"⟩, 25), (⟨"java/lang/NullPointerException", "getExtendedNPEMessage", "()Ljava/lang/String;"⟩, 8), (⟨"java/lang/Throwable", "fillInStackTrace", "(I)Ljava/lang/Throwable;"⟩, 6), (⟨"ChairOld", "isFound", "(I)Z"⟩, 25), (⟨"ChairOld", "isPart", "(I)Z"⟩, 25), (⟨"ChairOld", "setTo", "(III)V"⟩, 25), (⟨"ChairOld", "become", "(IIII)I"⟩, 25), (⟨"ChairOld$Reader", "line", "()LChairOld$Line;"⟩, 4), (⟨"ChairOld$Reader", "either", "()LChairOld$Node;"⟩, 4), (⟨"ChairOld$Reader", "all", "()LChairOld$Node;"⟩, 4), (⟨"ChairOld$Reader", "compared", "()LChairOld$Node;"⟩, 4), (⟨"ChairOld$Reader", "sum", "()LChairOld$Node;"⟩, 4), (⟨"ChairOld$Reader", "product", "()LChairOld$Node;"⟩, 4), (⟨"ChairOld$Reader", "operand", "()LChairOld$Node;"⟩, 4), (⟨"ChairOld$Reader", "here", "()I"⟩, 4), (⟨"ChairOld$Reader", "isOne", "(Ljava/lang/String;)Z"⟩, 4)]
theorem lw_r1 : ∀ q ∈ lw_privs_1, lw_okq q := List.forall_mem_cons.mpr ⟨lw_p0, List.forall_mem_cons.mpr ⟨lw_p1, List.forall_mem_cons.mpr ⟨lw_p2, List.forall_mem_cons.mpr ⟨lw_p3, List.forall_mem_cons.mpr ⟨lw_p4, List.forall_mem_cons.mpr ⟨lw_p5, List.forall_mem_cons.mpr ⟨lw_p6, List.forall_mem_cons.mpr ⟨lw_p7, List.forall_mem_cons.mpr ⟨lw_p8, List.forall_mem_cons.mpr ⟨lw_p9, List.forall_mem_cons.mpr ⟨lw_p10, List.forall_mem_cons.mpr ⟨lw_p11, List.forall_mem_cons.mpr ⟨lw_p12, List.forall_mem_cons.mpr ⟨lw_p13, List.forall_mem_cons.mpr ⟨lw_p14, List.forall_mem_cons.mpr ⟨lw_p15, fun _ h => absurd h List.not_mem_nil⟩⟩⟩⟩⟩⟩⟩⟩⟩⟩⟩⟩⟩⟩⟩⟩
theorem lw_p16 : lw_okq (⟨"ChairOld$Reader", "opens", "()Z"⟩, 4) := ⟨⟨by decide +kernel, by decide +kernel⟩, lw_t2 (List.mem_of_getElem? (i := 199) rfl), lw_t3 (List.mem_of_getElem? (i := 138) rfl), lw_t3 (List.mem_of_getElem? (i := 139) rfl)⟩
theorem lw_p17 : lw_okq (⟨"ChairOld$Reader", "wrong", "()LChairOld$Node;"⟩, 4) := ⟨⟨by decide +kernel, by decide +kernel⟩, lw_t2 (List.mem_of_getElem? (i := 199) rfl), lw_t3 (List.mem_of_getElem? (i := 142) rfl), lw_t3 (List.mem_of_getElem? (i := 143) rfl)⟩
theorem lw_p18 : lw_okq (⟨"ChairOld$Reader", "joined", "(ILChairOld$Node;LChairOld$Node;)LChairOld$Node;"⟩, 4) := ⟨⟨by decide +kernel, by decide +kernel⟩, lw_t2 (List.mem_of_getElem? (i := 199) rfl), lw_t3 (List.mem_of_getElem? (i := 178) rfl), lw_t3 (List.mem_of_getElem? (i := 179) rfl)⟩
theorem lw_p19 : lw_okq (⟨"ChairOld", "numberOf", "(LChairOld$Part;III)I"⟩, 25) := ⟨⟨by decide +kernel, by decide +kernel⟩, lw_t1 (List.mem_of_getElem? (i := 49) rfl), lw_t3 (List.mem_of_getElem? (i := 207) rfl), lw_t3 (List.mem_of_getElem? (i := 208) rfl)⟩
theorem lw_p20 : lw_okq (⟨"ChairOld", "isPartKind", "(I)Z"⟩, 25) := ⟨⟨by decide +kernel, by decide +kernel⟩, lw_t1 (List.mem_of_getElem? (i := 49) rfl), lw_t4 (List.mem_of_getElem? (i := 8) rfl), lw_t4 (List.mem_of_getElem? (i := 9) rfl)⟩
theorem lw_p21 : lw_okq (⟨"ChairOld", "findWeights", "(I)V"⟩, 25) := ⟨⟨by decide +kernel, by decide +kernel⟩, lw_t1 (List.mem_of_getElem? (i := 49) rfl), lw_t4 (List.mem_of_getElem? (i := 13) rfl), lw_t4 (List.mem_of_getElem? (i := 14) rfl)⟩
theorem lw_p22 : lw_okq (⟨"ChairOld", "findNumbers", "(LChairOld$Part;)V"⟩, 25) := ⟨⟨by decide +kernel, by decide +kernel⟩, lw_t1 (List.mem_of_getElem? (i := 49) rfl), lw_t4 (List.mem_of_getElem? (i := 17) rfl), lw_t4 (List.mem_of_getElem? (i := 18) rfl)⟩
theorem lw_p23 : lw_okq (⟨"ChairOld", "weigh", "()V"⟩, 25) := ⟨⟨by decide +kernel, by decide +kernel⟩, lw_t1 (List.mem_of_getElem? (i := 49) rfl), lw_t4 (List.mem_of_getElem? (i := 21) rfl), lw_t4 (List.mem_of_getElem? (i := 22) rfl)⟩
theorem lw_p24 : lw_okq (⟨"ChairOld", "numberAt", "(II)I"⟩, 25) := ⟨⟨by decide +kernel, by decide +kernel⟩, lw_t1 (List.mem_of_getElem? (i := 49) rfl), lw_t4 (List.mem_of_getElem? (i := 25) rfl), lw_t4 (List.mem_of_getElem? (i := 26) rfl)⟩
theorem lw_p25 : lw_okq (⟨"ChairOld", "percentOf", "(I)I"⟩, 25) := ⟨⟨by decide +kernel, by decide +kernel⟩, lw_t1 (List.mem_of_getElem? (i := 49) rfl), lw_t4 (List.mem_of_getElem? (i := 36) rfl), lw_t4 (List.mem_of_getElem? (i := 37) rfl)⟩
theorem lw_p26 : lw_okq (⟨"ChairOld", "best", "()I"⟩, 25) := ⟨⟨by decide +kernel, by decide +kernel⟩, lw_t1 (List.mem_of_getElem? (i := 49) rfl), lw_t4 (List.mem_of_getElem? (i := 45) rfl), lw_t4 (List.mem_of_getElem? (i := 46) rfl)⟩
theorem lw_p27 : lw_okq (⟨"ChairOld", "whenOf", "(I)I"⟩, 25) := ⟨⟨by decide +kernel, by decide +kernel⟩, lw_t1 (List.mem_of_getElem? (i := 49) rfl), lw_t4 (List.mem_of_getElem? (i := 53) rfl), lw_t4 (List.mem_of_getElem? (i := 54) rfl)⟩
theorem lw_p28 : lw_okq (⟨"ChairOld", "two", "()I"⟩, 25) := ⟨⟨by decide +kernel, by decide +kernel⟩, lw_t1 (List.mem_of_getElem? (i := 49) rfl), lw_t4 (List.mem_of_getElem? (i := 61) rfl), lw_t4 (List.mem_of_getElem? (i := 62) rfl)⟩
theorem lw_p29 : lw_okq (⟨"ChairOld", "unseen", "(I)I"⟩, 25) := ⟨⟨by decide +kernel, by decide +kernel⟩, lw_t1 (List.mem_of_getElem? (i := 49) rfl), lw_t4 (List.mem_of_getElem? (i := 87) rfl), lw_t4 (List.mem_of_getElem? (i := 88) rfl)⟩
theorem lw_p30 : lw_okq (⟨"ChairOld", "namedOf", "(IIJ)I"⟩, 25) := ⟨⟨by decide +kernel, by decide +kernel⟩, lw_t1 (List.mem_of_getElem? (i := 49) rfl), lw_t4 (List.mem_of_getElem? (i := 91) rfl), lw_t4 (List.mem_of_getElem? (i := 92) rfl)⟩
theorem lw_p31 : lw_okq (⟨"ChairOld", "namedBy", "(III)J"⟩, 25) := ⟨⟨by decide +kernel, by decide +kernel⟩, lw_t1 (List.mem_of_getElem? (i := 49) rfl), lw_t4 (List.mem_of_getElem? (i := 102) rfl), lw_t4 (List.mem_of_getElem? (i := 103) rfl)⟩
def lw_privs_2 : List (MethodName × Nat) := [(⟨"ChairOld$Reader", "opens", "()Z"⟩, 4), (⟨"ChairOld$Reader", "wrong", "()LChairOld$Node;"⟩, 4), (⟨"ChairOld$Reader", "joined", "(ILChairOld$Node;LChairOld$Node;)LChairOld$Node;"⟩, 4), (⟨"ChairOld", "numberOf", "(LChairOld$Part;III)I"⟩, 25), (⟨"ChairOld", "isPartKind", "(I)Z"⟩, 25), (⟨"ChairOld", "findWeights", "(I)V"⟩, 25), (⟨"ChairOld", "findNumbers", "(LChairOld$Part;)V"⟩, 25), (⟨"ChairOld", "weigh", "()V"⟩, 25), (⟨"ChairOld", "numberAt", "(II)I"⟩, 25), (⟨"ChairOld", "percentOf", "(I)I"⟩, 25), (⟨"ChairOld", "best", "()I"⟩, 25), (⟨"ChairOld", "whenOf", "(I)I"⟩, 25), (⟨"ChairOld", "two", "()I"⟩, 25), (⟨"ChairOld", "unseen", "(I)I"⟩, 25), (⟨"ChairOld", "namedOf", "(IIJ)I"⟩, 25), (⟨"ChairOld", "namedBy", "(III)J"⟩, 25)]
theorem lw_r2 : ∀ q ∈ lw_privs_2, lw_okq q := List.forall_mem_cons.mpr ⟨lw_p16, List.forall_mem_cons.mpr ⟨lw_p17, List.forall_mem_cons.mpr ⟨lw_p18, List.forall_mem_cons.mpr ⟨lw_p19, List.forall_mem_cons.mpr ⟨lw_p20, List.forall_mem_cons.mpr ⟨lw_p21, List.forall_mem_cons.mpr ⟨lw_p22, List.forall_mem_cons.mpr ⟨lw_p23, List.forall_mem_cons.mpr ⟨lw_p24, List.forall_mem_cons.mpr ⟨lw_p25, List.forall_mem_cons.mpr ⟨lw_p26, List.forall_mem_cons.mpr ⟨lw_p27, List.forall_mem_cons.mpr ⟨lw_p28, List.forall_mem_cons.mpr ⟨lw_p29, List.forall_mem_cons.mpr ⟨lw_p30, List.forall_mem_cons.mpr ⟨lw_p31, fun _ h => absurd h List.not_mem_nil⟩⟩⟩⟩⟩⟩⟩⟩⟩⟩⟩⟩⟩⟩⟩⟩
theorem lw_p32 : lw_okq (⟨"ChairOld", "minutesOf", "(I)I"⟩, 25) := ⟨⟨by decide +kernel, by decide +kernel⟩, lw_t1 (List.mem_of_getElem? (i := 49) rfl), lw_t4 (List.mem_of_getElem? (i := 110) rfl), lw_t4 (List.mem_of_getElem? (i := 111) rfl)⟩
theorem lw_p33 : lw_okq (⟨"ChairOld", "believedBy", "(I)I"⟩, 25) := ⟨⟨by decide +kernel, by decide +kernel⟩, lw_t1 (List.mem_of_getElem? (i := 49) rfl), lw_t4 (List.mem_of_getElem? (i := 118) rfl), lw_t4 (List.mem_of_getElem? (i := 119) rfl)⟩
theorem lw_p34 : lw_okq (⟨"ChairOld", "weighMade", "(I)V"⟩, 25) := ⟨⟨by decide +kernel, by decide +kernel⟩, lw_t1 (List.mem_of_getElem? (i := 49) rfl), lw_t4 (List.mem_of_getElem? (i := 122) rfl), lw_t4 (List.mem_of_getElem? (i := 123) rfl)⟩
theorem lw_p35 : lw_okq (⟨"ChairOld", "costOf", "(I)I"⟩, 25) := ⟨⟨by decide +kernel, by decide +kernel⟩, lw_t1 (List.mem_of_getElem? (i := 49) rfl), lw_t4 (List.mem_of_getElem? (i := 130) rfl), lw_t4 (List.mem_of_getElem? (i := 131) rfl)⟩
theorem lw_p36 : lw_okq (⟨"ChairOld", "priceOf", "(I)I"⟩, 25) := ⟨⟨by decide +kernel, by decide +kernel⟩, lw_t1 (List.mem_of_getElem? (i := 49) rfl), lw_t4 (List.mem_of_getElem? (i := 142) rfl), lw_t4 (List.mem_of_getElem? (i := 143) rfl)⟩
theorem lw_p37 : lw_okq (⟨"ChairOld", "clash", "()I"⟩, 25) := ⟨⟨by decide +kernel, by decide +kernel⟩, lw_t1 (List.mem_of_getElem? (i := 49) rfl), lw_t4 (List.mem_of_getElem? (i := 172) rfl), lw_t4 (List.mem_of_getElem? (i := 173) rfl)⟩
theorem lw_p38 : lw_okq (⟨"ChairOld", "gaps", "()I"⟩, 25) := ⟨⟨by decide +kernel, by decide +kernel⟩, lw_t1 (List.mem_of_getElem? (i := 49) rfl), lw_t4 (List.mem_of_getElem? (i := 180) rfl), lw_t4 (List.mem_of_getElem? (i := 181) rfl)⟩
theorem lw_p39 : lw_okq (⟨"ChairOld", "houseOf", "(I)I"⟩, 25) := ⟨⟨by decide +kernel, by decide +kernel⟩, lw_t1 (List.mem_of_getElem? (i := 49) rfl), lw_t4 (List.mem_of_getElem? (i := 184) rfl), lw_t4 (List.mem_of_getElem? (i := 185) rfl)⟩
theorem lw_p40 : lw_okq (⟨"ChairOld", "made", "(I)LChairOld$Plain;"⟩, 25) := ⟨⟨by decide +kernel, by decide +kernel⟩, lw_t1 (List.mem_of_getElem? (i := 49) rfl), lw_t4 (List.mem_of_getElem? (i := 213) rfl), lw_t4 (List.mem_of_getElem? (i := 214) rfl)⟩
theorem lw_p41 : lw_okq (⟨"ChairOld", "isBody", "(I)Z"⟩, 25) := ⟨⟨by decide +kernel, by decide +kernel⟩, lw_t1 (List.mem_of_getElem? (i := 49) rfl), lw_t5 (List.mem_of_getElem? (i := 86) rfl), lw_t5 (List.mem_of_getElem? (i := 87) rfl)⟩
theorem lw_p42 : lw_okq (⟨"ChairOld", "ran", "(I)V"⟩, 25) := ⟨⟨by decide +kernel, by decide +kernel⟩, lw_t1 (List.mem_of_getElem? (i := 49) rfl), lw_t5 (List.mem_of_getElem? (i := 100) rfl), lw_t5 (List.mem_of_getElem? (i := 101) rfl)⟩
theorem lw_p43 : lw_okq (⟨"ChairOld", "lookedAll", "()I"⟩, 25) := ⟨⟨by decide +kernel, by decide +kernel⟩, lw_t1 (List.mem_of_getElem? (i := 49) rfl), lw_t6 (List.mem_of_getElem? (i := 208) rfl), lw_t6 (List.mem_of_getElem? (i := 209) rfl)⟩
theorem lw_p44 : lw_okq (⟨"ChairOldModel", "adds", "(II)V"⟩, 44) := ⟨⟨by decide +kernel, by decide +kernel⟩, lw_t6 (List.mem_of_getElem? (i := 216) rfl), lw_t7 (List.mem_of_getElem? (i := 131) rfl), lw_t7 (List.mem_of_getElem? (i := 132) rfl)⟩
theorem lw_p45 : lw_okq (⟨"ChairOldModel", "becomes", "(II)I"⟩, 44) := ⟨⟨by decide +kernel, by decide +kernel⟩, lw_t6 (List.mem_of_getElem? (i := 216) rfl), lw_t7 (List.mem_of_getElem? (i := 152) rfl), lw_t7 (List.mem_of_getElem? (i := 153) rfl)⟩
theorem lw_p46 : lw_okq (⟨"ChairOldModel", "isPm", "(I)Z"⟩, 44) := ⟨⟨by decide +kernel, by decide +kernel⟩, lw_t6 (List.mem_of_getElem? (i := 216) rfl), lw_t7 (List.mem_of_getElem? (i := 163) rfl), lw_t7 (List.mem_of_getElem? (i := 164) rfl)⟩
theorem lw_p47 : lw_okq (⟨"ChairOldModel", "isPart", "(I)Z"⟩, 44) := ⟨⟨by decide +kernel, by decide +kernel⟩, lw_t6 (List.mem_of_getElem? (i := 216) rfl), lw_t7 (List.mem_of_getElem? (i := 167) rfl), lw_t7 (List.mem_of_getElem? (i := 168) rfl)⟩
def lw_privs_3 : List (MethodName × Nat) := [(⟨"ChairOld", "minutesOf", "(I)I"⟩, 25), (⟨"ChairOld", "believedBy", "(I)I"⟩, 25), (⟨"ChairOld", "weighMade", "(I)V"⟩, 25), (⟨"ChairOld", "costOf", "(I)I"⟩, 25), (⟨"ChairOld", "priceOf", "(I)I"⟩, 25), (⟨"ChairOld", "clash", "()I"⟩, 25), (⟨"ChairOld", "gaps", "()I"⟩, 25), (⟨"ChairOld", "houseOf", "(I)I"⟩, 25), (⟨"ChairOld", "made", "(I)LChairOld$Plain;"⟩, 25), (⟨"ChairOld", "isBody", "(I)Z"⟩, 25), (⟨"ChairOld", "ran", "(I)V"⟩, 25), (⟨"ChairOld", "lookedAll", "()I"⟩, 25), (⟨"ChairOldModel", "adds", "(II)V"⟩, 44), (⟨"ChairOldModel", "becomes", "(II)I"⟩, 44), (⟨"ChairOldModel", "isPm", "(I)Z"⟩, 44), (⟨"ChairOldModel", "isPart", "(I)Z"⟩, 44)]
theorem lw_r3 : ∀ q ∈ lw_privs_3, lw_okq q := List.forall_mem_cons.mpr ⟨lw_p32, List.forall_mem_cons.mpr ⟨lw_p33, List.forall_mem_cons.mpr ⟨lw_p34, List.forall_mem_cons.mpr ⟨lw_p35, List.forall_mem_cons.mpr ⟨lw_p36, List.forall_mem_cons.mpr ⟨lw_p37, List.forall_mem_cons.mpr ⟨lw_p38, List.forall_mem_cons.mpr ⟨lw_p39, List.forall_mem_cons.mpr ⟨lw_p40, List.forall_mem_cons.mpr ⟨lw_p41, List.forall_mem_cons.mpr ⟨lw_p42, List.forall_mem_cons.mpr ⟨lw_p43, List.forall_mem_cons.mpr ⟨lw_p44, List.forall_mem_cons.mpr ⟨lw_p45, List.forall_mem_cons.mpr ⟨lw_p46, List.forall_mem_cons.mpr ⟨lw_p47, fun _ h => absurd h List.not_mem_nil⟩⟩⟩⟩⟩⟩⟩⟩⟩⟩⟩⟩⟩⟩⟩⟩
theorem lw_p48 : lw_okq (⟨"ChairOldModel", "workOut", "(II)I"⟩, 44) := ⟨⟨by decide +kernel, by decide +kernel⟩, lw_t6 (List.mem_of_getElem? (i := 216) rfl), lw_t7 (List.mem_of_getElem? (i := 191) rfl), lw_t7 (List.mem_of_getElem? (i := 192) rfl)⟩
theorem lw_p49 : lw_okq (⟨"ChairOldModel", "either", "()I"⟩, 44) := ⟨⟨by decide +kernel, by decide +kernel⟩, lw_t6 (List.mem_of_getElem? (i := 216) rfl), lw_t7 (List.mem_of_getElem? (i := 195) rfl), lw_t7 (List.mem_of_getElem? (i := 196) rfl)⟩
theorem lw_p50 : lw_okq (⟨"ChairOldModel", "both", "()I"⟩, 44) := ⟨⟨by decide +kernel, by decide +kernel⟩, lw_t6 (List.mem_of_getElem? (i := 216) rfl), lw_t7 (List.mem_of_getElem? (i := 199) rfl), lw_t7 (List.mem_of_getElem? (i := 200) rfl)⟩
theorem lw_p51 : lw_okq (⟨"ChairOldModel", "compared", "()I"⟩, 44) := ⟨⟨by decide +kernel, by decide +kernel⟩, lw_t6 (List.mem_of_getElem? (i := 216) rfl), lw_t7 (List.mem_of_getElem? (i := 203) rfl), lw_t7 (List.mem_of_getElem? (i := 204) rfl)⟩
theorem lw_p52 : lw_okq (⟨"ChairOldModel", "sums", "()I"⟩, 44) := ⟨⟨by decide +kernel, by decide +kernel⟩, lw_t6 (List.mem_of_getElem? (i := 216) rfl), lw_t7 (List.mem_of_getElem? (i := 207) rfl), lw_t7 (List.mem_of_getElem? (i := 208) rfl)⟩
theorem lw_p53 : lw_okq (⟨"ChairOldModel", "product", "()I"⟩, 44) := ⟨⟨by decide +kernel, by decide +kernel⟩, lw_t6 (List.mem_of_getElem? (i := 216) rfl), lw_t7 (List.mem_of_getElem? (i := 211) rfl), lw_t7 (List.mem_of_getElem? (i := 212) rfl)⟩
theorem lw_p54 : lw_okq (⟨"ChairOldModel", "one", "()I"⟩, 44) := ⟨⟨by decide +kernel, by decide +kernel⟩, lw_t6 (List.mem_of_getElem? (i := 216) rfl), lw_t7 (List.mem_of_getElem? (i := 215) rfl), lw_t7 (List.mem_of_getElem? (i := 216) rfl)⟩
theorem lw_p55 : lw_okq (⟨"ChairOldModel", "byteAt", "()I"⟩, 44) := ⟨⟨by decide +kernel, by decide +kernel⟩, lw_t6 (List.mem_of_getElem? (i := 216) rfl), lw_t7 (List.mem_of_getElem? (i := 219) rfl), lw_t7 (List.mem_of_getElem? (i := 220) rfl)⟩
theorem lw_p56 : lw_okq (⟨"ChairOldModel", "wrong", "()I"⟩, 44) := ⟨⟨by decide +kernel, by decide +kernel⟩, lw_t6 (List.mem_of_getElem? (i := 216) rfl), lw_t7 (List.mem_of_getElem? (i := 223) rfl), lw_t7 (List.mem_of_getElem? (i := 224) rfl)⟩
theorem lw_p57 : lw_okq (⟨"ChairOldModel", "takes", "(I)Z"⟩, 44) := ⟨⟨by decide +kernel, by decide +kernel⟩, lw_t6 (List.mem_of_getElem? (i := 216) rfl), lw_t7 (List.mem_of_getElem? (i := 227) rfl), lw_t7 (List.mem_of_getElem? (i := 228) rfl)⟩
theorem lw_p58 : lw_okq (⟨"ChairOldModel", "numberOf", "(IIII)I"⟩, 44) := ⟨⟨by decide +kernel, by decide +kernel⟩, lw_t6 (List.mem_of_getElem? (i := 216) rfl), lw_t7 (List.mem_of_getElem? (i := 238) rfl), lw_t7 (List.mem_of_getElem? (i := 239) rfl)⟩
theorem lw_p59 : lw_okq (⟨"ChairOldModel", "isPk", "(I)Z"⟩, 44) := ⟨⟨by decide +kernel, by decide +kernel⟩, lw_t6 (List.mem_of_getElem? (i := 216) rfl), lw_t8 (List.mem_of_getElem? (i := 6) rfl), lw_t8 (List.mem_of_getElem? (i := 7) rfl)⟩
theorem lw_p60 : lw_okq (⟨"ChairOldModel", "weighsPart", "(I)V"⟩, 44) := ⟨⟨by decide +kernel, by decide +kernel⟩, lw_t6 (List.mem_of_getElem? (i := 216) rfl), lw_t8 (List.mem_of_getElem? (i := 11) rfl), lw_t8 (List.mem_of_getElem? (i := 12) rfl)⟩
theorem lw_p61 : lw_okq (⟨"ChairOldModel", "looksAt", "(I)V"⟩, 44) := ⟨⟨by decide +kernel, by decide +kernel⟩, lw_t6 (List.mem_of_getElem? (i := 216) rfl), lw_t8 (List.mem_of_getElem? (i := 15) rfl), lw_t8 (List.mem_of_getElem? (i := 16) rfl)⟩
theorem lw_p62 : lw_okq (⟨"ChairOldModel", "weighs", "()V"⟩, 44) := ⟨⟨by decide +kernel, by decide +kernel⟩, lw_t6 (List.mem_of_getElem? (i := 216) rfl), lw_t8 (List.mem_of_getElem? (i := 19) rfl), lw_t8 (List.mem_of_getElem? (i := 20) rfl)⟩
theorem lw_p63 : lw_okq (⟨"ChairOldModel", "percentNow", "(I)I"⟩, 44) := ⟨⟨by decide +kernel, by decide +kernel⟩, lw_t6 (List.mem_of_getElem? (i := 216) rfl), lw_t8 (List.mem_of_getElem? (i := 31) rfl), lw_t8 (List.mem_of_getElem? (i := 32) rfl)⟩
def lw_privs_4 : List (MethodName × Nat) := [(⟨"ChairOldModel", "workOut", "(II)I"⟩, 44), (⟨"ChairOldModel", "either", "()I"⟩, 44), (⟨"ChairOldModel", "both", "()I"⟩, 44), (⟨"ChairOldModel", "compared", "()I"⟩, 44), (⟨"ChairOldModel", "sums", "()I"⟩, 44), (⟨"ChairOldModel", "product", "()I"⟩, 44), (⟨"ChairOldModel", "one", "()I"⟩, 44), (⟨"ChairOldModel", "byteAt", "()I"⟩, 44), (⟨"ChairOldModel", "wrong", "()I"⟩, 44), (⟨"ChairOldModel", "takes", "(I)Z"⟩, 44), (⟨"ChairOldModel", "numberOf", "(IIII)I"⟩, 44), (⟨"ChairOldModel", "isPk", "(I)Z"⟩, 44), (⟨"ChairOldModel", "weighsPart", "(I)V"⟩, 44), (⟨"ChairOldModel", "looksAt", "(I)V"⟩, 44), (⟨"ChairOldModel", "weighs", "()V"⟩, 44), (⟨"ChairOldModel", "percentNow", "(I)I"⟩, 44)]
theorem lw_r4 : ∀ q ∈ lw_privs_4, lw_okq q := List.forall_mem_cons.mpr ⟨lw_p48, List.forall_mem_cons.mpr ⟨lw_p49, List.forall_mem_cons.mpr ⟨lw_p50, List.forall_mem_cons.mpr ⟨lw_p51, List.forall_mem_cons.mpr ⟨lw_p52, List.forall_mem_cons.mpr ⟨lw_p53, List.forall_mem_cons.mpr ⟨lw_p54, List.forall_mem_cons.mpr ⟨lw_p55, List.forall_mem_cons.mpr ⟨lw_p56, List.forall_mem_cons.mpr ⟨lw_p57, List.forall_mem_cons.mpr ⟨lw_p58, List.forall_mem_cons.mpr ⟨lw_p59, List.forall_mem_cons.mpr ⟨lw_p60, List.forall_mem_cons.mpr ⟨lw_p61, List.forall_mem_cons.mpr ⟨lw_p62, List.forall_mem_cons.mpr ⟨lw_p63, fun _ h => absurd h List.not_mem_nil⟩⟩⟩⟩⟩⟩⟩⟩⟩⟩⟩⟩⟩⟩⟩⟩
theorem lw_p64 : lw_okq (⟨"ChairOldModel", "mostOf", "()I"⟩, 44) := ⟨⟨by decide +kernel, by decide +kernel⟩, lw_t6 (List.mem_of_getElem? (i := 216) rfl), lw_t8 (List.mem_of_getElem? (i := 39) rfl), lw_t8 (List.mem_of_getElem? (i := 40) rfl)⟩
theorem lw_p65 : lw_okq (⟨"ChairOldModel", "whenNow", "(I)I"⟩, 44) := ⟨⟨by decide +kernel, by decide +kernel⟩, lw_t6 (List.mem_of_getElem? (i := 216) rfl), lw_t8 (List.mem_of_getElem? (i := 47) rfl), lw_t8 (List.mem_of_getElem? (i := 48) rfl)⟩
theorem lw_p66 : lw_okq (⟨"ChairOldModel", "unlooked", "(I)I"⟩, 44) := ⟨⟨by decide +kernel, by decide +kernel⟩, lw_t6 (List.mem_of_getElem? (i := 216) rfl), lw_t8 (List.mem_of_getElem? (i := 69) rfl), lw_t8 (List.mem_of_getElem? (i := 70) rfl)⟩
theorem lw_p67 : lw_okq (⟨"ChairOldModel", "namedBy", "(IIJ)I"⟩, 44) := ⟨⟨by decide +kernel, by decide +kernel⟩, lw_t6 (List.mem_of_getElem? (i := 216) rfl), lw_t8 (List.mem_of_getElem? (i := 73) rfl), lw_t8 (List.mem_of_getElem? (i := 74) rfl)⟩
theorem lw_p68 : lw_okq (⟨"ChairOldModel", "minutesOf", "(I)I"⟩, 44) := ⟨⟨by decide +kernel, by decide +kernel⟩, lw_t6 (List.mem_of_getElem? (i := 216) rfl), lw_t8 (List.mem_of_getElem? (i := 83) rfl), lw_t8 (List.mem_of_getElem? (i := 84) rfl)⟩
theorem lw_p69 : lw_okq (⟨"ChairOldModel", "believedBy", "(I)I"⟩, 44) := ⟨⟨by decide +kernel, by decide +kernel⟩, lw_t6 (List.mem_of_getElem? (i := 216) rfl), lw_t8 (List.mem_of_getElem? (i := 91) rfl), lw_t8 (List.mem_of_getElem? (i := 92) rfl)⟩
theorem lw_p70 : lw_okq (⟨"ChairOldModel", "costOf", "(I)I"⟩, 44) := ⟨⟨by decide +kernel, by decide +kernel⟩, lw_t6 (List.mem_of_getElem? (i := 216) rfl), lw_t8 (List.mem_of_getElem? (i := 99) rfl), lw_t8 (List.mem_of_getElem? (i := 100) rfl)⟩
theorem lw_p71 : lw_okq (⟨"ChairOldModel", "priceOf", "(I)I"⟩, 44) := ⟨⟨by decide +kernel, by decide +kernel⟩, lw_t6 (List.mem_of_getElem? (i := 216) rfl), lw_t8 (List.mem_of_getElem? (i := 111) rfl), lw_t8 (List.mem_of_getElem? (i := 112) rfl)⟩
theorem lw_p72 : lw_okq (⟨"ChairOldModel", "clash", "()I"⟩, 44) := ⟨⟨by decide +kernel, by decide +kernel⟩, lw_t6 (List.mem_of_getElem? (i := 216) rfl), lw_t8 (List.mem_of_getElem? (i := 123) rfl), lw_t8 (List.mem_of_getElem? (i := 124) rfl)⟩
theorem lw_p73 : lw_okq (⟨"ChairOldModel", "gaps", "()I"⟩, 44) := ⟨⟨by decide +kernel, by decide +kernel⟩, lw_t6 (List.mem_of_getElem? (i := 216) rfl), lw_t8 (List.mem_of_getElem? (i := 127) rfl), lw_t8 (List.mem_of_getElem? (i := 128) rfl)⟩
theorem lw_p74 : lw_okq (⟨"ChairOldModel", "houseOf", "(I)I"⟩, 44) := ⟨⟨by decide +kernel, by decide +kernel⟩, lw_t6 (List.mem_of_getElem? (i := 216) rfl), lw_t8 (List.mem_of_getElem? (i := 131) rfl), lw_t8 (List.mem_of_getElem? (i := 132) rfl)⟩
theorem lw_p75 : lw_okq (⟨"ChairOldModel", "isBody", "(I)Z"⟩, 44) := ⟨⟨by decide +kernel, by decide +kernel⟩, lw_t6 (List.mem_of_getElem? (i := 216) rfl), lw_t8 (List.mem_of_getElem? (i := 162) rfl), lw_t8 (List.mem_of_getElem? (i := 163) rfl)⟩
theorem lw_p76 : lw_okq (⟨"ChairOldModel", "agesAs", "(II)I"⟩, 44) := ⟨⟨by decide +kernel, by decide +kernel⟩, lw_t6 (List.mem_of_getElem? (i := 216) rfl), lw_t8 (List.mem_of_getElem? (i := 166) rfl), lw_t8 (List.mem_of_getElem? (i := 167) rfl)⟩
theorem lw_p77 : lw_okq (⟨"ChairOldModel", "begins", "(I)V"⟩, 44) := ⟨⟨by decide +kernel, by decide +kernel⟩, lw_t6 (List.mem_of_getElem? (i := 216) rfl), lw_t8 (List.mem_of_getElem? (i := 170) rfl), lw_t8 (List.mem_of_getElem? (i := 171) rfl)⟩
theorem lw_p78 : lw_okq (⟨"ChairOldModel", "joinsAs", "(II)I"⟩, 44) := ⟨⟨by decide +kernel, by decide +kernel⟩, lw_t6 (List.mem_of_getElem? (i := 216) rfl), lw_t8 (List.mem_of_getElem? (i := 174) rfl), lw_t8 (List.mem_of_getElem? (i := 175) rfl)⟩
theorem lw_p79 : lw_okq (⟨"ChairOldModel", "showsAs", "(II)I"⟩, 44) := ⟨⟨by decide +kernel, by decide +kernel⟩, lw_t6 (List.mem_of_getElem? (i := 216) rfl), lw_t8 (List.mem_of_getElem? (i := 178) rfl), lw_t8 (List.mem_of_getElem? (i := 179) rfl)⟩
def lw_privs_5 : List (MethodName × Nat) := [(⟨"ChairOldModel", "mostOf", "()I"⟩, 44), (⟨"ChairOldModel", "whenNow", "(I)I"⟩, 44), (⟨"ChairOldModel", "unlooked", "(I)I"⟩, 44), (⟨"ChairOldModel", "namedBy", "(IIJ)I"⟩, 44), (⟨"ChairOldModel", "minutesOf", "(I)I"⟩, 44), (⟨"ChairOldModel", "believedBy", "(I)I"⟩, 44), (⟨"ChairOldModel", "costOf", "(I)I"⟩, 44), (⟨"ChairOldModel", "priceOf", "(I)I"⟩, 44), (⟨"ChairOldModel", "clash", "()I"⟩, 44), (⟨"ChairOldModel", "gaps", "()I"⟩, 44), (⟨"ChairOldModel", "houseOf", "(I)I"⟩, 44), (⟨"ChairOldModel", "isBody", "(I)Z"⟩, 44), (⟨"ChairOldModel", "agesAs", "(II)I"⟩, 44), (⟨"ChairOldModel", "begins", "(I)V"⟩, 44), (⟨"ChairOldModel", "joinsAs", "(II)I"⟩, 44), (⟨"ChairOldModel", "showsAs", "(II)I"⟩, 44)]
theorem lw_r5 : ∀ q ∈ lw_privs_5, lw_okq q := List.forall_mem_cons.mpr ⟨lw_p64, List.forall_mem_cons.mpr ⟨lw_p65, List.forall_mem_cons.mpr ⟨lw_p66, List.forall_mem_cons.mpr ⟨lw_p67, List.forall_mem_cons.mpr ⟨lw_p68, List.forall_mem_cons.mpr ⟨lw_p69, List.forall_mem_cons.mpr ⟨lw_p70, List.forall_mem_cons.mpr ⟨lw_p71, List.forall_mem_cons.mpr ⟨lw_p72, List.forall_mem_cons.mpr ⟨lw_p73, List.forall_mem_cons.mpr ⟨lw_p74, List.forall_mem_cons.mpr ⟨lw_p75, List.forall_mem_cons.mpr ⟨lw_p76, List.forall_mem_cons.mpr ⟨lw_p77, List.forall_mem_cons.mpr ⟨lw_p78, List.forall_mem_cons.mpr ⟨lw_p79, fun _ h => absurd h List.not_mem_nil⟩⟩⟩⟩⟩⟩⟩⟩⟩⟩⟩⟩⟩⟩⟩⟩
theorem lw_p80 : lw_okq (⟨"ChairOldModel", "tellsAs", "(II)I"⟩, 44) := ⟨⟨by decide +kernel, by decide +kernel⟩, lw_t6 (List.mem_of_getElem? (i := 216) rfl), lw_t8 (List.mem_of_getElem? (i := 182) rfl), lw_t8 (List.mem_of_getElem? (i := 183) rfl)⟩
theorem lw_p81 : lw_okq (⟨"ChairOldModel", "refusal", "(II)I"⟩, 44) := ⟨⟨by decide +kernel, by decide +kernel⟩, lw_t6 (List.mem_of_getElem? (i := 216) rfl), lw_t8 (List.mem_of_getElem? (i := 203) rfl), lw_t8 (List.mem_of_getElem? (i := 204) rfl)⟩
theorem lw_p82 : lw_okq (⟨"ChairOldModel", "kindOf", "(I)I"⟩, 44) := ⟨⟨by decide +kernel, by decide +kernel⟩, lw_t6 (List.mem_of_getElem? (i := 216) rfl), lw_t8 (List.mem_of_getElem? (i := 222) rfl), lw_t8 (List.mem_of_getElem? (i := 223) rfl)⟩
theorem lw_p83 : lw_okq (⟨"ChairOldModel", "lookedFor", "()I"⟩, 44) := ⟨⟨by decide +kernel, by decide +kernel⟩, lw_t6 (List.mem_of_getElem? (i := 216) rfl), lw_t8 (List.mem_of_getElem? (i := 233) rfl), lw_t8 (List.mem_of_getElem? (i := 234) rfl)⟩
def lw_privs_6 : List (MethodName × Nat) := [(⟨"ChairOldModel", "tellsAs", "(II)I"⟩, 44), (⟨"ChairOldModel", "refusal", "(II)I"⟩, 44), (⟨"ChairOldModel", "kindOf", "(I)I"⟩, 44), (⟨"ChairOldModel", "lookedFor", "()I"⟩, 44)]
theorem lw_r6 : ∀ q ∈ lw_privs_6, lw_okq q := List.forall_mem_cons.mpr ⟨lw_p80, List.forall_mem_cons.mpr ⟨lw_p81, List.forall_mem_cons.mpr ⟨lw_p82, List.forall_mem_cons.mpr ⟨lw_p83, fun _ h => absurd h List.not_mem_nil⟩⟩⟩⟩
def lw_privs : List (MethodName × Nat) := lw_privs_1 ++ (lw_privs_2 ++ (lw_privs_3 ++ (lw_privs_4 ++ (lw_privs_5 ++ (lw_privs_6)))))
def lw_tbl : List Cond := k2_sels lw_privs ++ tables_1
theorem lw_privs_ok : ∀ q ∈ lw_privs, lw_okq q := by
  show ∀ q ∈ lw_privs_1 ++ (lw_privs_2 ++ (lw_privs_3 ++ (lw_privs_4 ++ (lw_privs_5 ++ (lw_privs_6))))), lw_okq q
  exact List.forall_mem_append.mpr ⟨lw_r1, List.forall_mem_append.mpr ⟨lw_r2, List.forall_mem_append.mpr ⟨lw_r3, List.forall_mem_append.mpr ⟨lw_r4, List.forall_mem_append.mpr ⟨lw_r5, lw_r6⟩⟩⟩⟩⟩
-- ===== ONE list of words for every method: the tables' words that hold all through a run =====
def lw_all : List Cond := lw_tbl.filter goodWord
/-- a word of the tables by its place: claim/WORDS.tsv -/
theorem lw_w {w : Cond} (i : Nat) (h : lw_tbl[i]? = some w) (g : goodWord w = true) : w ∈ lw_all := List.mem_filter.mpr ⟨List.mem_of_getElem? h, g⟩
theorem lw_all_tbl {w : Cond} (h : w ∈ lw_all) : w ∈ lw_tbl := (List.mem_filter.mp h).1
theorem lw_self : GoodIn lw_all lw_all := fun w h => ⟨h, good_of_word (List.mem_filter.mp h).2⟩
/-- a class's field words, by their places -/
theorem lw_in (ws : List Cond) (ps : List Nat) (hp : ws = ps.filterMap (fun i => lw_tbl[i]?)) (hg : ws.all goodWord = true) : ∀ w ∈ ws, w ∈ lw_all := by
  intro w h
  have h1 := List.all_eq_true.mp hg w h
  rw [hp] at h
  obtain ⟨i, -, hi⟩ := List.mem_filterMap.mp h
  exact lw_w i hi h1
/-- the words of a contract for the method y with code b, L locals, answer r -/
abbrev ws_ (y : MethodName) (b : ByteArray) (L : Nat) (r : Option FieldType) : List Cond := Cond.code y b L r :: lw_all
theorem lw_meth {y : MethodName} {b : ByteArray} {L : Nat} {r : Option FieldType} (h : Cond.code y b L r ∈ lw_all) : GoodIn lw_all (ws_ y b L r) := by
  intro w hw
  rcases List.mem_cons.mp hw with e | e
  · rw [e]
    exact lw_self _ h
  · exact lw_self _ e
theorem lw_app {a c : List Cond} (ha : ∀ w ∈ a, w ∈ lw_all) (hc : GoodIn lw_all c) : GoodIn lw_all (a ++ c) := by
  intro w hw
  rcases List.mem_append.mp hw with e | e
  · exact lw_self w (ha w e)
  · exact hc w e
/-- what a call through an object asks: cwV n hts (lw_V ..) -/
theorem lw_V {own : String} {idx : Nat} {C : String} {y : MethodName} {b : ByteArray} {L : Nat} {r : Option FieldType} (h1 : Cond.methodLink own idx y ∈ lw_all) (h2 : Cond.instanceMethod y ∈ lw_all) (h3 : Cond.selects C y y ∈ lw_all) (h4 : Cond.initialized C ∈ lw_all) (h5 : Cond.code y b L r ∈ lw_all) : GoodIn lw_all (wsV own idx C y (ws_ y b L r)) := by
  refine lw_app ?_ (lw_meth h5)
  intro w hw
  simp only [List.mem_cons, List.not_mem_nil, or_false] at hw
  rcases hw with e | e | e | e
  · rw [e]; exact h1
  · rw [e]; exact h2
  · rw [e]; exact h3
  · rw [e]; exact h4
/-- what a static call asks: va_cwS n hts (lw_S ..) -/
theorem lw_S {own : String} {idx : Nat} {y : MethodName} {b : ByteArray} {L : Nat} {r : Option FieldType} (h1 : Cond.methodLink own idx y ∈ lw_all) (h2 : Cond.static y ∈ lw_all) (h3 : Cond.initialized y.cls ∈ lw_all) (h4 : Cond.code y b L r ∈ lw_all) : GoodIn lw_all (va_wsS own idx y (ws_ y b L r)) := by
  refine lw_app ?_ (lw_meth h4)
  intro w hw
  simp only [List.mem_cons, List.not_mem_nil, or_false] at hw
  rcases hw with e | e | e
  · rw [e]; exact h1
  · rw [e]; exact h2
  · rw [e]; exact h3
/-- the words of a contract for a method WITH HANDLERS (hh: its table) -/
abbrev wsW_ (y : MethodName) (b : ByteArray) (L : Nat) (r : Option FieldType) (hh : List (Nat × Nat × Nat × Nat)) : List Cond := Cond.codeWith y b L r hh :: lw_all
theorem lw_methW {y : MethodName} {b : ByteArray} {L : Nat} {r : Option FieldType} {hh : List (Nat × Nat × Nat × Nat)} (h : Cond.codeWith y b L r hh ∈ lw_all) : GoodIn lw_all (wsW_ y b L r hh) := by
  intro w hw
  rcases List.mem_cons.mp hw with e | e
  · rw [e]
    exact lw_self _ h
  · exact lw_self _ e
/-- any list of words by their places (lw_in), good -/
theorem lw_good {ws : List Cond} (h : ∀ w ∈ ws, w ∈ lw_all) : GoodIn lw_all ws := fun w hw => lw_self w (h w hw)
/-- what a call of a method with handlers asks: vx_cwVW n hts (lw_VW ..), vx_cwSW n hts (lw_SW ..) -/
theorem lw_VW {own : String} {idx : Nat} {C : String} {y : MethodName} {b : ByteArray} {L : Nat} {r : Option FieldType} {hh : List (Nat × Nat × Nat × Nat)} (h1 : Cond.methodLink own idx y ∈ lw_all) (h2 : Cond.instanceMethod y ∈ lw_all) (h3 : Cond.selects C y y ∈ lw_all) (h4 : Cond.initialized C ∈ lw_all) (h5 : Cond.codeWith y b L r hh ∈ lw_all) : GoodIn lw_all (wsV own idx C y (wsW_ y b L r hh)) := by
  refine lw_app ?_ (lw_methW h5)
  intro w hw
  simp only [List.mem_cons, List.not_mem_nil, or_false] at hw
  rcases hw with e | e | e | e
  · rw [e]; exact h1
  · rw [e]; exact h2
  · rw [e]; exact h3
  · rw [e]; exact h4
theorem lw_SW {own : String} {idx : Nat} {y : MethodName} {b : ByteArray} {L : Nat} {r : Option FieldType} {hh : List (Nat × Nat × Nat × Nat)} (h1 : Cond.methodLink own idx y ∈ lw_all) (h2 : Cond.static y ∈ lw_all) (h3 : Cond.initialized y.cls ∈ lw_all) (h4 : Cond.codeWith y b L r hh ∈ lw_all) : GoodIn lw_all (va_wsS own idx y (wsW_ y b L r hh)) := by
  refine lw_app ?_ (lw_methW h4)
  intro w hw
  simp only [List.mem_cons, List.not_mem_nil, or_false] at hw
  rcases hw with e | e | e
  · rw [e]; exact h1
  · rw [e]; exact h2
  · rw [e]; exact h3
/-- a word by its place in its run of the tables -/
theorem lw_at {r : List Cond} (hr : ∀ w ∈ r, w ∈ lw_tbl) {w : Cond} (i : Nat) (h : r[i]? = some w) : w ∈ lw_tbl := hr w (List.mem_of_getElem? h)
theorem lw_g {w : Cond} (h : w ∈ lw_tbl) (g : goodWord w = true) : w ∈ lw_all := List.mem_filter.mpr ⟨h, g⟩
theorem lw_ms : ∀ w ∈ k2_sels lw_privs, w ∈ lw_tbl := fun w h => show w ∈ k2_sels lw_privs ++ tables_1 from List.mem_append_left _ h
theorem lw_m1 : ∀ w ∈ tables_1_1, w ∈ lw_tbl := fun w h => show w ∈ k2_sels lw_privs ++ tables_1 from List.mem_append_right (k2_sels lw_privs) (show w ∈ tables_1 from List.mem_append_left _ h)
theorem lw_m2 : ∀ w ∈ tables_1_2, w ∈ lw_tbl := fun w h => show w ∈ k2_sels lw_privs ++ tables_1 from List.mem_append_right (k2_sels lw_privs) (show w ∈ tables_1 from List.mem_append_right _ (List.mem_append_left _ h))
theorem lw_m3 : ∀ w ∈ tables_1_3, w ∈ lw_tbl := fun w h => show w ∈ k2_sels lw_privs ++ tables_1 from List.mem_append_right (k2_sels lw_privs) (show w ∈ tables_1 from List.mem_append_right _ (List.mem_append_right _ (List.mem_append_left _ h)))
theorem lw_m4 : ∀ w ∈ tables_1_4, w ∈ lw_tbl := fun w h => show w ∈ k2_sels lw_privs ++ tables_1 from List.mem_append_right (k2_sels lw_privs) (show w ∈ tables_1 from List.mem_append_right _ (List.mem_append_right _ (List.mem_append_right _ (List.mem_append_left _ h))))
theorem lw_m5 : ∀ w ∈ tables_1_5, w ∈ lw_tbl := fun w h => show w ∈ k2_sels lw_privs ++ tables_1 from List.mem_append_right (k2_sels lw_privs) (show w ∈ tables_1 from List.mem_append_right _ (List.mem_append_right _ (List.mem_append_right _ (List.mem_append_right _ (List.mem_append_left _ h)))))
theorem lw_m6 : ∀ w ∈ tables_1_6, w ∈ lw_tbl := fun w h => show w ∈ k2_sels lw_privs ++ tables_1 from List.mem_append_right (k2_sels lw_privs) (show w ∈ tables_1 from List.mem_append_right _ (List.mem_append_right _ (List.mem_append_right _ (List.mem_append_right _ (List.mem_append_right _ (List.mem_append_left _ h))))))
theorem lw_m7 : ∀ w ∈ tables_1_7, w ∈ lw_tbl := fun w h => show w ∈ k2_sels lw_privs ++ tables_1 from List.mem_append_right (k2_sels lw_privs) (show w ∈ tables_1 from List.mem_append_right _ (List.mem_append_right _ (List.mem_append_right _ (List.mem_append_right _ (List.mem_append_right _ (List.mem_append_right _ (List.mem_append_left _ h)))))))
theorem lw_m8 : ∀ w ∈ tables_1_8, w ∈ lw_tbl := fun w h => show w ∈ k2_sels lw_privs ++ tables_1 from List.mem_append_right (k2_sels lw_privs) (show w ∈ tables_1 from List.mem_append_right _ (List.mem_append_right _ (List.mem_append_right _ (List.mem_append_right _ (List.mem_append_right _ (List.mem_append_right _ (List.mem_append_right _ (List.mem_append_left _ h))))))))
theorem lw_m9 : ∀ w ∈ tables_1_9, w ∈ lw_tbl := fun w h => show w ∈ k2_sels lw_privs ++ tables_1 from List.mem_append_right (k2_sels lw_privs) (show w ∈ tables_1 from List.mem_append_right _ (List.mem_append_right _ (List.mem_append_right _ (List.mem_append_right _ (List.mem_append_right _ (List.mem_append_right _ (List.mem_append_right _ (List.mem_append_right _ h))))))))
theorem qs0 : (Cond.selects "ChairOld" ⟨"ChairOld", "addPart", "(II)I"⟩ ⟨"ChairOld", "addPart", "(II)I"⟩) ∈ lw_all := lw_g (lw_at lw_ms 0 rfl) rfl
theorem qs1 : (Cond.selects "java/lang/NullPointerException" ⟨"java/lang/NullPointerException", "getExtendedNPEMessage", "()Ljava/lang/String;"⟩ ⟨"java/lang/NullPointerException", "getExtendedNPEMessage", "()Ljava/lang/String;"⟩) ∈ lw_all := lw_g (lw_at lw_ms 1 rfl) rfl
theorem qs2 : (Cond.selects "java/lang/Throwable" ⟨"java/lang/Throwable", "fillInStackTrace", "(I)Ljava/lang/Throwable;"⟩ ⟨"java/lang/Throwable", "fillInStackTrace", "(I)Ljava/lang/Throwable;"⟩) ∈ lw_all := lw_g (lw_at lw_ms 2 rfl) rfl
theorem qs3 : (Cond.selects "ChairOld" ⟨"ChairOld", "isFound", "(I)Z"⟩ ⟨"ChairOld", "isFound", "(I)Z"⟩) ∈ lw_all := lw_g (lw_at lw_ms 3 rfl) rfl
theorem qs4 : (Cond.selects "ChairOld" ⟨"ChairOld", "isPart", "(I)Z"⟩ ⟨"ChairOld", "isPart", "(I)Z"⟩) ∈ lw_all := lw_g (lw_at lw_ms 4 rfl) rfl
theorem qs5 : (Cond.selects "ChairOld" ⟨"ChairOld", "setTo", "(III)V"⟩ ⟨"ChairOld", "setTo", "(III)V"⟩) ∈ lw_all := lw_g (lw_at lw_ms 5 rfl) rfl
theorem qs6 : (Cond.selects "ChairOld" ⟨"ChairOld", "become", "(IIII)I"⟩ ⟨"ChairOld", "become", "(IIII)I"⟩) ∈ lw_all := lw_g (lw_at lw_ms 6 rfl) rfl
theorem qs7 : (Cond.selects "ChairOld$Reader" ⟨"ChairOld$Reader", "line", "()LChairOld$Line;"⟩ ⟨"ChairOld$Reader", "line", "()LChairOld$Line;"⟩) ∈ lw_all := lw_g (lw_at lw_ms 7 rfl) rfl
theorem qs8 : (Cond.selects "ChairOld$Reader" ⟨"ChairOld$Reader", "either", "()LChairOld$Node;"⟩ ⟨"ChairOld$Reader", "either", "()LChairOld$Node;"⟩) ∈ lw_all := lw_g (lw_at lw_ms 8 rfl) rfl
theorem qs9 : (Cond.selects "ChairOld$Reader" ⟨"ChairOld$Reader", "all", "()LChairOld$Node;"⟩ ⟨"ChairOld$Reader", "all", "()LChairOld$Node;"⟩) ∈ lw_all := lw_g (lw_at lw_ms 9 rfl) rfl
theorem qs10 : (Cond.selects "ChairOld$Reader" ⟨"ChairOld$Reader", "compared", "()LChairOld$Node;"⟩ ⟨"ChairOld$Reader", "compared", "()LChairOld$Node;"⟩) ∈ lw_all := lw_g (lw_at lw_ms 10 rfl) rfl
theorem qs11 : (Cond.selects "ChairOld$Reader" ⟨"ChairOld$Reader", "sum", "()LChairOld$Node;"⟩ ⟨"ChairOld$Reader", "sum", "()LChairOld$Node;"⟩) ∈ lw_all := lw_g (lw_at lw_ms 11 rfl) rfl
theorem qs12 : (Cond.selects "ChairOld$Reader" ⟨"ChairOld$Reader", "product", "()LChairOld$Node;"⟩ ⟨"ChairOld$Reader", "product", "()LChairOld$Node;"⟩) ∈ lw_all := lw_g (lw_at lw_ms 12 rfl) rfl
theorem qs13 : (Cond.selects "ChairOld$Reader" ⟨"ChairOld$Reader", "operand", "()LChairOld$Node;"⟩ ⟨"ChairOld$Reader", "operand", "()LChairOld$Node;"⟩) ∈ lw_all := lw_g (lw_at lw_ms 13 rfl) rfl
theorem qs14 : (Cond.selects "ChairOld$Reader" ⟨"ChairOld$Reader", "here", "()I"⟩ ⟨"ChairOld$Reader", "here", "()I"⟩) ∈ lw_all := lw_g (lw_at lw_ms 14 rfl) rfl
theorem qs15 : (Cond.selects "ChairOld$Reader" ⟨"ChairOld$Reader", "isOne", "(Ljava/lang/String;)Z"⟩ ⟨"ChairOld$Reader", "isOne", "(Ljava/lang/String;)Z"⟩) ∈ lw_all := lw_g (lw_at lw_ms 15 rfl) rfl
theorem qs16 : (Cond.selects "ChairOld$Reader" ⟨"ChairOld$Reader", "opens", "()Z"⟩ ⟨"ChairOld$Reader", "opens", "()Z"⟩) ∈ lw_all := lw_g (lw_at lw_ms 16 rfl) rfl
theorem qs17 : (Cond.selects "ChairOld$Reader" ⟨"ChairOld$Reader", "wrong", "()LChairOld$Node;"⟩ ⟨"ChairOld$Reader", "wrong", "()LChairOld$Node;"⟩) ∈ lw_all := lw_g (lw_at lw_ms 17 rfl) rfl
theorem qs18 : (Cond.selects "ChairOld$Reader" ⟨"ChairOld$Reader", "joined", "(ILChairOld$Node;LChairOld$Node;)LChairOld$Node;"⟩ ⟨"ChairOld$Reader", "joined", "(ILChairOld$Node;LChairOld$Node;)LChairOld$Node;"⟩) ∈ lw_all := lw_g (lw_at lw_ms 18 rfl) rfl
theorem qs19 : (Cond.selects "ChairOld" ⟨"ChairOld", "numberOf", "(LChairOld$Part;III)I"⟩ ⟨"ChairOld", "numberOf", "(LChairOld$Part;III)I"⟩) ∈ lw_all := lw_g (lw_at lw_ms 19 rfl) rfl
theorem qs20 : (Cond.selects "ChairOld" ⟨"ChairOld", "isPartKind", "(I)Z"⟩ ⟨"ChairOld", "isPartKind", "(I)Z"⟩) ∈ lw_all := lw_g (lw_at lw_ms 20 rfl) rfl
theorem qs21 : (Cond.selects "ChairOld" ⟨"ChairOld", "findWeights", "(I)V"⟩ ⟨"ChairOld", "findWeights", "(I)V"⟩) ∈ lw_all := lw_g (lw_at lw_ms 21 rfl) rfl
theorem qs22 : (Cond.selects "ChairOld" ⟨"ChairOld", "findNumbers", "(LChairOld$Part;)V"⟩ ⟨"ChairOld", "findNumbers", "(LChairOld$Part;)V"⟩) ∈ lw_all := lw_g (lw_at lw_ms 22 rfl) rfl
theorem qs23 : (Cond.selects "ChairOld" ⟨"ChairOld", "weigh", "()V"⟩ ⟨"ChairOld", "weigh", "()V"⟩) ∈ lw_all := lw_g (lw_at lw_ms 23 rfl) rfl
theorem qs24 : (Cond.selects "ChairOld" ⟨"ChairOld", "numberAt", "(II)I"⟩ ⟨"ChairOld", "numberAt", "(II)I"⟩) ∈ lw_all := lw_g (lw_at lw_ms 24 rfl) rfl
theorem qs25 : (Cond.selects "ChairOld" ⟨"ChairOld", "percentOf", "(I)I"⟩ ⟨"ChairOld", "percentOf", "(I)I"⟩) ∈ lw_all := lw_g (lw_at lw_ms 25 rfl) rfl
theorem qs26 : (Cond.selects "ChairOld" ⟨"ChairOld", "best", "()I"⟩ ⟨"ChairOld", "best", "()I"⟩) ∈ lw_all := lw_g (lw_at lw_ms 26 rfl) rfl
theorem qs27 : (Cond.selects "ChairOld" ⟨"ChairOld", "whenOf", "(I)I"⟩ ⟨"ChairOld", "whenOf", "(I)I"⟩) ∈ lw_all := lw_g (lw_at lw_ms 27 rfl) rfl
theorem qs28 : (Cond.selects "ChairOld" ⟨"ChairOld", "two", "()I"⟩ ⟨"ChairOld", "two", "()I"⟩) ∈ lw_all := lw_g (lw_at lw_ms 28 rfl) rfl
theorem qs29 : (Cond.selects "ChairOld" ⟨"ChairOld", "unseen", "(I)I"⟩ ⟨"ChairOld", "unseen", "(I)I"⟩) ∈ lw_all := lw_g (lw_at lw_ms 29 rfl) rfl
theorem qs30 : (Cond.selects "ChairOld" ⟨"ChairOld", "namedOf", "(IIJ)I"⟩ ⟨"ChairOld", "namedOf", "(IIJ)I"⟩) ∈ lw_all := lw_g (lw_at lw_ms 30 rfl) rfl
theorem qs31 : (Cond.selects "ChairOld" ⟨"ChairOld", "namedBy", "(III)J"⟩ ⟨"ChairOld", "namedBy", "(III)J"⟩) ∈ lw_all := lw_g (lw_at lw_ms 31 rfl) rfl
theorem qs32 : (Cond.selects "ChairOld" ⟨"ChairOld", "minutesOf", "(I)I"⟩ ⟨"ChairOld", "minutesOf", "(I)I"⟩) ∈ lw_all := lw_g (lw_at lw_ms 32 rfl) rfl
theorem qs33 : (Cond.selects "ChairOld" ⟨"ChairOld", "believedBy", "(I)I"⟩ ⟨"ChairOld", "believedBy", "(I)I"⟩) ∈ lw_all := lw_g (lw_at lw_ms 33 rfl) rfl
theorem qs34 : (Cond.selects "ChairOld" ⟨"ChairOld", "weighMade", "(I)V"⟩ ⟨"ChairOld", "weighMade", "(I)V"⟩) ∈ lw_all := lw_g (lw_at lw_ms 34 rfl) rfl
theorem qs35 : (Cond.selects "ChairOld" ⟨"ChairOld", "costOf", "(I)I"⟩ ⟨"ChairOld", "costOf", "(I)I"⟩) ∈ lw_all := lw_g (lw_at lw_ms 35 rfl) rfl
theorem qs36 : (Cond.selects "ChairOld" ⟨"ChairOld", "priceOf", "(I)I"⟩ ⟨"ChairOld", "priceOf", "(I)I"⟩) ∈ lw_all := lw_g (lw_at lw_ms 36 rfl) rfl
theorem qs37 : (Cond.selects "ChairOld" ⟨"ChairOld", "clash", "()I"⟩ ⟨"ChairOld", "clash", "()I"⟩) ∈ lw_all := lw_g (lw_at lw_ms 37 rfl) rfl
theorem qs38 : (Cond.selects "ChairOld" ⟨"ChairOld", "gaps", "()I"⟩ ⟨"ChairOld", "gaps", "()I"⟩) ∈ lw_all := lw_g (lw_at lw_ms 38 rfl) rfl
theorem qs39 : (Cond.selects "ChairOld" ⟨"ChairOld", "houseOf", "(I)I"⟩ ⟨"ChairOld", "houseOf", "(I)I"⟩) ∈ lw_all := lw_g (lw_at lw_ms 39 rfl) rfl
theorem qs40 : (Cond.selects "ChairOld" ⟨"ChairOld", "made", "(I)LChairOld$Plain;"⟩ ⟨"ChairOld", "made", "(I)LChairOld$Plain;"⟩) ∈ lw_all := lw_g (lw_at lw_ms 40 rfl) rfl
theorem qs41 : (Cond.selects "ChairOld" ⟨"ChairOld", "isBody", "(I)Z"⟩ ⟨"ChairOld", "isBody", "(I)Z"⟩) ∈ lw_all := lw_g (lw_at lw_ms 41 rfl) rfl
theorem qs42 : (Cond.selects "ChairOld" ⟨"ChairOld", "ran", "(I)V"⟩ ⟨"ChairOld", "ran", "(I)V"⟩) ∈ lw_all := lw_g (lw_at lw_ms 42 rfl) rfl
theorem qs43 : (Cond.selects "ChairOld" ⟨"ChairOld", "lookedAll", "()I"⟩ ⟨"ChairOld", "lookedAll", "()I"⟩) ∈ lw_all := lw_g (lw_at lw_ms 43 rfl) rfl
theorem qs44 : (Cond.selects "ChairOldModel" ⟨"ChairOldModel", "adds", "(II)V"⟩ ⟨"ChairOldModel", "adds", "(II)V"⟩) ∈ lw_all := lw_g (lw_at lw_ms 44 rfl) rfl
theorem qs45 : (Cond.selects "ChairOldModel" ⟨"ChairOldModel", "becomes", "(II)I"⟩ ⟨"ChairOldModel", "becomes", "(II)I"⟩) ∈ lw_all := lw_g (lw_at lw_ms 45 rfl) rfl
theorem qs46 : (Cond.selects "ChairOldModel" ⟨"ChairOldModel", "isPm", "(I)Z"⟩ ⟨"ChairOldModel", "isPm", "(I)Z"⟩) ∈ lw_all := lw_g (lw_at lw_ms 46 rfl) rfl
theorem qs47 : (Cond.selects "ChairOldModel" ⟨"ChairOldModel", "isPart", "(I)Z"⟩ ⟨"ChairOldModel", "isPart", "(I)Z"⟩) ∈ lw_all := lw_g (lw_at lw_ms 47 rfl) rfl
theorem qs48 : (Cond.selects "ChairOldModel" ⟨"ChairOldModel", "workOut", "(II)I"⟩ ⟨"ChairOldModel", "workOut", "(II)I"⟩) ∈ lw_all := lw_g (lw_at lw_ms 48 rfl) rfl
theorem qs49 : (Cond.selects "ChairOldModel" ⟨"ChairOldModel", "either", "()I"⟩ ⟨"ChairOldModel", "either", "()I"⟩) ∈ lw_all := lw_g (lw_at lw_ms 49 rfl) rfl
theorem qs50 : (Cond.selects "ChairOldModel" ⟨"ChairOldModel", "both", "()I"⟩ ⟨"ChairOldModel", "both", "()I"⟩) ∈ lw_all := lw_g (lw_at lw_ms 50 rfl) rfl
theorem qs51 : (Cond.selects "ChairOldModel" ⟨"ChairOldModel", "compared", "()I"⟩ ⟨"ChairOldModel", "compared", "()I"⟩) ∈ lw_all := lw_g (lw_at lw_ms 51 rfl) rfl
theorem qs52 : (Cond.selects "ChairOldModel" ⟨"ChairOldModel", "sums", "()I"⟩ ⟨"ChairOldModel", "sums", "()I"⟩) ∈ lw_all := lw_g (lw_at lw_ms 52 rfl) rfl
theorem qs53 : (Cond.selects "ChairOldModel" ⟨"ChairOldModel", "product", "()I"⟩ ⟨"ChairOldModel", "product", "()I"⟩) ∈ lw_all := lw_g (lw_at lw_ms 53 rfl) rfl
theorem qs54 : (Cond.selects "ChairOldModel" ⟨"ChairOldModel", "one", "()I"⟩ ⟨"ChairOldModel", "one", "()I"⟩) ∈ lw_all := lw_g (lw_at lw_ms 54 rfl) rfl
theorem qs55 : (Cond.selects "ChairOldModel" ⟨"ChairOldModel", "byteAt", "()I"⟩ ⟨"ChairOldModel", "byteAt", "()I"⟩) ∈ lw_all := lw_g (lw_at lw_ms 55 rfl) rfl
theorem qs56 : (Cond.selects "ChairOldModel" ⟨"ChairOldModel", "wrong", "()I"⟩ ⟨"ChairOldModel", "wrong", "()I"⟩) ∈ lw_all := lw_g (lw_at lw_ms 56 rfl) rfl
theorem qs57 : (Cond.selects "ChairOldModel" ⟨"ChairOldModel", "takes", "(I)Z"⟩ ⟨"ChairOldModel", "takes", "(I)Z"⟩) ∈ lw_all := lw_g (lw_at lw_ms 57 rfl) rfl
theorem qs58 : (Cond.selects "ChairOldModel" ⟨"ChairOldModel", "numberOf", "(IIII)I"⟩ ⟨"ChairOldModel", "numberOf", "(IIII)I"⟩) ∈ lw_all := lw_g (lw_at lw_ms 58 rfl) rfl
theorem qs59 : (Cond.selects "ChairOldModel" ⟨"ChairOldModel", "isPk", "(I)Z"⟩ ⟨"ChairOldModel", "isPk", "(I)Z"⟩) ∈ lw_all := lw_g (lw_at lw_ms 59 rfl) rfl
theorem qs60 : (Cond.selects "ChairOldModel" ⟨"ChairOldModel", "weighsPart", "(I)V"⟩ ⟨"ChairOldModel", "weighsPart", "(I)V"⟩) ∈ lw_all := lw_g (lw_at lw_ms 60 rfl) rfl
theorem qs61 : (Cond.selects "ChairOldModel" ⟨"ChairOldModel", "looksAt", "(I)V"⟩ ⟨"ChairOldModel", "looksAt", "(I)V"⟩) ∈ lw_all := lw_g (lw_at lw_ms 61 rfl) rfl
theorem qs62 : (Cond.selects "ChairOldModel" ⟨"ChairOldModel", "weighs", "()V"⟩ ⟨"ChairOldModel", "weighs", "()V"⟩) ∈ lw_all := lw_g (lw_at lw_ms 62 rfl) rfl
theorem qs63 : (Cond.selects "ChairOldModel" ⟨"ChairOldModel", "percentNow", "(I)I"⟩ ⟨"ChairOldModel", "percentNow", "(I)I"⟩) ∈ lw_all := lw_g (lw_at lw_ms 63 rfl) rfl
theorem qs64 : (Cond.selects "ChairOldModel" ⟨"ChairOldModel", "mostOf", "()I"⟩ ⟨"ChairOldModel", "mostOf", "()I"⟩) ∈ lw_all := lw_g (lw_at lw_ms 64 rfl) rfl
theorem qs65 : (Cond.selects "ChairOldModel" ⟨"ChairOldModel", "whenNow", "(I)I"⟩ ⟨"ChairOldModel", "whenNow", "(I)I"⟩) ∈ lw_all := lw_g (lw_at lw_ms 65 rfl) rfl
theorem qs66 : (Cond.selects "ChairOldModel" ⟨"ChairOldModel", "unlooked", "(I)I"⟩ ⟨"ChairOldModel", "unlooked", "(I)I"⟩) ∈ lw_all := lw_g (lw_at lw_ms 66 rfl) rfl
theorem qs67 : (Cond.selects "ChairOldModel" ⟨"ChairOldModel", "namedBy", "(IIJ)I"⟩ ⟨"ChairOldModel", "namedBy", "(IIJ)I"⟩) ∈ lw_all := lw_g (lw_at lw_ms 67 rfl) rfl
theorem qs68 : (Cond.selects "ChairOldModel" ⟨"ChairOldModel", "minutesOf", "(I)I"⟩ ⟨"ChairOldModel", "minutesOf", "(I)I"⟩) ∈ lw_all := lw_g (lw_at lw_ms 68 rfl) rfl
theorem qs69 : (Cond.selects "ChairOldModel" ⟨"ChairOldModel", "believedBy", "(I)I"⟩ ⟨"ChairOldModel", "believedBy", "(I)I"⟩) ∈ lw_all := lw_g (lw_at lw_ms 69 rfl) rfl
theorem qs70 : (Cond.selects "ChairOldModel" ⟨"ChairOldModel", "costOf", "(I)I"⟩ ⟨"ChairOldModel", "costOf", "(I)I"⟩) ∈ lw_all := lw_g (lw_at lw_ms 70 rfl) rfl
theorem qs71 : (Cond.selects "ChairOldModel" ⟨"ChairOldModel", "priceOf", "(I)I"⟩ ⟨"ChairOldModel", "priceOf", "(I)I"⟩) ∈ lw_all := lw_g (lw_at lw_ms 71 rfl) rfl
theorem qs72 : (Cond.selects "ChairOldModel" ⟨"ChairOldModel", "clash", "()I"⟩ ⟨"ChairOldModel", "clash", "()I"⟩) ∈ lw_all := lw_g (lw_at lw_ms 72 rfl) rfl
theorem qs73 : (Cond.selects "ChairOldModel" ⟨"ChairOldModel", "gaps", "()I"⟩ ⟨"ChairOldModel", "gaps", "()I"⟩) ∈ lw_all := lw_g (lw_at lw_ms 73 rfl) rfl
theorem qs74 : (Cond.selects "ChairOldModel" ⟨"ChairOldModel", "houseOf", "(I)I"⟩ ⟨"ChairOldModel", "houseOf", "(I)I"⟩) ∈ lw_all := lw_g (lw_at lw_ms 74 rfl) rfl
theorem qs75 : (Cond.selects "ChairOldModel" ⟨"ChairOldModel", "isBody", "(I)Z"⟩ ⟨"ChairOldModel", "isBody", "(I)Z"⟩) ∈ lw_all := lw_g (lw_at lw_ms 75 rfl) rfl
theorem qs76 : (Cond.selects "ChairOldModel" ⟨"ChairOldModel", "agesAs", "(II)I"⟩ ⟨"ChairOldModel", "agesAs", "(II)I"⟩) ∈ lw_all := lw_g (lw_at lw_ms 76 rfl) rfl
theorem qs77 : (Cond.selects "ChairOldModel" ⟨"ChairOldModel", "begins", "(I)V"⟩ ⟨"ChairOldModel", "begins", "(I)V"⟩) ∈ lw_all := lw_g (lw_at lw_ms 77 rfl) rfl
theorem qs78 : (Cond.selects "ChairOldModel" ⟨"ChairOldModel", "joinsAs", "(II)I"⟩ ⟨"ChairOldModel", "joinsAs", "(II)I"⟩) ∈ lw_all := lw_g (lw_at lw_ms 78 rfl) rfl
theorem qs79 : (Cond.selects "ChairOldModel" ⟨"ChairOldModel", "showsAs", "(II)I"⟩ ⟨"ChairOldModel", "showsAs", "(II)I"⟩) ∈ lw_all := lw_g (lw_at lw_ms 79 rfl) rfl
theorem qs80 : (Cond.selects "ChairOldModel" ⟨"ChairOldModel", "tellsAs", "(II)I"⟩ ⟨"ChairOldModel", "tellsAs", "(II)I"⟩) ∈ lw_all := lw_g (lw_at lw_ms 80 rfl) rfl
theorem qs81 : (Cond.selects "ChairOldModel" ⟨"ChairOldModel", "refusal", "(II)I"⟩ ⟨"ChairOldModel", "refusal", "(II)I"⟩) ∈ lw_all := lw_g (lw_at lw_ms 81 rfl) rfl
theorem qs82 : (Cond.selects "ChairOldModel" ⟨"ChairOldModel", "kindOf", "(I)I"⟩ ⟨"ChairOldModel", "kindOf", "(I)I"⟩) ∈ lw_all := lw_g (lw_at lw_ms 82 rfl) rfl
theorem qs83 : (Cond.selects "ChairOldModel" ⟨"ChairOldModel", "lookedFor", "()I"⟩ ⟨"ChairOldModel", "lookedFor", "()I"⟩) ∈ lw_all := lw_g (lw_at lw_ms 83 rfl) rfl
