-- ===== PART A: goes FIRST, ahead of the names: the tables' words, and 'selects' of the private methods out of them =====
/-- a private method of a class that the tables say can be made, by its rows of tables_1 -/
def lw_okq (q : MethodName × Nat) : Prop := (q.1.cls ≠ "java/lang/invoke/MethodHandle" ∧ q.1.cls ≠ "java/lang/invoke/VarHandle") ∧ Cond.instantiable q.1.cls q.2 ∈ tables_1 ∧ Cond.privateMethod q.1 ∈ tables_1 ∧ Cond.instanceMethod q.1 ∈ tables_1
set_option maxRecDepth 100000
theorem lw_t1 {w : Cond} (h : w ∈ tables_1_1) : w ∈ tables_1 := List.mem_append_left _ h
theorem lw_t2 {w : Cond} (h : w ∈ tables_1_2) : w ∈ tables_1 := List.mem_append_right _ (List.mem_append_left _ h)
theorem lw_t3 {w : Cond} (h : w ∈ tables_1_3) : w ∈ tables_1 := List.mem_append_right _ (List.mem_append_right _ (List.mem_append_left _ h))
theorem lw_t4 {w : Cond} (h : w ∈ tables_1_4) : w ∈ tables_1 := List.mem_append_right _ (List.mem_append_right _ (List.mem_append_right _ (List.mem_append_left _ h)))
theorem lw_t5 {w : Cond} (h : w ∈ tables_1_5) : w ∈ tables_1 := List.mem_append_right _ (List.mem_append_right _ (List.mem_append_right _ (List.mem_append_right _ (List.mem_append_left _ h))))
theorem lw_t6 {w : Cond} (h : w ∈ tables_1_6) : w ∈ tables_1 := List.mem_append_right _ (List.mem_append_right _ (List.mem_append_right _ (List.mem_append_right _ (List.mem_append_right _ (List.mem_append_left _ h)))))
theorem lw_t7 {w : Cond} (h : w ∈ tables_1_7) : w ∈ tables_1 := List.mem_append_right _ (List.mem_append_right _ (List.mem_append_right _ (List.mem_append_right _ (List.mem_append_right _ (List.mem_append_right _ (List.mem_append_left _ h))))))
theorem lw_t8 {w : Cond} (h : w ∈ tables_1_8) : w ∈ tables_1 := List.mem_append_right _ (List.mem_append_right _ (List.mem_append_right _ (List.mem_append_right _ (List.mem_append_right _ (List.mem_append_right _ (List.mem_append_right _ (List.mem_append_left _ h)))))))
theorem lw_t9 {w : Cond} (h : w ∈ tables_1_9) : w ∈ tables_1 := List.mem_append_right _ (List.mem_append_right _ (List.mem_append_right _ (List.mem_append_right _ (List.mem_append_right _ (List.mem_append_right _ (List.mem_append_right _ (List.mem_append_right _ h)))))))
theorem lw_p0 : lw_okq (⟨"java/lang/Throwable", "fillInStackTrace", "(I)Ljava/lang/Throwable;"⟩, 6) := ⟨⟨by decide +kernel, by decide +kernel⟩, lw_t2 (List.mem_of_getElem? (i := 104) rfl), lw_t2 (List.mem_of_getElem? (i := 102) rfl), lw_t2 (List.mem_of_getElem? (i := 103) rfl)⟩
theorem lw_p1 : lw_okq (⟨"CoatHoles$Reader", "begins", "([BI)V"⟩, 7) := ⟨⟨by decide +kernel, by decide +kernel⟩, lw_t2 (List.mem_of_getElem? (i := 49) rfl), lw_t3 (List.mem_of_getElem? (i := 86) rfl), lw_t3 (List.mem_of_getElem? (i := 87) rfl)⟩
theorem lw_p2 : lw_okq (⟨"CoatHoles$Reader", "next", "()V"⟩, 7) := ⟨⟨by decide +kernel, by decide +kernel⟩, lw_t2 (List.mem_of_getElem? (i := 49) rfl), lw_t3 (List.mem_of_getElem? (i := 90) rfl), lw_t3 (List.mem_of_getElem? (i := 91) rfl)⟩
theorem lw_p3 : lw_okq (⟨"CoatHoles$Reader", "here", "()I"⟩, 7) := ⟨⟨by decide +kernel, by decide +kernel⟩, lw_t2 (List.mem_of_getElem? (i := 49) rfl), lw_t3 (List.mem_of_getElem? (i := 94) rfl), lw_t3 (List.mem_of_getElem? (i := 95) rfl)⟩
theorem lw_p4 : lw_okq (⟨"CoatHoles$Reader", "item", "()V"⟩, 7) := ⟨⟨by decide +kernel, by decide +kernel⟩, lw_t2 (List.mem_of_getElem? (i := 49) rfl), lw_t3 (List.mem_of_getElem? (i := 108) rfl), lw_t3 (List.mem_of_getElem? (i := 109) rfl)⟩
theorem lw_p5 : lw_okq (⟨"CoatHoles$Reader", "isWord", "(Ljava/lang/String;)Z"⟩, 7) := ⟨⟨by decide +kernel, by decide +kernel⟩, lw_t2 (List.mem_of_getElem? (i := 49) rfl), lw_t3 (List.mem_of_getElem? (i := 112) rfl), lw_t3 (List.mem_of_getElem? (i := 113) rfl)⟩
theorem lw_p6 : lw_okq (⟨"CoatHoles$Reader", "thing", "(I)V"⟩, 7) := ⟨⟨by decide +kernel, by decide +kernel⟩, lw_t2 (List.mem_of_getElem? (i := 49) rfl), lw_t3 (List.mem_of_getElem? (i := 164) rfl), lw_t3 (List.mem_of_getElem? (i := 165) rfl)⟩
theorem lw_p7 : lw_okq (⟨"CoatHoles$Reader", "need", "(Z)V"⟩, 7) := ⟨⟨by decide +kernel, by decide +kernel⟩, lw_t2 (List.mem_of_getElem? (i := 49) rfl), lw_t3 (List.mem_of_getElem? (i := 168) rfl), lw_t3 (List.mem_of_getElem? (i := 169) rfl)⟩
theorem lw_p8 : lw_okq (⟨"CoatHoles$Reader", "place", "()I"⟩, 7) := ⟨⟨by decide +kernel, by decide +kernel⟩, lw_t2 (List.mem_of_getElem? (i := 49) rfl), lw_t3 (List.mem_of_getElem? (i := 176) rfl), lw_t3 (List.mem_of_getElem? (i := 177) rfl)⟩
theorem lw_p9 : lw_okq (⟨"CoatHoles$Reader", "must", "(Ljava/lang/String;)V"⟩, 7) := ⟨⟨by decide +kernel, by decide +kernel⟩, lw_t2 (List.mem_of_getElem? (i := 49) rfl), lw_t3 (List.mem_of_getElem? (i := 181) rfl), lw_t3 (List.mem_of_getElem? (i := 182) rfl)⟩
theorem lw_p10 : lw_okq (⟨"CoatHoles$Reader", "number", "(II)I"⟩, 7) := ⟨⟨by decide +kernel, by decide +kernel⟩, lw_t2 (List.mem_of_getElem? (i := 49) rfl), lw_t3 (List.mem_of_getElem? (i := 185) rfl), lw_t3 (List.mem_of_getElem? (i := 186) rfl)⟩
theorem lw_p11 : lw_okq (⟨"CoatHoles$Reader", "seen", "(II)I"⟩, 7) := ⟨⟨by decide +kernel, by decide +kernel⟩, lw_t2 (List.mem_of_getElem? (i := 49) rfl), lw_t3 (List.mem_of_getElem? (i := 189) rfl), lw_t3 (List.mem_of_getElem? (i := 190) rfl)⟩
theorem lw_p12 : lw_okq (⟨"CoatHoles$Reader", "told", "(Ljava/lang/String;I)I"⟩, 7) := ⟨⟨by decide +kernel, by decide +kernel⟩, lw_t2 (List.mem_of_getElem? (i := 49) rfl), lw_t3 (List.mem_of_getElem? (i := 195) rfl), lw_t3 (List.mem_of_getElem? (i := 196) rfl)⟩
theorem lw_p13 : lw_okq (⟨"CoatHoles$Reader", "may", "(Ljava/lang/String;)Z"⟩, 7) := ⟨⟨by decide +kernel, by decide +kernel⟩, lw_t2 (List.mem_of_getElem? (i := 49) rfl), lw_t3 (List.mem_of_getElem? (i := 199) rfl), lw_t3 (List.mem_of_getElem? (i := 200) rfl)⟩
theorem lw_p14 : lw_okq (⟨"CoatHoles", "isThing", "(I)Z"⟩, 18) := ⟨⟨by decide +kernel, by decide +kernel⟩, lw_t1 (List.mem_of_getElem? (i := 43) rfl), lw_t3 (List.mem_of_getElem? (i := 226) rfl), lw_t3 (List.mem_of_getElem? (i := 227) rfl)⟩
theorem lw_p15 : lw_okq (⟨"CoatHoles", "thingsOn", "(I)I"⟩, 18) := ⟨⟨by decide +kernel, by decide +kernel⟩, lw_t1 (List.mem_of_getElem? (i := 43) rfl), lw_t4 (List.mem_of_getElem? (i := 51) rfl), lw_t4 (List.mem_of_getElem? (i := 52) rfl)⟩
def lw_privs_1 : List (MethodName × Nat) := [(⟨"java/lang/Throwable", "fillInStackTrace", "(I)Ljava/lang/Throwable;"⟩, 6), (⟨"CoatHoles$Reader", "begins", "([BI)V"⟩, 7), (⟨"CoatHoles$Reader", "next", "()V"⟩, 7), (⟨"CoatHoles$Reader", "here", "()I"⟩, 7), (⟨"CoatHoles$Reader", "item", "()V"⟩, 7), (⟨"CoatHoles$Reader", "isWord", "(Ljava/lang/String;)Z"⟩, 7), (⟨"CoatHoles$Reader", "thing", "(I)V"⟩, 7), (⟨"CoatHoles$Reader", "need", "(Z)V"⟩, 7), (⟨"CoatHoles$Reader", "place", "()I"⟩, 7), (⟨"CoatHoles$Reader", "must", "(Ljava/lang/String;)V"⟩, 7), (⟨"CoatHoles$Reader", "number", "(II)I"⟩, 7), (⟨"CoatHoles$Reader", "seen", "(II)I"⟩, 7), (⟨"CoatHoles$Reader", "told", "(Ljava/lang/String;I)I"⟩, 7), (⟨"CoatHoles$Reader", "may", "(Ljava/lang/String;)Z"⟩, 7), (⟨"CoatHoles", "isThing", "(I)Z"⟩, 18), (⟨"CoatHoles", "thingsOn", "(I)I"⟩, 18)]
theorem lw_r1 : ∀ q ∈ lw_privs_1, lw_okq q := List.forall_mem_cons.mpr ⟨lw_p0, List.forall_mem_cons.mpr ⟨lw_p1, List.forall_mem_cons.mpr ⟨lw_p2, List.forall_mem_cons.mpr ⟨lw_p3, List.forall_mem_cons.mpr ⟨lw_p4, List.forall_mem_cons.mpr ⟨lw_p5, List.forall_mem_cons.mpr ⟨lw_p6, List.forall_mem_cons.mpr ⟨lw_p7, List.forall_mem_cons.mpr ⟨lw_p8, List.forall_mem_cons.mpr ⟨lw_p9, List.forall_mem_cons.mpr ⟨lw_p10, List.forall_mem_cons.mpr ⟨lw_p11, List.forall_mem_cons.mpr ⟨lw_p12, List.forall_mem_cons.mpr ⟨lw_p13, List.forall_mem_cons.mpr ⟨lw_p14, List.forall_mem_cons.mpr ⟨lw_p15, fun _ h => absurd h List.not_mem_nil⟩⟩⟩⟩⟩⟩⟩⟩⟩⟩⟩⟩⟩⟩⟩⟩
theorem lw_p16 : lw_okq (⟨"CoatHoles$Cup", "flies", "(I)V"⟩, 17) := ⟨⟨by decide +kernel, by decide +kernel⟩, lw_t1 (List.mem_of_getElem? (i := 116) rfl), lw_t4 (List.mem_of_getElem? (i := 74) rfl), lw_t4 (List.mem_of_getElem? (i := 75) rfl)⟩
theorem lw_p17 : lw_okq (⟨"CoatHoles$Cup", "lays", "(I)V"⟩, 17) := ⟨⟨by decide +kernel, by decide +kernel⟩, lw_t1 (List.mem_of_getElem? (i := 116) rfl), lw_t4 (List.mem_of_getElem? (i := 79) rfl), lw_t4 (List.mem_of_getElem? (i := 80) rfl)⟩
theorem lw_p18 : lw_okq (⟨"CoatHoles$Cup", "grows", "(I)V"⟩, 17) := ⟨⟨by decide +kernel, by decide +kernel⟩, lw_t1 (List.mem_of_getElem? (i := 116) rfl), lw_t4 (List.mem_of_getElem? (i := 91) rfl), lw_t4 (List.mem_of_getElem? (i := 92) rfl)⟩
theorem lw_p19 : lw_okq (⟨"CoatHoles$Cup", "turns", "(LCoatHoles$Item;II)V"⟩, 17) := ⟨⟨by decide +kernel, by decide +kernel⟩, lw_t1 (List.mem_of_getElem? (i := 116) rfl), lw_t4 (List.mem_of_getElem? (i := 104) rfl), lw_t4 (List.mem_of_getElem? (i := 105) rfl)⟩
theorem lw_p20 : lw_okq (⟨"CoatHoles", "holesAll", "()I"⟩, 18) := ⟨⟨by decide +kernel, by decide +kernel⟩, lw_t1 (List.mem_of_getElem? (i := 43) rfl), lw_t4 (List.mem_of_getElem? (i := 128) rfl), lw_t4 (List.mem_of_getElem? (i := 129) rfl)⟩
theorem lw_p21 : lw_okq (⟨"CoatHoles", "isDoing", "(I)Z"⟩, 18) := ⟨⟨by decide +kernel, by decide +kernel⟩, lw_t1 (List.mem_of_getElem? (i := 43) rfl), lw_t4 (List.mem_of_getElem? (i := 145) rfl), lw_t4 (List.mem_of_getElem? (i := 146) rfl)⟩
theorem lw_p22 : lw_okq (⟨"CoatHoles", "mostBy", "(II)I"⟩, 18) := ⟨⟨by decide +kernel, by decide +kernel⟩, lw_t1 (List.mem_of_getElem? (i := 43) rfl), lw_t4 (List.mem_of_getElem? (i := 180) rfl), lw_t4 (List.mem_of_getElem? (i := 181) rfl)⟩
theorem lw_p23 : lw_okq (⟨"CoatHoles", "isChoice", "(I)Z"⟩, 18) := ⟨⟨by decide +kernel, by decide +kernel⟩, lw_t1 (List.mem_of_getElem? (i := 43) rfl), lw_t4 (List.mem_of_getElem? (i := 184) rfl), lw_t4 (List.mem_of_getElem? (i := 185) rfl)⟩
theorem lw_p24 : lw_okq (⟨"CoatHoles", "goes", "(LCoatHoles$Cup;LCoatHoles$Cup;I)V"⟩, 18) := ⟨⟨by decide +kernel, by decide +kernel⟩, lw_t1 (List.mem_of_getElem? (i := 43) rfl), lw_t4 (List.mem_of_getElem? (i := 188) rfl), lw_t4 (List.mem_of_getElem? (i := 189) rfl)⟩
theorem lw_p25 : lw_okq (⟨"CoatHoles", "waysAll", "()J"⟩, 18) := ⟨⟨by decide +kernel, by decide +kernel⟩, lw_t1 (List.mem_of_getElem? (i := 43) rfl), lw_t4 (List.mem_of_getElem? (i := 209) rfl), lw_t4 (List.mem_of_getElem? (i := 210) rfl)⟩
theorem lw_p26 : lw_okq (⟨"CoatHoles", "waysFrom", "(I)J"⟩, 18) := ⟨⟨by decide +kernel, by decide +kernel⟩, lw_t1 (List.mem_of_getElem? (i := 43) rfl), lw_t4 (List.mem_of_getElem? (i := 213) rfl), lw_t4 (List.mem_of_getElem? (i := 214) rfl)⟩
theorem lw_p27 : lw_okq (⟨"CoatHoles", "oddsOf", "(IZI)J"⟩, 18) := ⟨⟨by decide +kernel, by decide +kernel⟩, lw_t1 (List.mem_of_getElem? (i := 43) rfl), lw_t4 (List.mem_of_getElem? (i := 217) rfl), lw_t4 (List.mem_of_getElem? (i := 218) rfl)⟩
theorem lw_p28 : lw_okq (⟨"CoatHoles", "toldBy", "(I)J"⟩, 18) := ⟨⟨by decide +kernel, by decide +kernel⟩, lw_t1 (List.mem_of_getElem? (i := 43) rfl), lw_t4 (List.mem_of_getElem? (i := 235) rfl), lw_t4 (List.mem_of_getElem? (i := 236) rfl)⟩
theorem lw_p29 : lw_okq (⟨"CoatHoles", "isCell", "(II)Z"⟩, 18) := ⟨⟨by decide +kernel, by decide +kernel⟩, lw_t1 (List.mem_of_getElem? (i := 43) rfl), lw_t5 (List.mem_of_getElem? (i := 16) rfl), lw_t5 (List.mem_of_getElem? (i := 17) rfl)⟩
theorem lw_p30 : lw_okq (⟨"CoatHoles", "rowAt", "(I)LCoatHoles$Row;"⟩, 18) := ⟨⟨by decide +kernel, by decide +kernel⟩, lw_t1 (List.mem_of_getElem? (i := 43) rfl), lw_t5 (List.mem_of_getElem? (i := 28) rfl), lw_t5 (List.mem_of_getElem? (i := 29) rfl)⟩
theorem lw_p31 : lw_okq (⟨"CoatHoles", "there", "(Ljava/lang/Object;)Ljava/lang/Object;"⟩, 18) := ⟨⟨by decide +kernel, by decide +kernel⟩, lw_t1 (List.mem_of_getElem? (i := 43) rfl), lw_t5 (List.mem_of_getElem? (i := 85) rfl), lw_t5 (List.mem_of_getElem? (i := 86) rfl)⟩
def lw_privs_2 : List (MethodName × Nat) := [(⟨"CoatHoles$Cup", "flies", "(I)V"⟩, 17), (⟨"CoatHoles$Cup", "lays", "(I)V"⟩, 17), (⟨"CoatHoles$Cup", "grows", "(I)V"⟩, 17), (⟨"CoatHoles$Cup", "turns", "(LCoatHoles$Item;II)V"⟩, 17), (⟨"CoatHoles", "holesAll", "()I"⟩, 18), (⟨"CoatHoles", "isDoing", "(I)Z"⟩, 18), (⟨"CoatHoles", "mostBy", "(II)I"⟩, 18), (⟨"CoatHoles", "isChoice", "(I)Z"⟩, 18), (⟨"CoatHoles", "goes", "(LCoatHoles$Cup;LCoatHoles$Cup;I)V"⟩, 18), (⟨"CoatHoles", "waysAll", "()J"⟩, 18), (⟨"CoatHoles", "waysFrom", "(I)J"⟩, 18), (⟨"CoatHoles", "oddsOf", "(IZI)J"⟩, 18), (⟨"CoatHoles", "toldBy", "(I)J"⟩, 18), (⟨"CoatHoles", "isCell", "(II)Z"⟩, 18), (⟨"CoatHoles", "rowAt", "(I)LCoatHoles$Row;"⟩, 18), (⟨"CoatHoles", "there", "(Ljava/lang/Object;)Ljava/lang/Object;"⟩, 18)]
theorem lw_r2 : ∀ q ∈ lw_privs_2, lw_okq q := List.forall_mem_cons.mpr ⟨lw_p16, List.forall_mem_cons.mpr ⟨lw_p17, List.forall_mem_cons.mpr ⟨lw_p18, List.forall_mem_cons.mpr ⟨lw_p19, List.forall_mem_cons.mpr ⟨lw_p20, List.forall_mem_cons.mpr ⟨lw_p21, List.forall_mem_cons.mpr ⟨lw_p22, List.forall_mem_cons.mpr ⟨lw_p23, List.forall_mem_cons.mpr ⟨lw_p24, List.forall_mem_cons.mpr ⟨lw_p25, List.forall_mem_cons.mpr ⟨lw_p26, List.forall_mem_cons.mpr ⟨lw_p27, List.forall_mem_cons.mpr ⟨lw_p28, List.forall_mem_cons.mpr ⟨lw_p29, List.forall_mem_cons.mpr ⟨lw_p30, List.forall_mem_cons.mpr ⟨lw_p31, fun _ h => absurd h List.not_mem_nil⟩⟩⟩⟩⟩⟩⟩⟩⟩⟩⟩⟩⟩⟩⟩⟩
theorem lw_p32 : lw_okq (⟨"CoatHoles", "soilsOf", "([IIII)V"⟩, 18) := ⟨⟨by decide +kernel, by decide +kernel⟩, lw_t1 (List.mem_of_getElem? (i := 43) rfl), lw_t5 (List.mem_of_getElem? (i := 93) rfl), lw_t5 (List.mem_of_getElem? (i := 94) rfl)⟩
theorem lw_p33 : lw_okq (⟨"CoatHoles", "within", "(II)V"⟩, 18) := ⟨⟨by decide +kernel, by decide +kernel⟩, lw_t1 (List.mem_of_getElem? (i := 43) rfl), lw_t5 (List.mem_of_getElem? (i := 97) rfl), lw_t5 (List.mem_of_getElem? (i := 98) rfl)⟩
theorem lw_p34 : lw_okq (⟨"CoatHoles", "set", "(Ljava/lang/Object;II)V"⟩, 18) := ⟨⟨by decide +kernel, by decide +kernel⟩, lw_t1 (List.mem_of_getElem? (i := 43) rfl), lw_t5 (List.mem_of_getElem? (i := 130) rfl), lw_t5 (List.mem_of_getElem? (i := 131) rfl)⟩
theorem lw_p35 : lw_okq (⟨"CoatHoles", "itemOf", "(Ljava/lang/Object;II)I"⟩, 18) := ⟨⟨by decide +kernel, by decide +kernel⟩, lw_t1 (List.mem_of_getElem? (i := 43) rfl), lw_t5 (List.mem_of_getElem? (i := 144) rfl), lw_t5 (List.mem_of_getElem? (i := 145) rfl)⟩
theorem lw_p36 : lw_okq (⟨"CoatHoles", "byteAt", "([BI)I"⟩, 18) := ⟨⟨by decide +kernel, by decide +kernel⟩, lw_t1 (List.mem_of_getElem? (i := 43) rfl), lw_t5 (List.mem_of_getElem? (i := 148) rfl), lw_t5 (List.mem_of_getElem? (i := 149) rfl)⟩
theorem lw_p37 : lw_okq (⟨"CoatHoles", "shortAt", "([SI)I"⟩, 18) := ⟨⟨by decide +kernel, by decide +kernel⟩, lw_t1 (List.mem_of_getElem? (i := 43) rfl), lw_t5 (List.mem_of_getElem? (i := 152) rfl), lw_t5 (List.mem_of_getElem? (i := 153) rfl)⟩
theorem lw_p38 : lw_okq (⟨"CoatHoles", "intAt", "([II)I"⟩, 18) := ⟨⟨by decide +kernel, by decide +kernel⟩, lw_t1 (List.mem_of_getElem? (i := 43) rfl), lw_t5 (List.mem_of_getElem? (i := 156) rfl), lw_t5 (List.mem_of_getElem? (i := 157) rfl)⟩
theorem lw_p39 : lw_okq (⟨"CoatHoles", "longAt", "([JI)I"⟩, 18) := ⟨⟨by decide +kernel, by decide +kernel⟩, lw_t1 (List.mem_of_getElem? (i := 43) rfl), lw_t5 (List.mem_of_getElem? (i := 160) rfl), lw_t5 (List.mem_of_getElem? (i := 161) rfl)⟩
theorem lw_p40 : lw_okq (⟨"CoatHoles", "heldOf", "(LCoatHoles$Shelf;)Ljava/lang/Object;"⟩, 18) := ⟨⟨by decide +kernel, by decide +kernel⟩, lw_t1 (List.mem_of_getElem? (i := 43) rfl), lw_t5 (List.mem_of_getElem? (i := 175) rfl), lw_t5 (List.mem_of_getElem? (i := 176) rfl)⟩
theorem lw_p41 : lw_okq (⟨"CoatHoles", "ran", "(I)V"⟩, 18) := ⟨⟨by decide +kernel, by decide +kernel⟩, lw_t1 (List.mem_of_getElem? (i := 43) rfl), lw_t6 (List.mem_of_getElem? (i := 115) rfl), lw_t6 (List.mem_of_getElem? (i := 116) rfl)⟩
theorem lw_p42 : lw_okq (⟨"CoatHoles", "caughtAll", "()I"⟩, 18) := ⟨⟨by decide +kernel, by decide +kernel⟩, lw_t1 (List.mem_of_getElem? (i := 43) rfl), lw_t7 (List.mem_of_getElem? (i := 14) rfl), lw_t7 (List.mem_of_getElem? (i := 15) rfl)⟩
theorem lw_p43 : lw_okq (⟨"CoatHolesModel", "advance", "()V"⟩, 39) := ⟨⟨by decide +kernel, by decide +kernel⟩, lw_t7 (List.mem_of_getElem? (i := 26) rfl), lw_t7 (List.mem_of_getElem? (i := 162) rfl), lw_t7 (List.mem_of_getElem? (i := 163) rfl)⟩
theorem lw_p44 : lw_okq (⟨"CoatHolesModel", "byteAt", "(I)I"⟩, 39) := ⟨⟨by decide +kernel, by decide +kernel⟩, lw_t7 (List.mem_of_getElem? (i := 26) rfl), lw_t7 (List.mem_of_getElem? (i := 166) rfl), lw_t7 (List.mem_of_getElem? (i := 167) rfl)⟩
theorem lw_p45 : lw_okq (⟨"CoatHolesModel", "wantClause", "()V"⟩, 39) := ⟨⟨by decide +kernel, by decide +kernel⟩, lw_t7 (List.mem_of_getElem? (i := 26) rfl), lw_t7 (List.mem_of_getElem? (i := 179) rfl), lw_t7 (List.mem_of_getElem? (i := 180) rfl)⟩
theorem lw_p46 : lw_okq (⟨"CoatHolesModel", "stuffHere", "()I"⟩, 39) := ⟨⟨by decide +kernel, by decide +kernel⟩, lw_t7 (List.mem_of_getElem? (i := 26) rfl), lw_t7 (List.mem_of_getElem? (i := 183) rfl), lw_t7 (List.mem_of_getElem? (i := 184) rfl)⟩
theorem lw_p47 : lw_okq (⟨"CoatHolesModel", "isWord", "(J)Z"⟩, 39) := ⟨⟨by decide +kernel, by decide +kernel⟩, lw_t7 (List.mem_of_getElem? (i := 26) rfl), lw_t7 (List.mem_of_getElem? (i := 188) rfl), lw_t7 (List.mem_of_getElem? (i := 189) rfl)⟩
def lw_privs_3 : List (MethodName × Nat) := [(⟨"CoatHoles", "soilsOf", "([IIII)V"⟩, 18), (⟨"CoatHoles", "within", "(II)V"⟩, 18), (⟨"CoatHoles", "set", "(Ljava/lang/Object;II)V"⟩, 18), (⟨"CoatHoles", "itemOf", "(Ljava/lang/Object;II)I"⟩, 18), (⟨"CoatHoles", "byteAt", "([BI)I"⟩, 18), (⟨"CoatHoles", "shortAt", "([SI)I"⟩, 18), (⟨"CoatHoles", "intAt", "([II)I"⟩, 18), (⟨"CoatHoles", "longAt", "([JI)I"⟩, 18), (⟨"CoatHoles", "heldOf", "(LCoatHoles$Shelf;)Ljava/lang/Object;"⟩, 18), (⟨"CoatHoles", "ran", "(I)V"⟩, 18), (⟨"CoatHoles", "caughtAll", "()I"⟩, 18), (⟨"CoatHolesModel", "advance", "()V"⟩, 39), (⟨"CoatHolesModel", "byteAt", "(I)I"⟩, 39), (⟨"CoatHolesModel", "wantClause", "()V"⟩, 39), (⟨"CoatHolesModel", "stuffHere", "()I"⟩, 39), (⟨"CoatHolesModel", "isWord", "(J)Z"⟩, 39)]
theorem lw_r3 : ∀ q ∈ lw_privs_3, lw_okq q := List.forall_mem_cons.mpr ⟨lw_p32, List.forall_mem_cons.mpr ⟨lw_p33, List.forall_mem_cons.mpr ⟨lw_p34, List.forall_mem_cons.mpr ⟨lw_p35, List.forall_mem_cons.mpr ⟨lw_p36, List.forall_mem_cons.mpr ⟨lw_p37, List.forall_mem_cons.mpr ⟨lw_p38, List.forall_mem_cons.mpr ⟨lw_p39, List.forall_mem_cons.mpr ⟨lw_p40, List.forall_mem_cons.mpr ⟨lw_p41, List.forall_mem_cons.mpr ⟨lw_p42, List.forall_mem_cons.mpr ⟨lw_p43, List.forall_mem_cons.mpr ⟨lw_p44, List.forall_mem_cons.mpr ⟨lw_p45, List.forall_mem_cons.mpr ⟨lw_p46, List.forall_mem_cons.mpr ⟨lw_p47, fun _ h => absurd h List.not_mem_nil⟩⟩⟩⟩⟩⟩⟩⟩⟩⟩⟩⟩⟩⟩⟩⟩
theorem lw_p48 : lw_okq (⟨"CoatHolesModel", "wantThing", "(I)V"⟩, 39) := ⟨⟨by decide +kernel, by decide +kernel⟩, lw_t7 (List.mem_of_getElem? (i := 26) rfl), lw_t7 (List.mem_of_getElem? (i := 197) rfl), lw_t7 (List.mem_of_getElem? (i := 198) rfl)⟩
theorem lw_p49 : lw_okq (⟨"CoatHolesModel", "wantWord", "(J)V"⟩, 39) := ⟨⟨by decide +kernel, by decide +kernel⟩, lw_t7 (List.mem_of_getElem? (i := 26) rfl), lw_t7 (List.mem_of_getElem? (i := 202) rfl), lw_t7 (List.mem_of_getElem? (i := 203) rfl)⟩
theorem lw_p50 : lw_okq (⟨"CoatHolesModel", "wantNumber", "(I)I"⟩, 39) := ⟨⟨by decide +kernel, by decide +kernel⟩, lw_t7 (List.mem_of_getElem? (i := 26) rfl), lw_t7 (List.mem_of_getElem? (i := 206) rfl), lw_t7 (List.mem_of_getElem? (i := 207) rfl)⟩
theorem lw_p51 : lw_okq (⟨"CoatHolesModel", "mayNumber", "(JI)I"⟩, 39) := ⟨⟨by decide +kernel, by decide +kernel⟩, lw_t7 (List.mem_of_getElem? (i := 26) rfl), lw_t7 (List.mem_of_getElem? (i := 211) rfl), lw_t7 (List.mem_of_getElem? (i := 212) rfl)⟩
theorem lw_p52 : lw_okq (⟨"CoatHolesModel", "wantEnd", "()V"⟩, 39) := ⟨⟨by decide +kernel, by decide +kernel⟩, lw_t7 (List.mem_of_getElem? (i := 26) rfl), lw_t7 (List.mem_of_getElem? (i := 217) rfl), lw_t7 (List.mem_of_getElem? (i := 218) rfl)⟩
theorem lw_p53 : lw_okq (⟨"CoatHolesModel", "isMark", "(I)Z"⟩, 39) := ⟨⟨by decide +kernel, by decide +kernel⟩, lw_t7 (List.mem_of_getElem? (i := 26) rfl), lw_t7 (List.mem_of_getElem? (i := 221) rfl), lw_t7 (List.mem_of_getElem? (i := 222) rfl)⟩
theorem lw_p54 : lw_okq (⟨"CoatHolesModel", "lay", "(IIII)V"⟩, 39) := ⟨⟨by decide +kernel, by decide +kernel⟩, lw_t7 (List.mem_of_getElem? (i := 26) rfl), lw_t7 (List.mem_of_getElem? (i := 225) rfl), lw_t7 (List.mem_of_getElem? (i := 226) rfl)⟩
theorem lw_p55 : lw_okq (⟨"CoatHolesModel", "becomes", "(III)V"⟩, 39) := ⟨⟨by decide +kernel, by decide +kernel⟩, lw_t7 (List.mem_of_getElem? (i := 26) rfl), lw_t7 (List.mem_of_getElem? (i := 229) rfl), lw_t7 (List.mem_of_getElem? (i := 230) rfl)⟩
theorem lw_p56 : lw_okq (⟨"CoatHolesModel", "placeBecomes", "(III)V"⟩, 39) := ⟨⟨by decide +kernel, by decide +kernel⟩, lw_t7 (List.mem_of_getElem? (i := 26) rfl), lw_t7 (List.mem_of_getElem? (i := 234) rfl), lw_t7 (List.mem_of_getElem? (i := 235) rfl)⟩
theorem lw_p57 : lw_okq (⟨"CoatHolesModel", "copies", "(II)V"⟩, 39) := ⟨⟨by decide +kernel, by decide +kernel⟩, lw_t7 (List.mem_of_getElem? (i := 26) rfl), lw_t8 (List.mem_of_getElem? (i := 0) rfl), lw_t8 (List.mem_of_getElem? (i := 1) rfl)⟩
theorem lw_p58 : lw_okq (⟨"CoatHolesModel", "isThing", "(I)Z"⟩, 39) := ⟨⟨by decide +kernel, by decide +kernel⟩, lw_t7 (List.mem_of_getElem? (i := 26) rfl), lw_t8 (List.mem_of_getElem? (i := 15) rfl), lw_t8 (List.mem_of_getElem? (i := 16) rfl)⟩
theorem lw_p59 : lw_okq (⟨"CoatHolesModel", "tasteOf", "(I)I"⟩, 39) := ⟨⟨by decide +kernel, by decide +kernel⟩, lw_t7 (List.mem_of_getElem? (i := 26) rfl), lw_t8 (List.mem_of_getElem? (i := 19) rfl), lw_t8 (List.mem_of_getElem? (i := 20) rfl)⟩
theorem lw_p60 : lw_okq (⟨"CoatHolesModel", "its", "(II)I"⟩, 39) := ⟨⟨by decide +kernel, by decide +kernel⟩, lw_t7 (List.mem_of_getElem? (i := 26) rfl), lw_t8 (List.mem_of_getElem? (i := 23) rfl), lw_t8 (List.mem_of_getElem? (i := 24) rfl)⟩
theorem lw_p61 : lw_okq (⟨"CoatHolesModel", "likingOf", "(I)I"⟩, 39) := ⟨⟨by decide +kernel, by decide +kernel⟩, lw_t7 (List.mem_of_getElem? (i := 26) rfl), lw_t8 (List.mem_of_getElem? (i := 27) rfl), lw_t8 (List.mem_of_getElem? (i := 28) rfl)⟩
theorem lw_p62 : lw_okq (⟨"CoatHolesModel", "ofPlace", "(II)I"⟩, 39) := ⟨⟨by decide +kernel, by decide +kernel⟩, lw_t7 (List.mem_of_getElem? (i := 26) rfl), lw_t8 (List.mem_of_getElem? (i := 47) rfl), lw_t8 (List.mem_of_getElem? (i := 48) rfl)⟩
theorem lw_p63 : lw_okq (⟨"CoatHolesModel", "thingsOn", "(I)I"⟩, 39) := ⟨⟨by decide +kernel, by decide +kernel⟩, lw_t7 (List.mem_of_getElem? (i := 26) rfl), lw_t8 (List.mem_of_getElem? (i := 59) rfl), lw_t8 (List.mem_of_getElem? (i := 60) rfl)⟩
def lw_privs_4 : List (MethodName × Nat) := [(⟨"CoatHolesModel", "wantThing", "(I)V"⟩, 39), (⟨"CoatHolesModel", "wantWord", "(J)V"⟩, 39), (⟨"CoatHolesModel", "wantNumber", "(I)I"⟩, 39), (⟨"CoatHolesModel", "mayNumber", "(JI)I"⟩, 39), (⟨"CoatHolesModel", "wantEnd", "()V"⟩, 39), (⟨"CoatHolesModel", "isMark", "(I)Z"⟩, 39), (⟨"CoatHolesModel", "lay", "(IIII)V"⟩, 39), (⟨"CoatHolesModel", "becomes", "(III)V"⟩, 39), (⟨"CoatHolesModel", "placeBecomes", "(III)V"⟩, 39), (⟨"CoatHolesModel", "copies", "(II)V"⟩, 39), (⟨"CoatHolesModel", "isThing", "(I)Z"⟩, 39), (⟨"CoatHolesModel", "tasteOf", "(I)I"⟩, 39), (⟨"CoatHolesModel", "its", "(II)I"⟩, 39), (⟨"CoatHolesModel", "likingOf", "(I)I"⟩, 39), (⟨"CoatHolesModel", "ofPlace", "(II)I"⟩, 39), (⟨"CoatHolesModel", "thingsOn", "(I)I"⟩, 39)]
theorem lw_r4 : ∀ q ∈ lw_privs_4, lw_okq q := List.forall_mem_cons.mpr ⟨lw_p48, List.forall_mem_cons.mpr ⟨lw_p49, List.forall_mem_cons.mpr ⟨lw_p50, List.forall_mem_cons.mpr ⟨lw_p51, List.forall_mem_cons.mpr ⟨lw_p52, List.forall_mem_cons.mpr ⟨lw_p53, List.forall_mem_cons.mpr ⟨lw_p54, List.forall_mem_cons.mpr ⟨lw_p55, List.forall_mem_cons.mpr ⟨lw_p56, List.forall_mem_cons.mpr ⟨lw_p57, List.forall_mem_cons.mpr ⟨lw_p58, List.forall_mem_cons.mpr ⟨lw_p59, List.forall_mem_cons.mpr ⟨lw_p60, List.forall_mem_cons.mpr ⟨lw_p61, List.forall_mem_cons.mpr ⟨lw_p62, List.forall_mem_cons.mpr ⟨lw_p63, fun _ h => absurd h List.not_mem_nil⟩⟩⟩⟩⟩⟩⟩⟩⟩⟩⟩⟩⟩⟩⟩⟩
theorem lw_p64 : lw_okq (⟨"CoatHolesModel", "weekGoes", "()V"⟩, 39) := ⟨⟨by decide +kernel, by decide +kernel⟩, lw_t7 (List.mem_of_getElem? (i := 26) rfl), lw_t8 (List.mem_of_getElem? (i := 75) rfl), lw_t8 (List.mem_of_getElem? (i := 76) rfl)⟩
theorem lw_p65 : lw_okq (⟨"CoatHolesModel", "placeGoes", "(I)V"⟩, 39) := ⟨⟨by decide +kernel, by decide +kernel⟩, lw_t7 (List.mem_of_getElem? (i := 26) rfl), lw_t8 (List.mem_of_getElem? (i := 79) rfl), lw_t8 (List.mem_of_getElem? (i := 80) rfl)⟩
theorem lw_p66 : lw_okq (⟨"CoatHolesModel", "likedIn", "(I)I"⟩, 39) := ⟨⟨by decide +kernel, by decide +kernel⟩, lw_t7 (List.mem_of_getElem? (i := 26) rfl), lw_t8 (List.mem_of_getElem? (i := 83) rfl), lw_t8 (List.mem_of_getElem? (i := 84) rfl)⟩
theorem lw_p67 : lw_okq (⟨"CoatHolesModel", "thingGoes", "(II)V"⟩, 39) := ⟨⟨by decide +kernel, by decide +kernel⟩, lw_t7 (List.mem_of_getElem? (i := 26) rfl), lw_t8 (List.mem_of_getElem? (i := 90) rfl), lw_t8 (List.mem_of_getElem? (i := 91) rfl)⟩
theorem lw_p68 : lw_okq (⟨"CoatHolesModel", "alive", "()I"⟩, 39) := ⟨⟨by decide +kernel, by decide +kernel⟩, lw_t7 (List.mem_of_getElem? (i := 26) rfl), lw_t8 (List.mem_of_getElem? (i := 98) rfl), lw_t8 (List.mem_of_getElem? (i := 99) rfl)⟩
theorem lw_p69 : lw_okq (⟨"CoatHolesModel", "aliveIn", "(I)I"⟩, 39) := ⟨⟨by decide +kernel, by decide +kernel⟩, lw_t7 (List.mem_of_getElem? (i := 26) rfl), lw_t8 (List.mem_of_getElem? (i := 102) rfl), lw_t8 (List.mem_of_getElem? (i := 103) rfl)⟩
theorem lw_p70 : lw_okq (⟨"CoatHolesModel", "kept", "()I"⟩, 39) := ⟨⟨by decide +kernel, by decide +kernel⟩, lw_t7 (List.mem_of_getElem? (i := 26) rfl), lw_t8 (List.mem_of_getElem? (i := 106) rfl), lw_t8 (List.mem_of_getElem? (i := 107) rfl)⟩
theorem lw_p71 : lw_okq (⟨"CoatHolesModel", "holes", "()I"⟩, 39) := ⟨⟨by decide +kernel, by decide +kernel⟩, lw_t7 (List.mem_of_getElem? (i := 26) rfl), lw_t8 (List.mem_of_getElem? (i := 110) rfl), lw_t8 (List.mem_of_getElem? (i := 111) rfl)⟩
theorem lw_p72 : lw_okq (⟨"CoatHolesModel", "isDoing", "(I)Z"⟩, 39) := ⟨⟨by decide +kernel, by decide +kernel⟩, lw_t7 (List.mem_of_getElem? (i := 26) rfl), lw_t8 (List.mem_of_getElem? (i := 126) rfl), lw_t8 (List.mem_of_getElem? (i := 127) rfl)⟩
theorem lw_p73 : lw_okq (⟨"CoatHolesModel", "isDone", "(II)V"⟩, 39) := ⟨⟨by decide +kernel, by decide +kernel⟩, lw_t7 (List.mem_of_getElem? (i := 26) rfl), lw_t8 (List.mem_of_getElem? (i := 137) rfl), lw_t8 (List.mem_of_getElem? (i := 138) rfl)⟩
theorem lw_p74 : lw_okq (⟨"CoatHolesModel", "halves", "(II)V"⟩, 39) := ⟨⟨by decide +kernel, by decide +kernel⟩, lw_t7 (List.mem_of_getElem? (i := 26) rfl), lw_t8 (List.mem_of_getElem? (i := 141) rfl), lw_t8 (List.mem_of_getElem? (i := 142) rfl)⟩
theorem lw_p75 : lw_okq (⟨"CoatHolesModel", "bestOf", "(I)I"⟩, 39) := ⟨⟨by decide +kernel, by decide +kernel⟩, lw_t7 (List.mem_of_getElem? (i := 26) rfl), lw_t8 (List.mem_of_getElem? (i := 149) rfl), lw_t8 (List.mem_of_getElem? (i := 150) rfl)⟩
theorem lw_p76 : lw_okq (⟨"CoatHolesModel", "isChoice", "(I)Z"⟩, 39) := ⟨⟨by decide +kernel, by decide +kernel⟩, lw_t7 (List.mem_of_getElem? (i := 26) rfl), lw_t8 (List.mem_of_getElem? (i := 153) rfl), lw_t8 (List.mem_of_getElem? (i := 154) rfl)⟩
theorem lw_p77 : lw_okq (⟨"CoatHolesModel", "choose", "(I)I"⟩, 39) := ⟨⟨by decide +kernel, by decide +kernel⟩, lw_t7 (List.mem_of_getElem? (i := 26) rfl), lw_t8 (List.mem_of_getElem? (i := 157) rfl), lw_t8 (List.mem_of_getElem? (i := 158) rfl)⟩
theorem lw_p78 : lw_okq (⟨"CoatHolesModel", "behind", "()I"⟩, 39) := ⟨⟨by decide +kernel, by decide +kernel⟩, lw_t7 (List.mem_of_getElem? (i := 26) rfl), lw_t8 (List.mem_of_getElem? (i := 161) rfl), lw_t8 (List.mem_of_getElem? (i := 162) rfl)⟩
theorem lw_p79 : lw_okq (⟨"CoatHolesModel", "weightsInAll", "()J"⟩, 39) := ⟨⟨by decide +kernel, by decide +kernel⟩, lw_t7 (List.mem_of_getElem? (i := 26) rfl), lw_t8 (List.mem_of_getElem? (i := 181) rfl), lw_t8 (List.mem_of_getElem? (i := 182) rfl)⟩
def lw_privs_5 : List (MethodName × Nat) := [(⟨"CoatHolesModel", "weekGoes", "()V"⟩, 39), (⟨"CoatHolesModel", "placeGoes", "(I)V"⟩, 39), (⟨"CoatHolesModel", "likedIn", "(I)I"⟩, 39), (⟨"CoatHolesModel", "thingGoes", "(II)V"⟩, 39), (⟨"CoatHolesModel", "alive", "()I"⟩, 39), (⟨"CoatHolesModel", "aliveIn", "(I)I"⟩, 39), (⟨"CoatHolesModel", "kept", "()I"⟩, 39), (⟨"CoatHolesModel", "holes", "()I"⟩, 39), (⟨"CoatHolesModel", "isDoing", "(I)Z"⟩, 39), (⟨"CoatHolesModel", "isDone", "(II)V"⟩, 39), (⟨"CoatHolesModel", "halves", "(II)V"⟩, 39), (⟨"CoatHolesModel", "bestOf", "(I)I"⟩, 39), (⟨"CoatHolesModel", "isChoice", "(I)Z"⟩, 39), (⟨"CoatHolesModel", "choose", "(I)I"⟩, 39), (⟨"CoatHolesModel", "behind", "()I"⟩, 39), (⟨"CoatHolesModel", "weightsInAll", "()J"⟩, 39)]
theorem lw_r5 : ∀ q ∈ lw_privs_5, lw_okq q := List.forall_mem_cons.mpr ⟨lw_p64, List.forall_mem_cons.mpr ⟨lw_p65, List.forall_mem_cons.mpr ⟨lw_p66, List.forall_mem_cons.mpr ⟨lw_p67, List.forall_mem_cons.mpr ⟨lw_p68, List.forall_mem_cons.mpr ⟨lw_p69, List.forall_mem_cons.mpr ⟨lw_p70, List.forall_mem_cons.mpr ⟨lw_p71, List.forall_mem_cons.mpr ⟨lw_p72, List.forall_mem_cons.mpr ⟨lw_p73, List.forall_mem_cons.mpr ⟨lw_p74, List.forall_mem_cons.mpr ⟨lw_p75, List.forall_mem_cons.mpr ⟨lw_p76, List.forall_mem_cons.mpr ⟨lw_p77, List.forall_mem_cons.mpr ⟨lw_p78, List.forall_mem_cons.mpr ⟨lw_p79, fun _ h => absurd h List.not_mem_nil⟩⟩⟩⟩⟩⟩⟩⟩⟩⟩⟩⟩⟩⟩⟩⟩
theorem lw_p80 : lw_okq (⟨"CoatHolesModel", "weightOf", "(I)J"⟩, 39) := ⟨⟨by decide +kernel, by decide +kernel⟩, lw_t7 (List.mem_of_getElem? (i := 26) rfl), lw_t8 (List.mem_of_getElem? (i := 185) rfl), lw_t8 (List.mem_of_getElem? (i := 186) rfl)⟩
theorem lw_p81 : lw_okq (⟨"CoatHolesModel", "oftenIf", "(IIZ)I"⟩, 39) := ⟨⟨by decide +kernel, by decide +kernel⟩, lw_t7 (List.mem_of_getElem? (i := 26) rfl), lw_t8 (List.mem_of_getElem? (i := 189) rfl), lw_t8 (List.mem_of_getElem? (i := 190) rfl)⟩
theorem lw_p82 : lw_okq (⟨"CoatHolesModel", "mostBy", "(IZ)J"⟩, 39) := ⟨⟨by decide +kernel, by decide +kernel⟩, lw_t7 (List.mem_of_getElem? (i := 26) rfl), lw_t8 (List.mem_of_getElem? (i := 198) rfl), lw_t8 (List.mem_of_getElem? (i := 199) rfl)⟩
theorem lw_p83 : lw_okq (⟨"CoatHolesModel", "mustBe", "(II)I"⟩, 39) := ⟨⟨by decide +kernel, by decide +kernel⟩, lw_t7 (List.mem_of_getElem? (i := 26) rfl), lw_t8 (List.mem_of_getElem? (i := 215) rfl), lw_t8 (List.mem_of_getElem? (i := 216) rfl)⟩
theorem lw_p84 : lw_okq (⟨"CoatHolesModel", "isRow", "(II)Z"⟩, 39) := ⟨⟨by decide +kernel, by decide +kernel⟩, lw_t7 (List.mem_of_getElem? (i := 26) rfl), lw_t8 (List.mem_of_getElem? (i := 223) rfl), lw_t8 (List.mem_of_getElem? (i := 224) rfl)⟩
theorem lw_p85 : lw_okq (⟨"CoatHolesModel", "lacksSort", "(II)I"⟩, 39) := ⟨⟨by decide +kernel, by decide +kernel⟩, lw_t7 (List.mem_of_getElem? (i := 26) rfl), lw_t9 (List.mem_of_getElem? (i := 2) rfl), lw_t9 (List.mem_of_getElem? (i := 3) rfl)⟩
theorem lw_p86 : lw_okq (⟨"CoatHolesModel", "isHeld", "(II)Z"⟩, 39) := ⟨⟨by decide +kernel, by decide +kernel⟩, lw_t7 (List.mem_of_getElem? (i := 26) rfl), lw_t9 (List.mem_of_getElem? (i := 23) rfl), lw_t9 (List.mem_of_getElem? (i := 24) rfl)⟩
theorem lw_p87 : lw_okq (⟨"CoatHolesModel", "kindOn", "(I)I"⟩, 39) := ⟨⟨by decide +kernel, by decide +kernel⟩, lw_t7 (List.mem_of_getElem? (i := 26) rfl), lw_t9 (List.mem_of_getElem? (i := 31) rfl), lw_t9 (List.mem_of_getElem? (i := 32) rfl)⟩
theorem lw_p88 : lw_okq (⟨"CoatHolesModel", "eatsIt", "(I)I"⟩, 39) := ⟨⟨by decide +kernel, by decide +kernel⟩, lw_t7 (List.mem_of_getElem? (i := 26) rfl), lw_t9 (List.mem_of_getElem? (i := 42) rfl), lw_t9 (List.mem_of_getElem? (i := 43) rfl)⟩
theorem lw_p89 : lw_okq (⟨"CoatHolesModel", "shakeEats", "(I)I"⟩, 39) := ⟨⟨by decide +kernel, by decide +kernel⟩, lw_t7 (List.mem_of_getElem? (i := 26) rfl), lw_t9 (List.mem_of_getElem? (i := 46) rfl), lw_t9 (List.mem_of_getElem? (i := 47) rfl)⟩
theorem lw_p90 : lw_okq (⟨"CoatHolesModel", "ran", "(I)V"⟩, 39) := ⟨⟨by decide +kernel, by decide +kernel⟩, lw_t7 (List.mem_of_getElem? (i := 26) rfl), lw_t9 (List.mem_of_getElem? (i := 50) rfl), lw_t9 (List.mem_of_getElem? (i := 51) rfl)⟩
theorem lw_p91 : lw_okq (⟨"CoatHolesModel", "plainEats", "(I)I"⟩, 39) := ⟨⟨by decide +kernel, by decide +kernel⟩, lw_t7 (List.mem_of_getElem? (i := 26) rfl), lw_t9 (List.mem_of_getElem? (i := 54) rfl), lw_t9 (List.mem_of_getElem? (i := 55) rfl)⟩
theorem lw_p92 : lw_okq (⟨"CoatHolesModel", "laysIt", "(I)I"⟩, 39) := ⟨⟨by decide +kernel, by decide +kernel⟩, lw_t7 (List.mem_of_getElem? (i := 26) rfl), lw_t9 (List.mem_of_getElem? (i := 58) rfl), lw_t9 (List.mem_of_getElem? (i := 59) rfl)⟩
theorem lw_p93 : lw_okq (⟨"CoatHolesModel", "coldLays", "(I)I"⟩, 39) := ⟨⟨by decide +kernel, by decide +kernel⟩, lw_t7 (List.mem_of_getElem? (i := 26) rfl), lw_t9 (List.mem_of_getElem? (i := 62) rfl), lw_t9 (List.mem_of_getElem? (i := 63) rfl)⟩
theorem lw_p94 : lw_okq (⟨"CoatHolesModel", "plainLays", "(I)I"⟩, 39) := ⟨⟨by decide +kernel, by decide +kernel⟩, lw_t7 (List.mem_of_getElem? (i := 26) rfl), lw_t9 (List.mem_of_getElem? (i := 66) rfl), lw_t9 (List.mem_of_getElem? (i := 67) rfl)⟩
theorem lw_p95 : lw_okq (⟨"CoatHolesModel", "sharesIt", "(I)I"⟩, 39) := ⟨⟨by decide +kernel, by decide +kernel⟩, lw_t7 (List.mem_of_getElem? (i := 26) rfl), lw_t9 (List.mem_of_getElem? (i := 70) rfl), lw_t9 (List.mem_of_getElem? (i := 71) rfl)⟩
def lw_privs_6 : List (MethodName × Nat) := [(⟨"CoatHolesModel", "weightOf", "(I)J"⟩, 39), (⟨"CoatHolesModel", "oftenIf", "(IIZ)I"⟩, 39), (⟨"CoatHolesModel", "mostBy", "(IZ)J"⟩, 39), (⟨"CoatHolesModel", "mustBe", "(II)I"⟩, 39), (⟨"CoatHolesModel", "isRow", "(II)Z"⟩, 39), (⟨"CoatHolesModel", "lacksSort", "(II)I"⟩, 39), (⟨"CoatHolesModel", "isHeld", "(II)Z"⟩, 39), (⟨"CoatHolesModel", "kindOn", "(I)I"⟩, 39), (⟨"CoatHolesModel", "eatsIt", "(I)I"⟩, 39), (⟨"CoatHolesModel", "shakeEats", "(I)I"⟩, 39), (⟨"CoatHolesModel", "ran", "(I)V"⟩, 39), (⟨"CoatHolesModel", "plainEats", "(I)I"⟩, 39), (⟨"CoatHolesModel", "laysIt", "(I)I"⟩, 39), (⟨"CoatHolesModel", "coldLays", "(I)I"⟩, 39), (⟨"CoatHolesModel", "plainLays", "(I)I"⟩, 39), (⟨"CoatHolesModel", "sharesIt", "(I)I"⟩, 39)]
theorem lw_r6 : ∀ q ∈ lw_privs_6, lw_okq q := List.forall_mem_cons.mpr ⟨lw_p80, List.forall_mem_cons.mpr ⟨lw_p81, List.forall_mem_cons.mpr ⟨lw_p82, List.forall_mem_cons.mpr ⟨lw_p83, List.forall_mem_cons.mpr ⟨lw_p84, List.forall_mem_cons.mpr ⟨lw_p85, List.forall_mem_cons.mpr ⟨lw_p86, List.forall_mem_cons.mpr ⟨lw_p87, List.forall_mem_cons.mpr ⟨lw_p88, List.forall_mem_cons.mpr ⟨lw_p89, List.forall_mem_cons.mpr ⟨lw_p90, List.forall_mem_cons.mpr ⟨lw_p91, List.forall_mem_cons.mpr ⟨lw_p92, List.forall_mem_cons.mpr ⟨lw_p93, List.forall_mem_cons.mpr ⟨lw_p94, List.forall_mem_cons.mpr ⟨lw_p95, fun _ h => absurd h List.not_mem_nil⟩⟩⟩⟩⟩⟩⟩⟩⟩⟩⟩⟩⟩⟩⟩⟩
theorem lw_p96 : lw_okq (⟨"CoatHolesModel", "plainShares", "(I)I"⟩, 39) := ⟨⟨by decide +kernel, by decide +kernel⟩, lw_t7 (List.mem_of_getElem? (i := 26) rfl), lw_t9 (List.mem_of_getElem? (i := 74) rfl), lw_t9 (List.mem_of_getElem? (i := 75) rfl)⟩
theorem lw_p97 : lw_okq (⟨"CoatHolesModel", "tellsIt", "(I)I"⟩, 39) := ⟨⟨by decide +kernel, by decide +kernel⟩, lw_t7 (List.mem_of_getElem? (i := 26) rfl), lw_t9 (List.mem_of_getElem? (i := 78) rfl), lw_t9 (List.mem_of_getElem? (i := 79) rfl)⟩
theorem lw_p98 : lw_okq (⟨"CoatHolesModel", "shakeTells", "(I)I"⟩, 39) := ⟨⟨by decide +kernel, by decide +kernel⟩, lw_t7 (List.mem_of_getElem? (i := 26) rfl), lw_t9 (List.mem_of_getElem? (i := 82) rfl), lw_t9 (List.mem_of_getElem? (i := 83) rfl)⟩
theorem lw_p99 : lw_okq (⟨"CoatHolesModel", "plainTells", "(I)I"⟩, 39) := ⟨⟨by decide +kernel, by decide +kernel⟩, lw_t7 (List.mem_of_getElem? (i := 26) rfl), lw_t9 (List.mem_of_getElem? (i := 86) rfl), lw_t9 (List.mem_of_getElem? (i := 87) rfl)⟩
theorem lw_p100 : lw_okq (⟨"CoatHolesModel", "moveAll", "(Z)V"⟩, 39) := ⟨⟨by decide +kernel, by decide +kernel⟩, lw_t7 (List.mem_of_getElem? (i := 26) rfl), lw_t9 (List.mem_of_getElem? (i := 102) rfl), lw_t9 (List.mem_of_getElem? (i := 103) rfl)⟩
theorem lw_p101 : lw_okq (⟨"CoatHolesModel", "moveRow", "([IIZ)V"⟩, 39) := ⟨⟨by decide +kernel, by decide +kernel⟩, lw_t7 (List.mem_of_getElem? (i := 26) rfl), lw_t9 (List.mem_of_getElem? (i := 106) rfl), lw_t9 (List.mem_of_getElem? (i := 107) rfl)⟩
def lw_privs_7 : List (MethodName × Nat) := [(⟨"CoatHolesModel", "plainShares", "(I)I"⟩, 39), (⟨"CoatHolesModel", "tellsIt", "(I)I"⟩, 39), (⟨"CoatHolesModel", "shakeTells", "(I)I"⟩, 39), (⟨"CoatHolesModel", "plainTells", "(I)I"⟩, 39), (⟨"CoatHolesModel", "moveAll", "(Z)V"⟩, 39), (⟨"CoatHolesModel", "moveRow", "([IIZ)V"⟩, 39)]
theorem lw_r7 : ∀ q ∈ lw_privs_7, lw_okq q := List.forall_mem_cons.mpr ⟨lw_p96, List.forall_mem_cons.mpr ⟨lw_p97, List.forall_mem_cons.mpr ⟨lw_p98, List.forall_mem_cons.mpr ⟨lw_p99, List.forall_mem_cons.mpr ⟨lw_p100, List.forall_mem_cons.mpr ⟨lw_p101, fun _ h => absurd h List.not_mem_nil⟩⟩⟩⟩⟩⟩
def lw_privs : List (MethodName × Nat) := lw_privs_1 ++ (lw_privs_2 ++ (lw_privs_3 ++ (lw_privs_4 ++ (lw_privs_5 ++ (lw_privs_6 ++ (lw_privs_7))))))
def lw_tbl : List Cond := k2_sels lw_privs ++ tables_1
theorem lw_privs_ok : ∀ q ∈ lw_privs, lw_okq q := by
  show ∀ q ∈ lw_privs_1 ++ (lw_privs_2 ++ (lw_privs_3 ++ (lw_privs_4 ++ (lw_privs_5 ++ (lw_privs_6 ++ (lw_privs_7)))))), lw_okq q
  exact List.forall_mem_append.mpr ⟨lw_r1, List.forall_mem_append.mpr ⟨lw_r2, List.forall_mem_append.mpr ⟨lw_r3, List.forall_mem_append.mpr ⟨lw_r4, List.forall_mem_append.mpr ⟨lw_r5, List.forall_mem_append.mpr ⟨lw_r6, lw_r7⟩⟩⟩⟩⟩⟩
-- ===== ONE list of words for every method: the tables' words that hold all through a run =====
def lw_all : List Cond := lw_tbl.filter goodWord
/-- a word of the tables by its place: claim/WORDS.tsv -/
theorem lw_w {w : Cond} (i : Nat) (h : lw_tbl[i]? = some w) (g : goodWord w = true) : w ∈ lw_all := List.mem_filter.mpr ⟨List.mem_of_getElem? h, g⟩
theorem lw_all_tbl {w : Cond} (h : w ∈ lw_all) : w ∈ lw_tbl := (List.mem_filter.mp h).1
theorem lw_self : GoodIn lw_all lw_all := fun w h => ⟨h, good_of_word (List.mem_filter.mp h).2⟩
/-- a class's field words, by their places -/
theorem lw_in (ws : List Cond) (ps : List Nat) (hp : ws = ps.filterMap (fun i => lw_tbl[i]?)) (hg : ws.all goodWord = true) : ∀ w ∈ ws, w ∈ lw_all := by
  intro w h
  have h1 := List.all_eq_true.mp hg w h
  rw [hp] at h
  obtain ⟨i, -, hi⟩ := List.mem_filterMap.mp h
  exact lw_w i hi h1
/-- the words of a contract for the method y with code b, L locals, answer r -/
abbrev ws_ (y : MethodName) (b : ByteArray) (L : Nat) (r : Option FieldType) : List Cond := Cond.code y b L r :: lw_all
theorem lw_meth {y : MethodName} {b : ByteArray} {L : Nat} {r : Option FieldType} (h : Cond.code y b L r ∈ lw_all) : GoodIn lw_all (ws_ y b L r) := by
  intro w hw
  rcases List.mem_cons.mp hw with e | e
  · rw [e]
    exact lw_self _ h
  · exact lw_self _ e
theorem lw_app {a c : List Cond} (ha : ∀ w ∈ a, w ∈ lw_all) (hc : GoodIn lw_all c) : GoodIn lw_all (a ++ c) := by
  intro w hw
  rcases List.mem_append.mp hw with e | e
  · exact lw_self w (ha w e)
  · exact hc w e
/-- what a call through an object asks: cwV n hts (lw_V ..) -/
theorem lw_V {own : String} {idx : Nat} {C : String} {y : MethodName} {b : ByteArray} {L : Nat} {r : Option FieldType} (h1 : Cond.methodLink own idx y ∈ lw_all) (h2 : Cond.instanceMethod y ∈ lw_all) (h3 : Cond.selects C y y ∈ lw_all) (h4 : Cond.initialized C ∈ lw_all) (h5 : Cond.code y b L r ∈ lw_all) : GoodIn lw_all (wsV own idx C y (ws_ y b L r)) := by
  refine lw_app ?_ (lw_meth h5)
  intro w hw
  simp only [List.mem_cons, List.not_mem_nil, or_false] at hw
  rcases hw with e | e | e | e
  · rw [e]; exact h1
  · rw [e]; exact h2
  · rw [e]; exact h3
  · rw [e]; exact h4
/-- what a static call asks: va_cwS n hts (lw_S ..) -/
theorem lw_S {own : String} {idx : Nat} {y : MethodName} {b : ByteArray} {L : Nat} {r : Option FieldType} (h1 : Cond.methodLink own idx y ∈ lw_all) (h2 : Cond.static y ∈ lw_all) (h3 : Cond.initialized y.cls ∈ lw_all) (h4 : Cond.code y b L r ∈ lw_all) : GoodIn lw_all (va_wsS own idx y (ws_ y b L r)) := by
  refine lw_app ?_ (lw_meth h4)
  intro w hw
  simp only [List.mem_cons, List.not_mem_nil, or_false] at hw
  rcases hw with e | e | e
  · rw [e]; exact h1
  · rw [e]; exact h2
  · rw [e]; exact h3
/-- the words of a contract for a method WITH HANDLERS (hh: its table) -/
abbrev wsW_ (y : MethodName) (b : ByteArray) (L : Nat) (r : Option FieldType) (hh : List (Nat × Nat × Nat × Nat)) : List Cond := Cond.codeWith y b L r hh :: lw_all
theorem lw_methW {y : MethodName} {b : ByteArray} {L : Nat} {r : Option FieldType} {hh : List (Nat × Nat × Nat × Nat)} (h : Cond.codeWith y b L r hh ∈ lw_all) : GoodIn lw_all (wsW_ y b L r hh) := by
  intro w hw
  rcases List.mem_cons.mp hw with e | e
  · rw [e]
    exact lw_self _ h
  · exact lw_self _ e
/-- any list of words by their places (lw_in), good -/
theorem lw_good {ws : List Cond} (h : ∀ w ∈ ws, w ∈ lw_all) : GoodIn lw_all ws := fun w hw => lw_self w (h w hw)
/-- what a call of a method with handlers asks: vx_cwVW n hts (lw_VW ..), vx_cwSW n hts (lw_SW ..) -/
theorem lw_VW {own : String} {idx : Nat} {C : String} {y : MethodName} {b : ByteArray} {L : Nat} {r : Option FieldType} {hh : List (Nat × Nat × Nat × Nat)} (h1 : Cond.methodLink own idx y ∈ lw_all) (h2 : Cond.instanceMethod y ∈ lw_all) (h3 : Cond.selects C y y ∈ lw_all) (h4 : Cond.initialized C ∈ lw_all) (h5 : Cond.codeWith y b L r hh ∈ lw_all) : GoodIn lw_all (wsV own idx C y (wsW_ y b L r hh)) := by
  refine lw_app ?_ (lw_methW h5)
  intro w hw
  simp only [List.mem_cons, List.not_mem_nil, or_false] at hw
  rcases hw with e | e | e | e
  · rw [e]; exact h1
  · rw [e]; exact h2
  · rw [e]; exact h3
  · rw [e]; exact h4
theorem lw_SW {own : String} {idx : Nat} {y : MethodName} {b : ByteArray} {L : Nat} {r : Option FieldType} {hh : List (Nat × Nat × Nat × Nat)} (h1 : Cond.methodLink own idx y ∈ lw_all) (h2 : Cond.static y ∈ lw_all) (h3 : Cond.initialized y.cls ∈ lw_all) (h4 : Cond.codeWith y b L r hh ∈ lw_all) : GoodIn lw_all (va_wsS own idx y (wsW_ y b L r hh)) := by
  refine lw_app ?_ (lw_methW h4)
  intro w hw
  simp only [List.mem_cons, List.not_mem_nil, or_false] at hw
  rcases hw with e | e | e
  · rw [e]; exact h1
  · rw [e]; exact h2
  · rw [e]; exact h3
/-- a word by its place in its run of the tables -/
theorem lw_at {r : List Cond} (hr : ∀ w ∈ r, w ∈ lw_tbl) {w : Cond} (i : Nat) (h : r[i]? = some w) : w ∈ lw_tbl := hr w (List.mem_of_getElem? h)
theorem lw_g {w : Cond} (h : w ∈ lw_tbl) (g : goodWord w = true) : w ∈ lw_all := List.mem_filter.mpr ⟨h, g⟩
theorem lw_ms : ∀ w ∈ k2_sels lw_privs, w ∈ lw_tbl := fun w h => show w ∈ k2_sels lw_privs ++ tables_1 from List.mem_append_left _ h
theorem lw_m1 : ∀ w ∈ tables_1_1, w ∈ lw_tbl := fun w h => show w ∈ k2_sels lw_privs ++ tables_1 from List.mem_append_right (k2_sels lw_privs) (show w ∈ tables_1 from List.mem_append_left _ h)
theorem lw_m2 : ∀ w ∈ tables_1_2, w ∈ lw_tbl := fun w h => show w ∈ k2_sels lw_privs ++ tables_1 from List.mem_append_right (k2_sels lw_privs) (show w ∈ tables_1 from List.mem_append_right _ (List.mem_append_left _ h))
theorem lw_m3 : ∀ w ∈ tables_1_3, w ∈ lw_tbl := fun w h => show w ∈ k2_sels lw_privs ++ tables_1 from List.mem_append_right (k2_sels lw_privs) (show w ∈ tables_1 from List.mem_append_right _ (List.mem_append_right _ (List.mem_append_left _ h)))
theorem lw_m4 : ∀ w ∈ tables_1_4, w ∈ lw_tbl := fun w h => show w ∈ k2_sels lw_privs ++ tables_1 from List.mem_append_right (k2_sels lw_privs) (show w ∈ tables_1 from List.mem_append_right _ (List.mem_append_right _ (List.mem_append_right _ (List.mem_append_left _ h))))
theorem lw_m5 : ∀ w ∈ tables_1_5, w ∈ lw_tbl := fun w h => show w ∈ k2_sels lw_privs ++ tables_1 from List.mem_append_right (k2_sels lw_privs) (show w ∈ tables_1 from List.mem_append_right _ (List.mem_append_right _ (List.mem_append_right _ (List.mem_append_right _ (List.mem_append_left _ h)))))
theorem lw_m6 : ∀ w ∈ tables_1_6, w ∈ lw_tbl := fun w h => show w ∈ k2_sels lw_privs ++ tables_1 from List.mem_append_right (k2_sels lw_privs) (show w ∈ tables_1 from List.mem_append_right _ (List.mem_append_right _ (List.mem_append_right _ (List.mem_append_right _ (List.mem_append_right _ (List.mem_append_left _ h))))))
theorem lw_m7 : ∀ w ∈ tables_1_7, w ∈ lw_tbl := fun w h => show w ∈ k2_sels lw_privs ++ tables_1 from List.mem_append_right (k2_sels lw_privs) (show w ∈ tables_1 from List.mem_append_right _ (List.mem_append_right _ (List.mem_append_right _ (List.mem_append_right _ (List.mem_append_right _ (List.mem_append_right _ (List.mem_append_left _ h)))))))
theorem lw_m8 : ∀ w ∈ tables_1_8, w ∈ lw_tbl := fun w h => show w ∈ k2_sels lw_privs ++ tables_1 from List.mem_append_right (k2_sels lw_privs) (show w ∈ tables_1 from List.mem_append_right _ (List.mem_append_right _ (List.mem_append_right _ (List.mem_append_right _ (List.mem_append_right _ (List.mem_append_right _ (List.mem_append_right _ (List.mem_append_left _ h))))))))
theorem lw_m9 : ∀ w ∈ tables_1_9, w ∈ lw_tbl := fun w h => show w ∈ k2_sels lw_privs ++ tables_1 from List.mem_append_right (k2_sels lw_privs) (show w ∈ tables_1 from List.mem_append_right _ (List.mem_append_right _ (List.mem_append_right _ (List.mem_append_right _ (List.mem_append_right _ (List.mem_append_right _ (List.mem_append_right _ (List.mem_append_right _ h))))))))
theorem qs0 : (Cond.selects "java/lang/Throwable" ⟨"java/lang/Throwable", "fillInStackTrace", "(I)Ljava/lang/Throwable;"⟩ ⟨"java/lang/Throwable", "fillInStackTrace", "(I)Ljava/lang/Throwable;"⟩) ∈ lw_all := lw_g (lw_at lw_ms 0 rfl) rfl
theorem qs1 : (Cond.selects "CoatHoles$Reader" ⟨"CoatHoles$Reader", "begins", "([BI)V"⟩ ⟨"CoatHoles$Reader", "begins", "([BI)V"⟩) ∈ lw_all := lw_g (lw_at lw_ms 1 rfl) rfl
theorem qs2 : (Cond.selects "CoatHoles$Reader" ⟨"CoatHoles$Reader", "next", "()V"⟩ ⟨"CoatHoles$Reader", "next", "()V"⟩) ∈ lw_all := lw_g (lw_at lw_ms 2 rfl) rfl
theorem qs3 : (Cond.selects "CoatHoles$Reader" ⟨"CoatHoles$Reader", "here", "()I"⟩ ⟨"CoatHoles$Reader", "here", "()I"⟩) ∈ lw_all := lw_g (lw_at lw_ms 3 rfl) rfl
theorem qs4 : (Cond.selects "CoatHoles$Reader" ⟨"CoatHoles$Reader", "item", "()V"⟩ ⟨"CoatHoles$Reader", "item", "()V"⟩) ∈ lw_all := lw_g (lw_at lw_ms 4 rfl) rfl
theorem qs5 : (Cond.selects "CoatHoles$Reader" ⟨"CoatHoles$Reader", "isWord", "(Ljava/lang/String;)Z"⟩ ⟨"CoatHoles$Reader", "isWord", "(Ljava/lang/String;)Z"⟩) ∈ lw_all := lw_g (lw_at lw_ms 5 rfl) rfl
theorem qs6 : (Cond.selects "CoatHoles$Reader" ⟨"CoatHoles$Reader", "thing", "(I)V"⟩ ⟨"CoatHoles$Reader", "thing", "(I)V"⟩) ∈ lw_all := lw_g (lw_at lw_ms 6 rfl) rfl
theorem qs7 : (Cond.selects "CoatHoles$Reader" ⟨"CoatHoles$Reader", "need", "(Z)V"⟩ ⟨"CoatHoles$Reader", "need", "(Z)V"⟩) ∈ lw_all := lw_g (lw_at lw_ms 7 rfl) rfl
theorem qs8 : (Cond.selects "CoatHoles$Reader" ⟨"CoatHoles$Reader", "place", "()I"⟩ ⟨"CoatHoles$Reader", "place", "()I"⟩) ∈ lw_all := lw_g (lw_at lw_ms 8 rfl) rfl
theorem qs9 : (Cond.selects "CoatHoles$Reader" ⟨"CoatHoles$Reader", "must", "(Ljava/lang/String;)V"⟩ ⟨"CoatHoles$Reader", "must", "(Ljava/lang/String;)V"⟩) ∈ lw_all := lw_g (lw_at lw_ms 9 rfl) rfl
theorem qs10 : (Cond.selects "CoatHoles$Reader" ⟨"CoatHoles$Reader", "number", "(II)I"⟩ ⟨"CoatHoles$Reader", "number", "(II)I"⟩) ∈ lw_all := lw_g (lw_at lw_ms 10 rfl) rfl
theorem qs11 : (Cond.selects "CoatHoles$Reader" ⟨"CoatHoles$Reader", "seen", "(II)I"⟩ ⟨"CoatHoles$Reader", "seen", "(II)I"⟩) ∈ lw_all := lw_g (lw_at lw_ms 11 rfl) rfl
theorem qs12 : (Cond.selects "CoatHoles$Reader" ⟨"CoatHoles$Reader", "told", "(Ljava/lang/String;I)I"⟩ ⟨"CoatHoles$Reader", "told", "(Ljava/lang/String;I)I"⟩) ∈ lw_all := lw_g (lw_at lw_ms 12 rfl) rfl
theorem qs13 : (Cond.selects "CoatHoles$Reader" ⟨"CoatHoles$Reader", "may", "(Ljava/lang/String;)Z"⟩ ⟨"CoatHoles$Reader", "may", "(Ljava/lang/String;)Z"⟩) ∈ lw_all := lw_g (lw_at lw_ms 13 rfl) rfl
theorem qs14 : (Cond.selects "CoatHoles" ⟨"CoatHoles", "isThing", "(I)Z"⟩ ⟨"CoatHoles", "isThing", "(I)Z"⟩) ∈ lw_all := lw_g (lw_at lw_ms 14 rfl) rfl
theorem qs15 : (Cond.selects "CoatHoles" ⟨"CoatHoles", "thingsOn", "(I)I"⟩ ⟨"CoatHoles", "thingsOn", "(I)I"⟩) ∈ lw_all := lw_g (lw_at lw_ms 15 rfl) rfl
theorem qs16 : (Cond.selects "CoatHoles$Cup" ⟨"CoatHoles$Cup", "flies", "(I)V"⟩ ⟨"CoatHoles$Cup", "flies", "(I)V"⟩) ∈ lw_all := lw_g (lw_at lw_ms 16 rfl) rfl
theorem qs17 : (Cond.selects "CoatHoles$Cup" ⟨"CoatHoles$Cup", "lays", "(I)V"⟩ ⟨"CoatHoles$Cup", "lays", "(I)V"⟩) ∈ lw_all := lw_g (lw_at lw_ms 17 rfl) rfl
theorem qs18 : (Cond.selects "CoatHoles$Cup" ⟨"CoatHoles$Cup", "grows", "(I)V"⟩ ⟨"CoatHoles$Cup", "grows", "(I)V"⟩) ∈ lw_all := lw_g (lw_at lw_ms 18 rfl) rfl
theorem qs19 : (Cond.selects "CoatHoles$Cup" ⟨"CoatHoles$Cup", "turns", "(LCoatHoles$Item;II)V"⟩ ⟨"CoatHoles$Cup", "turns", "(LCoatHoles$Item;II)V"⟩) ∈ lw_all := lw_g (lw_at lw_ms 19 rfl) rfl
theorem qs20 : (Cond.selects "CoatHoles" ⟨"CoatHoles", "holesAll", "()I"⟩ ⟨"CoatHoles", "holesAll", "()I"⟩) ∈ lw_all := lw_g (lw_at lw_ms 20 rfl) rfl
theorem qs21 : (Cond.selects "CoatHoles" ⟨"CoatHoles", "isDoing", "(I)Z"⟩ ⟨"CoatHoles", "isDoing", "(I)Z"⟩) ∈ lw_all := lw_g (lw_at lw_ms 21 rfl) rfl
theorem qs22 : (Cond.selects "CoatHoles" ⟨"CoatHoles", "mostBy", "(II)I"⟩ ⟨"CoatHoles", "mostBy", "(II)I"⟩) ∈ lw_all := lw_g (lw_at lw_ms 22 rfl) rfl
theorem qs23 : (Cond.selects "CoatHoles" ⟨"CoatHoles", "isChoice", "(I)Z"⟩ ⟨"CoatHoles", "isChoice", "(I)Z"⟩) ∈ lw_all := lw_g (lw_at lw_ms 23 rfl) rfl
theorem qs24 : (Cond.selects "CoatHoles" ⟨"CoatHoles", "goes", "(LCoatHoles$Cup;LCoatHoles$Cup;I)V"⟩ ⟨"CoatHoles", "goes", "(LCoatHoles$Cup;LCoatHoles$Cup;I)V"⟩) ∈ lw_all := lw_g (lw_at lw_ms 24 rfl) rfl
theorem qs25 : (Cond.selects "CoatHoles" ⟨"CoatHoles", "waysAll", "()J"⟩ ⟨"CoatHoles", "waysAll", "()J"⟩) ∈ lw_all := lw_g (lw_at lw_ms 25 rfl) rfl
theorem qs26 : (Cond.selects "CoatHoles" ⟨"CoatHoles", "waysFrom", "(I)J"⟩ ⟨"CoatHoles", "waysFrom", "(I)J"⟩) ∈ lw_all := lw_g (lw_at lw_ms 26 rfl) rfl
theorem qs27 : (Cond.selects "CoatHoles" ⟨"CoatHoles", "oddsOf", "(IZI)J"⟩ ⟨"CoatHoles", "oddsOf", "(IZI)J"⟩) ∈ lw_all := lw_g (lw_at lw_ms 27 rfl) rfl
theorem qs28 : (Cond.selects "CoatHoles" ⟨"CoatHoles", "toldBy", "(I)J"⟩ ⟨"CoatHoles", "toldBy", "(I)J"⟩) ∈ lw_all := lw_g (lw_at lw_ms 28 rfl) rfl
theorem qs29 : (Cond.selects "CoatHoles" ⟨"CoatHoles", "isCell", "(II)Z"⟩ ⟨"CoatHoles", "isCell", "(II)Z"⟩) ∈ lw_all := lw_g (lw_at lw_ms 29 rfl) rfl
theorem qs30 : (Cond.selects "CoatHoles" ⟨"CoatHoles", "rowAt", "(I)LCoatHoles$Row;"⟩ ⟨"CoatHoles", "rowAt", "(I)LCoatHoles$Row;"⟩) ∈ lw_all := lw_g (lw_at lw_ms 30 rfl) rfl
theorem qs31 : (Cond.selects "CoatHoles" ⟨"CoatHoles", "there", "(Ljava/lang/Object;)Ljava/lang/Object;"⟩ ⟨"CoatHoles", "there", "(Ljava/lang/Object;)Ljava/lang/Object;"⟩) ∈ lw_all := lw_g (lw_at lw_ms 31 rfl) rfl
theorem qs32 : (Cond.selects "CoatHoles" ⟨"CoatHoles", "soilsOf", "([IIII)V"⟩ ⟨"CoatHoles", "soilsOf", "([IIII)V"⟩) ∈ lw_all := lw_g (lw_at lw_ms 32 rfl) rfl
theorem qs33 : (Cond.selects "CoatHoles" ⟨"CoatHoles", "within", "(II)V"⟩ ⟨"CoatHoles", "within", "(II)V"⟩) ∈ lw_all := lw_g (lw_at lw_ms 33 rfl) rfl
theorem qs34 : (Cond.selects "CoatHoles" ⟨"CoatHoles", "set", "(Ljava/lang/Object;II)V"⟩ ⟨"CoatHoles", "set", "(Ljava/lang/Object;II)V"⟩) ∈ lw_all := lw_g (lw_at lw_ms 34 rfl) rfl
theorem qs35 : (Cond.selects "CoatHoles" ⟨"CoatHoles", "itemOf", "(Ljava/lang/Object;II)I"⟩ ⟨"CoatHoles", "itemOf", "(Ljava/lang/Object;II)I"⟩) ∈ lw_all := lw_g (lw_at lw_ms 35 rfl) rfl
theorem qs36 : (Cond.selects "CoatHoles" ⟨"CoatHoles", "byteAt", "([BI)I"⟩ ⟨"CoatHoles", "byteAt", "([BI)I"⟩) ∈ lw_all := lw_g (lw_at lw_ms 36 rfl) rfl
theorem qs37 : (Cond.selects "CoatHoles" ⟨"CoatHoles", "shortAt", "([SI)I"⟩ ⟨"CoatHoles", "shortAt", "([SI)I"⟩) ∈ lw_all := lw_g (lw_at lw_ms 37 rfl) rfl
theorem qs38 : (Cond.selects "CoatHoles" ⟨"CoatHoles", "intAt", "([II)I"⟩ ⟨"CoatHoles", "intAt", "([II)I"⟩) ∈ lw_all := lw_g (lw_at lw_ms 38 rfl) rfl
theorem qs39 : (Cond.selects "CoatHoles" ⟨"CoatHoles", "longAt", "([JI)I"⟩ ⟨"CoatHoles", "longAt", "([JI)I"⟩) ∈ lw_all := lw_g (lw_at lw_ms 39 rfl) rfl
theorem qs40 : (Cond.selects "CoatHoles" ⟨"CoatHoles", "heldOf", "(LCoatHoles$Shelf;)Ljava/lang/Object;"⟩ ⟨"CoatHoles", "heldOf", "(LCoatHoles$Shelf;)Ljava/lang/Object;"⟩) ∈ lw_all := lw_g (lw_at lw_ms 40 rfl) rfl
theorem qs41 : (Cond.selects "CoatHoles" ⟨"CoatHoles", "ran", "(I)V"⟩ ⟨"CoatHoles", "ran", "(I)V"⟩) ∈ lw_all := lw_g (lw_at lw_ms 41 rfl) rfl
theorem qs42 : (Cond.selects "CoatHoles" ⟨"CoatHoles", "caughtAll", "()I"⟩ ⟨"CoatHoles", "caughtAll", "()I"⟩) ∈ lw_all := lw_g (lw_at lw_ms 42 rfl) rfl
theorem qs43 : (Cond.selects "CoatHolesModel" ⟨"CoatHolesModel", "advance", "()V"⟩ ⟨"CoatHolesModel", "advance", "()V"⟩) ∈ lw_all := lw_g (lw_at lw_ms 43 rfl) rfl
theorem qs44 : (Cond.selects "CoatHolesModel" ⟨"CoatHolesModel", "byteAt", "(I)I"⟩ ⟨"CoatHolesModel", "byteAt", "(I)I"⟩) ∈ lw_all := lw_g (lw_at lw_ms 44 rfl) rfl
theorem qs45 : (Cond.selects "CoatHolesModel" ⟨"CoatHolesModel", "wantClause", "()V"⟩ ⟨"CoatHolesModel", "wantClause", "()V"⟩) ∈ lw_all := lw_g (lw_at lw_ms 45 rfl) rfl
theorem qs46 : (Cond.selects "CoatHolesModel" ⟨"CoatHolesModel", "stuffHere", "()I"⟩ ⟨"CoatHolesModel", "stuffHere", "()I"⟩) ∈ lw_all := lw_g (lw_at lw_ms 46 rfl) rfl
theorem qs47 : (Cond.selects "CoatHolesModel" ⟨"CoatHolesModel", "isWord", "(J)Z"⟩ ⟨"CoatHolesModel", "isWord", "(J)Z"⟩) ∈ lw_all := lw_g (lw_at lw_ms 47 rfl) rfl
theorem qs48 : (Cond.selects "CoatHolesModel" ⟨"CoatHolesModel", "wantThing", "(I)V"⟩ ⟨"CoatHolesModel", "wantThing", "(I)V"⟩) ∈ lw_all := lw_g (lw_at lw_ms 48 rfl) rfl
theorem qs49 : (Cond.selects "CoatHolesModel" ⟨"CoatHolesModel", "wantWord", "(J)V"⟩ ⟨"CoatHolesModel", "wantWord", "(J)V"⟩) ∈ lw_all := lw_g (lw_at lw_ms 49 rfl) rfl
theorem qs50 : (Cond.selects "CoatHolesModel" ⟨"CoatHolesModel", "wantNumber", "(I)I"⟩ ⟨"CoatHolesModel", "wantNumber", "(I)I"⟩) ∈ lw_all := lw_g (lw_at lw_ms 50 rfl) rfl
theorem qs51 : (Cond.selects "CoatHolesModel" ⟨"CoatHolesModel", "mayNumber", "(JI)I"⟩ ⟨"CoatHolesModel", "mayNumber", "(JI)I"⟩) ∈ lw_all := lw_g (lw_at lw_ms 51 rfl) rfl
theorem qs52 : (Cond.selects "CoatHolesModel" ⟨"CoatHolesModel", "wantEnd", "()V"⟩ ⟨"CoatHolesModel", "wantEnd", "()V"⟩) ∈ lw_all := lw_g (lw_at lw_ms 52 rfl) rfl
theorem qs53 : (Cond.selects "CoatHolesModel" ⟨"CoatHolesModel", "isMark", "(I)Z"⟩ ⟨"CoatHolesModel", "isMark", "(I)Z"⟩) ∈ lw_all := lw_g (lw_at lw_ms 53 rfl) rfl
theorem qs54 : (Cond.selects "CoatHolesModel" ⟨"CoatHolesModel", "lay", "(IIII)V"⟩ ⟨"CoatHolesModel", "lay", "(IIII)V"⟩) ∈ lw_all := lw_g (lw_at lw_ms 54 rfl) rfl
theorem qs55 : (Cond.selects "CoatHolesModel" ⟨"CoatHolesModel", "becomes", "(III)V"⟩ ⟨"CoatHolesModel", "becomes", "(III)V"⟩) ∈ lw_all := lw_g (lw_at lw_ms 55 rfl) rfl
theorem qs56 : (Cond.selects "CoatHolesModel" ⟨"CoatHolesModel", "placeBecomes", "(III)V"⟩ ⟨"CoatHolesModel", "placeBecomes", "(III)V"⟩) ∈ lw_all := lw_g (lw_at lw_ms 56 rfl) rfl
theorem qs57 : (Cond.selects "CoatHolesModel" ⟨"CoatHolesModel", "copies", "(II)V"⟩ ⟨"CoatHolesModel", "copies", "(II)V"⟩) ∈ lw_all := lw_g (lw_at lw_ms 57 rfl) rfl
theorem qs58 : (Cond.selects "CoatHolesModel" ⟨"CoatHolesModel", "isThing", "(I)Z"⟩ ⟨"CoatHolesModel", "isThing", "(I)Z"⟩) ∈ lw_all := lw_g (lw_at lw_ms 58 rfl) rfl
theorem qs59 : (Cond.selects "CoatHolesModel" ⟨"CoatHolesModel", "tasteOf", "(I)I"⟩ ⟨"CoatHolesModel", "tasteOf", "(I)I"⟩) ∈ lw_all := lw_g (lw_at lw_ms 59 rfl) rfl
theorem qs60 : (Cond.selects "CoatHolesModel" ⟨"CoatHolesModel", "its", "(II)I"⟩ ⟨"CoatHolesModel", "its", "(II)I"⟩) ∈ lw_all := lw_g (lw_at lw_ms 60 rfl) rfl
theorem qs61 : (Cond.selects "CoatHolesModel" ⟨"CoatHolesModel", "likingOf", "(I)I"⟩ ⟨"CoatHolesModel", "likingOf", "(I)I"⟩) ∈ lw_all := lw_g (lw_at lw_ms 61 rfl) rfl
theorem qs62 : (Cond.selects "CoatHolesModel" ⟨"CoatHolesModel", "ofPlace", "(II)I"⟩ ⟨"CoatHolesModel", "ofPlace", "(II)I"⟩) ∈ lw_all := lw_g (lw_at lw_ms 62 rfl) rfl
theorem qs63 : (Cond.selects "CoatHolesModel" ⟨"CoatHolesModel", "thingsOn", "(I)I"⟩ ⟨"CoatHolesModel", "thingsOn", "(I)I"⟩) ∈ lw_all := lw_g (lw_at lw_ms 63 rfl) rfl
theorem qs64 : (Cond.selects "CoatHolesModel" ⟨"CoatHolesModel", "weekGoes", "()V"⟩ ⟨"CoatHolesModel", "weekGoes", "()V"⟩) ∈ lw_all := lw_g (lw_at lw_ms 64 rfl) rfl
theorem qs65 : (Cond.selects "CoatHolesModel" ⟨"CoatHolesModel", "placeGoes", "(I)V"⟩ ⟨"CoatHolesModel", "placeGoes", "(I)V"⟩) ∈ lw_all := lw_g (lw_at lw_ms 65 rfl) rfl
theorem qs66 : (Cond.selects "CoatHolesModel" ⟨"CoatHolesModel", "likedIn", "(I)I"⟩ ⟨"CoatHolesModel", "likedIn", "(I)I"⟩) ∈ lw_all := lw_g (lw_at lw_ms 66 rfl) rfl
theorem qs67 : (Cond.selects "CoatHolesModel" ⟨"CoatHolesModel", "thingGoes", "(II)V"⟩ ⟨"CoatHolesModel", "thingGoes", "(II)V"⟩) ∈ lw_all := lw_g (lw_at lw_ms 67 rfl) rfl
theorem qs68 : (Cond.selects "CoatHolesModel" ⟨"CoatHolesModel", "alive", "()I"⟩ ⟨"CoatHolesModel", "alive", "()I"⟩) ∈ lw_all := lw_g (lw_at lw_ms 68 rfl) rfl
theorem qs69 : (Cond.selects "CoatHolesModel" ⟨"CoatHolesModel", "aliveIn", "(I)I"⟩ ⟨"CoatHolesModel", "aliveIn", "(I)I"⟩) ∈ lw_all := lw_g (lw_at lw_ms 69 rfl) rfl
theorem qs70 : (Cond.selects "CoatHolesModel" ⟨"CoatHolesModel", "kept", "()I"⟩ ⟨"CoatHolesModel", "kept", "()I"⟩) ∈ lw_all := lw_g (lw_at lw_ms 70 rfl) rfl
theorem qs71 : (Cond.selects "CoatHolesModel" ⟨"CoatHolesModel", "holes", "()I"⟩ ⟨"CoatHolesModel", "holes", "()I"⟩) ∈ lw_all := lw_g (lw_at lw_ms 71 rfl) rfl
theorem qs72 : (Cond.selects "CoatHolesModel" ⟨"CoatHolesModel", "isDoing", "(I)Z"⟩ ⟨"CoatHolesModel", "isDoing", "(I)Z"⟩) ∈ lw_all := lw_g (lw_at lw_ms 72 rfl) rfl
theorem qs73 : (Cond.selects "CoatHolesModel" ⟨"CoatHolesModel", "isDone", "(II)V"⟩ ⟨"CoatHolesModel", "isDone", "(II)V"⟩) ∈ lw_all := lw_g (lw_at lw_ms 73 rfl) rfl
theorem qs74 : (Cond.selects "CoatHolesModel" ⟨"CoatHolesModel", "halves", "(II)V"⟩ ⟨"CoatHolesModel", "halves", "(II)V"⟩) ∈ lw_all := lw_g (lw_at lw_ms 74 rfl) rfl
theorem qs75 : (Cond.selects "CoatHolesModel" ⟨"CoatHolesModel", "bestOf", "(I)I"⟩ ⟨"CoatHolesModel", "bestOf", "(I)I"⟩) ∈ lw_all := lw_g (lw_at lw_ms 75 rfl) rfl
theorem qs76 : (Cond.selects "CoatHolesModel" ⟨"CoatHolesModel", "isChoice", "(I)Z"⟩ ⟨"CoatHolesModel", "isChoice", "(I)Z"⟩) ∈ lw_all := lw_g (lw_at lw_ms 76 rfl) rfl
theorem qs77 : (Cond.selects "CoatHolesModel" ⟨"CoatHolesModel", "choose", "(I)I"⟩ ⟨"CoatHolesModel", "choose", "(I)I"⟩) ∈ lw_all := lw_g (lw_at lw_ms 77 rfl) rfl
theorem qs78 : (Cond.selects "CoatHolesModel" ⟨"CoatHolesModel", "behind", "()I"⟩ ⟨"CoatHolesModel", "behind", "()I"⟩) ∈ lw_all := lw_g (lw_at lw_ms 78 rfl) rfl
theorem qs79 : (Cond.selects "CoatHolesModel" ⟨"CoatHolesModel", "weightsInAll", "()J"⟩ ⟨"CoatHolesModel", "weightsInAll", "()J"⟩) ∈ lw_all := lw_g (lw_at lw_ms 79 rfl) rfl
theorem qs80 : (Cond.selects "CoatHolesModel" ⟨"CoatHolesModel", "weightOf", "(I)J"⟩ ⟨"CoatHolesModel", "weightOf", "(I)J"⟩) ∈ lw_all := lw_g (lw_at lw_ms 80 rfl) rfl
theorem qs81 : (Cond.selects "CoatHolesModel" ⟨"CoatHolesModel", "oftenIf", "(IIZ)I"⟩ ⟨"CoatHolesModel", "oftenIf", "(IIZ)I"⟩) ∈ lw_all := lw_g (lw_at lw_ms 81 rfl) rfl
theorem qs82 : (Cond.selects "CoatHolesModel" ⟨"CoatHolesModel", "mostBy", "(IZ)J"⟩ ⟨"CoatHolesModel", "mostBy", "(IZ)J"⟩) ∈ lw_all := lw_g (lw_at lw_ms 82 rfl) rfl
theorem qs83 : (Cond.selects "CoatHolesModel" ⟨"CoatHolesModel", "mustBe", "(II)I"⟩ ⟨"CoatHolesModel", "mustBe", "(II)I"⟩) ∈ lw_all := lw_g (lw_at lw_ms 83 rfl) rfl
theorem qs84 : (Cond.selects "CoatHolesModel" ⟨"CoatHolesModel", "isRow", "(II)Z"⟩ ⟨"CoatHolesModel", "isRow", "(II)Z"⟩) ∈ lw_all := lw_g (lw_at lw_ms 84 rfl) rfl
theorem qs85 : (Cond.selects "CoatHolesModel" ⟨"CoatHolesModel", "lacksSort", "(II)I"⟩ ⟨"CoatHolesModel", "lacksSort", "(II)I"⟩) ∈ lw_all := lw_g (lw_at lw_ms 85 rfl) rfl
theorem qs86 : (Cond.selects "CoatHolesModel" ⟨"CoatHolesModel", "isHeld", "(II)Z"⟩ ⟨"CoatHolesModel", "isHeld", "(II)Z"⟩) ∈ lw_all := lw_g (lw_at lw_ms 86 rfl) rfl
theorem qs87 : (Cond.selects "CoatHolesModel" ⟨"CoatHolesModel", "kindOn", "(I)I"⟩ ⟨"CoatHolesModel", "kindOn", "(I)I"⟩) ∈ lw_all := lw_g (lw_at lw_ms 87 rfl) rfl
theorem qs88 : (Cond.selects "CoatHolesModel" ⟨"CoatHolesModel", "eatsIt", "(I)I"⟩ ⟨"CoatHolesModel", "eatsIt", "(I)I"⟩) ∈ lw_all := lw_g (lw_at lw_ms 88 rfl) rfl
theorem qs89 : (Cond.selects "CoatHolesModel" ⟨"CoatHolesModel", "shakeEats", "(I)I"⟩ ⟨"CoatHolesModel", "shakeEats", "(I)I"⟩) ∈ lw_all := lw_g (lw_at lw_ms 89 rfl) rfl
theorem qs90 : (Cond.selects "CoatHolesModel" ⟨"CoatHolesModel", "ran", "(I)V"⟩ ⟨"CoatHolesModel", "ran", "(I)V"⟩) ∈ lw_all := lw_g (lw_at lw_ms 90 rfl) rfl
theorem qs91 : (Cond.selects "CoatHolesModel" ⟨"CoatHolesModel", "plainEats", "(I)I"⟩ ⟨"CoatHolesModel", "plainEats", "(I)I"⟩) ∈ lw_all := lw_g (lw_at lw_ms 91 rfl) rfl
theorem qs92 : (Cond.selects "CoatHolesModel" ⟨"CoatHolesModel", "laysIt", "(I)I"⟩ ⟨"CoatHolesModel", "laysIt", "(I)I"⟩) ∈ lw_all := lw_g (lw_at lw_ms 92 rfl) rfl
theorem qs93 : (Cond.selects "CoatHolesModel" ⟨"CoatHolesModel", "coldLays", "(I)I"⟩ ⟨"CoatHolesModel", "coldLays", "(I)I"⟩) ∈ lw_all := lw_g (lw_at lw_ms 93 rfl) rfl
theorem qs94 : (Cond.selects "CoatHolesModel" ⟨"CoatHolesModel", "plainLays", "(I)I"⟩ ⟨"CoatHolesModel", "plainLays", "(I)I"⟩) ∈ lw_all := lw_g (lw_at lw_ms 94 rfl) rfl
theorem qs95 : (Cond.selects "CoatHolesModel" ⟨"CoatHolesModel", "sharesIt", "(I)I"⟩ ⟨"CoatHolesModel", "sharesIt", "(I)I"⟩) ∈ lw_all := lw_g (lw_at lw_ms 95 rfl) rfl
theorem qs96 : (Cond.selects "CoatHolesModel" ⟨"CoatHolesModel", "plainShares", "(I)I"⟩ ⟨"CoatHolesModel", "plainShares", "(I)I"⟩) ∈ lw_all := lw_g (lw_at lw_ms 96 rfl) rfl
theorem qs97 : (Cond.selects "CoatHolesModel" ⟨"CoatHolesModel", "tellsIt", "(I)I"⟩ ⟨"CoatHolesModel", "tellsIt", "(I)I"⟩) ∈ lw_all := lw_g (lw_at lw_ms 97 rfl) rfl
theorem qs98 : (Cond.selects "CoatHolesModel" ⟨"CoatHolesModel", "shakeTells", "(I)I"⟩ ⟨"CoatHolesModel", "shakeTells", "(I)I"⟩) ∈ lw_all := lw_g (lw_at lw_ms 98 rfl) rfl
theorem qs99 : (Cond.selects "CoatHolesModel" ⟨"CoatHolesModel", "plainTells", "(I)I"⟩ ⟨"CoatHolesModel", "plainTells", "(I)I"⟩) ∈ lw_all := lw_g (lw_at lw_ms 99 rfl) rfl
theorem qs100 : (Cond.selects "CoatHolesModel" ⟨"CoatHolesModel", "moveAll", "(Z)V"⟩ ⟨"CoatHolesModel", "moveAll", "(Z)V"⟩) ∈ lw_all := lw_g (lw_at lw_ms 100 rfl) rfl
theorem qs101 : (Cond.selects "CoatHolesModel" ⟨"CoatHolesModel", "moveRow", "([IIZ)V"⟩ ⟨"CoatHolesModel", "moveRow", "([IIZ)V"⟩) ∈ lw_all := lw_g (lw_at lw_ms 101 rfl) rfl
