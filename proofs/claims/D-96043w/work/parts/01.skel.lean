-- ===== PART A: goes FIRST, ahead of the names: the tables' words, and 'selects' of the private methods out of them =====
/-- a private method of a class that the tables say can be made, by its rows of tables_1 -/
def lw_okq (q : MethodName × Nat) : Prop := (q.1.cls ≠ "java/lang/invoke/MethodHandle" ∧ q.1.cls ≠ "java/lang/invoke/VarHandle") ∧ Cond.instantiable q.1.cls q.2 ∈ tables_1 ∧ Cond.privateMethod q.1 ∈ tables_1 ∧ Cond.instanceMethod q.1 ∈ tables_1
set_option maxRecDepth 100000
theorem lw_t1 {w : Cond} (h : w ∈ tables_1_1) : w ∈ tables_1 := List.mem_append_left _ h
theorem lw_t2 {w : Cond} (h : w ∈ tables_1_2) : w ∈ tables_1 := List.mem_append_right _ (List.mem_append_left _ h)
theorem lw_t3 {w : Cond} (h : w ∈ tables_1_3) : w ∈ tables_1 := List.mem_append_right _ (List.mem_append_right _ (List.mem_append_left _ h))
theorem lw_t4 {w : Cond} (h : w ∈ tables_1_4) : w ∈ tables_1 := List.mem_append_right _ (List.mem_append_right _ (List.mem_append_right _ (List.mem_append_left _ h)))
theorem lw_t5 {w : Cond} (h : w ∈ tables_1_5) : w ∈ tables_1 := List.mem_append_right _ (List.mem_append_right _ (List.mem_append_right _ (List.mem_append_right _ (List.mem_append_left _ h))))
theorem lw_t6 {w : Cond} (h : w ∈ tables_1_6) : w ∈ tables_1 := List.mem_append_right _ (List.mem_append_right _ (List.mem_append_right _ (List.mem_append_right _ (List.mem_append_right _ (List.mem_append_left _ h)))))
theorem lw_t7 {w : Cond} (h : w ∈ tables_1_7) : w ∈ tables_1 := List.mem_append_right _ (List.mem_append_right _ (List.mem_append_right _ (List.mem_append_right _ (List.mem_append_right _ (List.mem_append_right _ (List.mem_append_left _ h))))))
theorem lw_t8 {w : Cond} (h : w ∈ tables_1_8) : w ∈ tables_1 := List.mem_append_right _ (List.mem_append_right _ (List.mem_append_right _ (List.mem_append_right _ (List.mem_append_right _ (List.mem_append_right _ (List.mem_append_right _ (List.mem_append_left _ h)))))))
theorem lw_t9 {w : Cond} (h : w ∈ tables_1_9) : w ∈ tables_1 := List.mem_append_right _ (List.mem_append_right _ (List.mem_append_right _ (List.mem_append_right _ (List.mem_append_right _ (List.mem_append_right _ (List.mem_append_right _ (List.mem_append_right _ h)))))))
theorem lw_p0 : lw_okq (⟨"ThreeSnowballs", "addPlayer", "(II)I"⟩, 38) := ⟨⟨by decide +kernel, by decide +kernel⟩, lw_t1 (List.mem_of_getElem? (i := 46) rfl), lw_t1 (List.mem_of_getElem? (i := 213) rfl), lw_t1 (List.mem_of_getElem? (i := 214) rfl)⟩
theorem lw_p1 : lw_okq (⟨"ThreeSnowballs", "beginAnew", "()V"⟩, 38) := ⟨⟨by decide +kernel, by decide +kernel⟩, lw_t1 (List.mem_of_getElem? (i := 46) rfl), lw_t1 (List.mem_of_getElem? (i := 234) rfl), lw_t1 (List.mem_of_getElem? (i := 235) rfl)⟩
theorem lw_p2 : lw_okq (⟨"ThreeSnowballs", "everybody", "()I"⟩, 38) := ⟨⟨by decide +kernel, by decide +kernel⟩, lw_t1 (List.mem_of_getElem? (i := 46) rfl), lw_t1 (List.mem_of_getElem? (i := 238) rfl), lw_t1 (List.mem_of_getElem? (i := 239) rfl)⟩
theorem lw_p3 : lw_okq (⟨"java/lang/NullPointerException", "getExtendedNPEMessage", "()Ljava/lang/String;"⟩, 8) := ⟨⟨by decide +kernel, by decide +kernel⟩, lw_t2 (List.mem_of_getElem? (i := 35) rfl), lw_t2 (List.mem_of_getElem? (i := 33) rfl), lw_t2 (List.mem_of_getElem? (i := 34) rfl)⟩
theorem lw_p4 : lw_okq (⟨"java/lang/Throwable", "fillInStackTrace", "(I)Ljava/lang/Throwable;"⟩, 6) := ⟨⟨by decide +kernel, by decide +kernel⟩, lw_t2 (List.mem_of_getElem? (i := 47) rfl), lw_t2 (List.mem_of_getElem? (i := 45) rfl), lw_t2 (List.mem_of_getElem? (i := 46) rfl)⟩
theorem lw_p5 : lw_okq (⟨"ThreeSnowballs", "isPlayer", "(I)Z"⟩, 38) := ⟨⟨by decide +kernel, by decide +kernel⟩, lw_t1 (List.mem_of_getElem? (i := 46) rfl), lw_t2 (List.mem_of_getElem? (i := 146) rfl), lw_t2 (List.mem_of_getElem? (i := 147) rfl)⟩
theorem lw_p6 : lw_okq (⟨"ThreeSnowballs", "placeOf", "(I)I"⟩, 38) := ⟨⟨by decide +kernel, by decide +kernel⟩, lw_t1 (List.mem_of_getElem? (i := 46) rfl), lw_t2 (List.mem_of_getElem? (i := 165) rfl), lw_t2 (List.mem_of_getElem? (i := 166) rfl)⟩
theorem lw_p7 : lw_okq (⟨"ThreeSnowballs", "setTo", "(III)V"⟩, 38) := ⟨⟨by decide +kernel, by decide +kernel⟩, lw_t1 (List.mem_of_getElem? (i := 46) rfl), lw_t2 (List.mem_of_getElem? (i := 173) rfl), lw_t2 (List.mem_of_getElem? (i := 174) rfl)⟩
theorem lw_p8 : lw_okq (⟨"ThreeSnowballs", "become", "(IIII)I"⟩, 38) := ⟨⟨by decide +kernel, by decide +kernel⟩, lw_t1 (List.mem_of_getElem? (i := 46) rfl), lw_t2 (List.mem_of_getElem? (i := 186) rfl), lw_t2 (List.mem_of_getElem? (i := 187) rfl)⟩
theorem lw_p9 : lw_okq (⟨"ThreeSnowballs$Reader", "line", "()LThreeSnowballs$Line;"⟩, 4) := ⟨⟨by decide +kernel, by decide +kernel⟩, lw_t2 (List.mem_of_getElem? (i := 220) rfl), lw_t3 (List.mem_of_getElem? (i := 4) rfl), lw_t3 (List.mem_of_getElem? (i := 5) rfl)⟩
theorem lw_p10 : lw_okq (⟨"ThreeSnowballs$Reader", "either", "()LThreeSnowballs$Node;"⟩, 4) := ⟨⟨by decide +kernel, by decide +kernel⟩, lw_t2 (List.mem_of_getElem? (i := 220) rfl), lw_t3 (List.mem_of_getElem? (i := 27) rfl), lw_t3 (List.mem_of_getElem? (i := 28) rfl)⟩
theorem lw_p11 : lw_okq (⟨"ThreeSnowballs$Reader", "all", "()LThreeSnowballs$Node;"⟩, 4) := ⟨⟨by decide +kernel, by decide +kernel⟩, lw_t2 (List.mem_of_getElem? (i := 220) rfl), lw_t3 (List.mem_of_getElem? (i := 31) rfl), lw_t3 (List.mem_of_getElem? (i := 32) rfl)⟩
theorem lw_p12 : lw_okq (⟨"ThreeSnowballs$Reader", "compared", "()LThreeSnowballs$Node;"⟩, 4) := ⟨⟨by decide +kernel, by decide +kernel⟩, lw_t2 (List.mem_of_getElem? (i := 220) rfl), lw_t3 (List.mem_of_getElem? (i := 35) rfl), lw_t3 (List.mem_of_getElem? (i := 36) rfl)⟩
theorem lw_p13 : lw_okq (⟨"ThreeSnowballs$Reader", "sum", "()LThreeSnowballs$Node;"⟩, 4) := ⟨⟨by decide +kernel, by decide +kernel⟩, lw_t2 (List.mem_of_getElem? (i := 220) rfl), lw_t3 (List.mem_of_getElem? (i := 39) rfl), lw_t3 (List.mem_of_getElem? (i := 40) rfl)⟩
theorem lw_p14 : lw_okq (⟨"ThreeSnowballs$Reader", "product", "()LThreeSnowballs$Node;"⟩, 4) := ⟨⟨by decide +kernel, by decide +kernel⟩, lw_t2 (List.mem_of_getElem? (i := 220) rfl), lw_t3 (List.mem_of_getElem? (i := 43) rfl), lw_t3 (List.mem_of_getElem? (i := 44) rfl)⟩
theorem lw_p15 : lw_okq (⟨"ThreeSnowballs$Reader", "operand", "()LThreeSnowballs$Node;"⟩, 4) := ⟨⟨by decide +kernel, by decide +kernel⟩, lw_t2 (List.mem_of_getElem? (i := 220) rfl), lw_t3 (List.mem_of_getElem? (i := 47) rfl), lw_t3 (List.mem_of_getElem? (i := 48) rfl)⟩
def lw_privs_1 : List (MethodName × Nat) := [(⟨"ThreeSnowballs", "addPlayer", "(II)I"⟩, 38), (⟨"ThreeSnowballs", "beginAnew", "()V"⟩, 38), (⟨"ThreeSnowballs", "everybody", "()I"⟩, 38), (⟨"java/lang/NullPointerException", "getExtendedNPEMessage", "()Ljava/lang/String;"⟩, 8), (⟨"java/lang/Throwable", "fillInStackTrace", "(I)Ljava/lang/Throwable;"⟩, 6), (⟨"ThreeSnowballs", "isPlayer", "(I)Z"⟩, 38), (⟨"ThreeSnowballs", "placeOf", "(I)I"⟩, 38), (⟨"ThreeSnowballs", "setTo", "(III)V"⟩, 38), (⟨"ThreeSnowballs", "become", "(IIII)I"⟩, 38), (⟨"ThreeSnowballs$Reader", "line", "()LThreeSnowballs$Line;"⟩, 4), (⟨"ThreeSnowballs$Reader", "either", "()LThreeSnowballs$Node;"⟩, 4), (⟨"ThreeSnowballs$Reader", "all", "()LThreeSnowballs$Node;"⟩, 4), (⟨"ThreeSnowballs$Reader", "compared", "()LThreeSnowballs$Node;"⟩, 4), (⟨"ThreeSnowballs$Reader", "sum", "()LThreeSnowballs$Node;"⟩, 4), (⟨"ThreeSnowballs$Reader", "product", "()LThreeSnowballs$Node;"⟩, 4), (⟨"ThreeSnowballs$Reader", "operand", "()LThreeSnowballs$Node;"⟩, 4)]
theorem lw_r1 : ∀ q ∈ lw_privs_1, lw_okq q := List.forall_mem_cons.mpr ⟨lw_p0, List.forall_mem_cons.mpr ⟨lw_p1, List.forall_mem_cons.mpr ⟨lw_p2, List.forall_mem_cons.mpr ⟨lw_p3, List.forall_mem_cons.mpr ⟨lw_p4, List.forall_mem_cons.mpr ⟨lw_p5, List.forall_mem_cons.mpr ⟨lw_p6, List.forall_mem_cons.mpr ⟨lw_p7, List.forall_mem_cons.mpr ⟨lw_p8, List.forall_mem_cons.mpr ⟨lw_p9, List.forall_mem_cons.mpr ⟨lw_p10, List.forall_mem_cons.mpr ⟨lw_p11, List.forall_mem_cons.mpr ⟨lw_p12, List.forall_mem_cons.mpr ⟨lw_p13, List.forall_mem_cons.mpr ⟨lw_p14, List.forall_mem_cons.mpr ⟨lw_p15, fun _ h => absurd h List.not_mem_nil⟩⟩⟩⟩⟩⟩⟩⟩⟩⟩⟩⟩⟩⟩⟩⟩
theorem lw_p16 : lw_okq (⟨"ThreeSnowballs$Reader", "here", "()I"⟩, 4) := ⟨⟨by decide +kernel, by decide +kernel⟩, lw_t2 (List.mem_of_getElem? (i := 220) rfl), lw_t3 (List.mem_of_getElem? (i := 51) rfl), lw_t3 (List.mem_of_getElem? (i := 52) rfl)⟩
theorem lw_p17 : lw_okq (⟨"ThreeSnowballs$Reader", "isOne", "(Ljava/lang/String;)Z"⟩, 4) := ⟨⟨by decide +kernel, by decide +kernel⟩, lw_t2 (List.mem_of_getElem? (i := 220) rfl), lw_t3 (List.mem_of_getElem? (i := 56) rfl), lw_t3 (List.mem_of_getElem? (i := 57) rfl)⟩
theorem lw_p18 : lw_okq (⟨"ThreeSnowballs$Reader", "opens", "()Z"⟩, 4) := ⟨⟨by decide +kernel, by decide +kernel⟩, lw_t2 (List.mem_of_getElem? (i := 220) rfl), lw_t3 (List.mem_of_getElem? (i := 159) rfl), lw_t3 (List.mem_of_getElem? (i := 160) rfl)⟩
theorem lw_p19 : lw_okq (⟨"ThreeSnowballs$Reader", "wrong", "()LThreeSnowballs$Node;"⟩, 4) := ⟨⟨by decide +kernel, by decide +kernel⟩, lw_t2 (List.mem_of_getElem? (i := 220) rfl), lw_t3 (List.mem_of_getElem? (i := 163) rfl), lw_t3 (List.mem_of_getElem? (i := 164) rfl)⟩
theorem lw_p20 : lw_okq (⟨"ThreeSnowballs$Reader", "joined", "(ILThreeSnowballs$Node;LThreeSnowballs$Node;)LThreeSnowballs$Node;"⟩, 4) := ⟨⟨by decide +kernel, by decide +kernel⟩, lw_t2 (List.mem_of_getElem? (i := 220) rfl), lw_t3 (List.mem_of_getElem? (i := 199) rfl), lw_t3 (List.mem_of_getElem? (i := 200) rfl)⟩
theorem lw_p21 : lw_okq (⟨"ThreeSnowballs", "findEnds", "()V"⟩, 38) := ⟨⟨by decide +kernel, by decide +kernel⟩, lw_t1 (List.mem_of_getElem? (i := 46) rfl), lw_t3 (List.mem_of_getElem? (i := 226) rfl), lw_t3 (List.mem_of_getElem? (i := 227) rfl)⟩
theorem lw_p22 : lw_okq (⟨"ThreeSnowballs", "findValues", "()V"⟩, 38) := ⟨⟨by decide +kernel, by decide +kernel⟩, lw_t1 (List.mem_of_getElem? (i := 46) rfl), lw_t3 (List.mem_of_getElem? (i := 230) rfl), lw_t3 (List.mem_of_getElem? (i := 231) rfl)⟩
theorem lw_p23 : lw_okq (⟨"ThreeSnowballs", "isOver", "(II)Z"⟩, 38) := ⟨⟨by decide +kernel, by decide +kernel⟩, lw_t1 (List.mem_of_getElem? (i := 46) rfl), lw_t3 (List.mem_of_getElem? (i := 234) rfl), lw_t3 (List.mem_of_getElem? (i := 235) rfl)⟩
theorem lw_p24 : lw_okq (⟨"ThreeSnowballs", "aimOf", "(III)I"⟩, 38) := ⟨⟨by decide +kernel, by decide +kernel⟩, lw_t1 (List.mem_of_getElem? (i := 46) rfl), lw_t4 (List.mem_of_getElem? (i := 4) rfl), lw_t4 (List.mem_of_getElem? (i := 5) rfl)⟩
theorem lw_p25 : lw_okq (⟨"ThreeSnowballs", "byHits", "(III)I"⟩, 38) := ⟨⟨by decide +kernel, by decide +kernel⟩, lw_t1 (List.mem_of_getElem? (i := 46) rfl), lw_t4 (List.mem_of_getElem? (i := 8) rfl), lw_t4 (List.mem_of_getElem? (i := 9) rfl)⟩
theorem lw_p26 : lw_okq (⟨"ThreeSnowballs", "nextPlace", "(II)I"⟩, 38) := ⟨⟨by decide +kernel, by decide +kernel⟩, lw_t1 (List.mem_of_getElem? (i := 46) rfl), lw_t4 (List.mem_of_getElem? (i := 12) rfl), lw_t4 (List.mem_of_getElem? (i := 13) rfl)⟩
theorem lw_p27 : lw_okq (⟨"ThreeSnowballs", "bestAim", "(III)I"⟩, 38) := ⟨⟨by decide +kernel, by decide +kernel⟩, lw_t1 (List.mem_of_getElem? (i := 46) rfl), lw_t4 (List.mem_of_getElem? (i := 16) rfl), lw_t4 (List.mem_of_getElem? (i := 17) rfl)⟩
theorem lw_p28 : lw_okq (⟨"ThreeSnowballs", "throwing", "(IIIII)J"⟩, 38) := ⟨⟨by decide +kernel, by decide +kernel⟩, lw_t1 (List.mem_of_getElem? (i := 46) rfl), lw_t4 (List.mem_of_getElem? (i := 20) rfl), lw_t4 (List.mem_of_getElem? (i := 21) rfl)⟩
theorem lw_p29 : lw_okq (⟨"ThreeSnowballs", "valueAt", "(IIII)J"⟩, 38) := ⟨⟨by decide +kernel, by decide +kernel⟩, lw_t1 (List.mem_of_getElem? (i := 46) rfl), lw_t4 (List.mem_of_getElem? (i := 24) rfl), lw_t4 (List.mem_of_getElem? (i := 25) rfl)⟩
theorem lw_p30 : lw_okq (⟨"ThreeSnowballs", "ends", "(II)J"⟩, 38) := ⟨⟨by decide +kernel, by decide +kernel⟩, lw_t1 (List.mem_of_getElem? (i := 46) rfl), lw_t4 (List.mem_of_getElem? (i := 28) rfl), lw_t4 (List.mem_of_getElem? (i := 29) rfl)⟩
theorem lw_p31 : lw_okq (⟨"ThreeSnowballs", "hitsOf", "(IIII)I"⟩, 38) := ⟨⟨by decide +kernel, by decide +kernel⟩, lw_t1 (List.mem_of_getElem? (i := 46) rfl), lw_t4 (List.mem_of_getElem? (i := 35) rfl), lw_t4 (List.mem_of_getElem? (i := 36) rfl)⟩
def lw_privs_2 : List (MethodName × Nat) := [(⟨"ThreeSnowballs$Reader", "here", "()I"⟩, 4), (⟨"ThreeSnowballs$Reader", "isOne", "(Ljava/lang/String;)Z"⟩, 4), (⟨"ThreeSnowballs$Reader", "opens", "()Z"⟩, 4), (⟨"ThreeSnowballs$Reader", "wrong", "()LThreeSnowballs$Node;"⟩, 4), (⟨"ThreeSnowballs$Reader", "joined", "(ILThreeSnowballs$Node;LThreeSnowballs$Node;)LThreeSnowballs$Node;"⟩, 4), (⟨"ThreeSnowballs", "findEnds", "()V"⟩, 38), (⟨"ThreeSnowballs", "findValues", "()V"⟩, 38), (⟨"ThreeSnowballs", "isOver", "(II)Z"⟩, 38), (⟨"ThreeSnowballs", "aimOf", "(III)I"⟩, 38), (⟨"ThreeSnowballs", "byHits", "(III)I"⟩, 38), (⟨"ThreeSnowballs", "nextPlace", "(II)I"⟩, 38), (⟨"ThreeSnowballs", "bestAim", "(III)I"⟩, 38), (⟨"ThreeSnowballs", "throwing", "(IIIII)J"⟩, 38), (⟨"ThreeSnowballs", "valueAt", "(IIII)J"⟩, 38), (⟨"ThreeSnowballs", "ends", "(II)J"⟩, 38), (⟨"ThreeSnowballs", "hitsOf", "(IIII)I"⟩, 38)]
theorem lw_r2 : ∀ q ∈ lw_privs_2, lw_okq q := List.forall_mem_cons.mpr ⟨lw_p16, List.forall_mem_cons.mpr ⟨lw_p17, List.forall_mem_cons.mpr ⟨lw_p18, List.forall_mem_cons.mpr ⟨lw_p19, List.forall_mem_cons.mpr ⟨lw_p20, List.forall_mem_cons.mpr ⟨lw_p21, List.forall_mem_cons.mpr ⟨lw_p22, List.forall_mem_cons.mpr ⟨lw_p23, List.forall_mem_cons.mpr ⟨lw_p24, List.forall_mem_cons.mpr ⟨lw_p25, List.forall_mem_cons.mpr ⟨lw_p26, List.forall_mem_cons.mpr ⟨lw_p27, List.forall_mem_cons.mpr ⟨lw_p28, List.forall_mem_cons.mpr ⟨lw_p29, List.forall_mem_cons.mpr ⟨lw_p30, List.forall_mem_cons.mpr ⟨lw_p31, fun _ h => absurd h List.not_mem_nil⟩⟩⟩⟩⟩⟩⟩⟩⟩⟩⟩⟩⟩⟩⟩⟩
theorem lw_p32 : lw_okq (⟨"ThreeSnowballs", "gives", "()I"⟩, 38) := ⟨⟨by decide +kernel, by decide +kernel⟩, lw_t1 (List.mem_of_getElem? (i := 46) rfl), lw_t4 (List.mem_of_getElem? (i := 43) rfl), lw_t4 (List.mem_of_getElem? (i := 44) rfl)⟩
theorem lw_p33 : lw_okq (⟨"ThreeSnowballs", "reach", "(IIIJ)V"⟩, 38) := ⟨⟨by decide +kernel, by decide +kernel⟩, lw_t1 (List.mem_of_getElem? (i := 46) rfl), lw_t4 (List.mem_of_getElem? (i := 73) rfl), lw_t4 (List.mem_of_getElem? (i := 74) rfl)⟩
theorem lw_p34 : lw_okq (⟨"ThreeSnowballs", "worthOf", "(I)J"⟩, 38) := ⟨⟨by decide +kernel, by decide +kernel⟩, lw_t1 (List.mem_of_getElem? (i := 46) rfl), lw_t4 (List.mem_of_getElem? (i := 77) rfl), lw_t4 (List.mem_of_getElem? (i := 78) rfl)⟩
theorem lw_p35 : lw_okq (⟨"ThreeSnowballs", "leftOf", "(IZ)J"⟩, 38) := ⟨⟨by decide +kernel, by decide +kernel⟩, lw_t1 (List.mem_of_getElem? (i := 46) rfl), lw_t4 (List.mem_of_getElem? (i := 81) rfl), lw_t4 (List.mem_of_getElem? (i := 82) rfl)⟩
theorem lw_p36 : lw_okq (⟨"ThreeSnowballs", "isSet", "(I)Z"⟩, 38) := ⟨⟨by decide +kernel, by decide +kernel⟩, lw_t1 (List.mem_of_getElem? (i := 46) rfl), lw_t4 (List.mem_of_getElem? (i := 95) rfl), lw_t4 (List.mem_of_getElem? (i := 96) rfl)⟩
theorem lw_p37 : lw_okq (⟨"ThreeSnowballs", "apart", "(I)J"⟩, 38) := ⟨⟨by decide +kernel, by decide +kernel⟩, lw_t1 (List.mem_of_getElem? (i := 46) rfl), lw_t4 (List.mem_of_getElem? (i := 111) rfl), lw_t4 (List.mem_of_getElem? (i := 112) rfl)⟩
theorem lw_p38 : lw_okq (⟨"ThreeSnowballs", "wouldOf", "(I)I"⟩, 38) := ⟨⟨by decide +kernel, by decide +kernel⟩, lw_t1 (List.mem_of_getElem? (i := 46) rfl), lw_t4 (List.mem_of_getElem? (i := 126) rfl), lw_t4 (List.mem_of_getElem? (i := 127) rfl)⟩
theorem lw_p39 : lw_okq (⟨"ThreeSnowballs", "restless", "()I"⟩, 38) := ⟨⟨by decide +kernel, by decide +kernel⟩, lw_t1 (List.mem_of_getElem? (i := 46) rfl), lw_t4 (List.mem_of_getElem? (i := 134) rfl), lw_t4 (List.mem_of_getElem? (i := 135) rfl)⟩
theorem lw_p40 : lw_okq (⟨"ThreeSnowballs", "better", "(II)I"⟩, 38) := ⟨⟨by decide +kernel, by decide +kernel⟩, lw_t1 (List.mem_of_getElem? (i := 46) rfl), lw_t4 (List.mem_of_getElem? (i := 154) rfl), lw_t4 (List.mem_of_getElem? (i := 155) rfl)⟩
theorem lw_p41 : lw_okq (⟨"ThreeSnowballs", "firstPlace", "(I)I"⟩, 38) := ⟨⟨by decide +kernel, by decide +kernel⟩, lw_t1 (List.mem_of_getElem? (i := 46) rfl), lw_t4 (List.mem_of_getElem? (i := 158) rfl), lw_t4 (List.mem_of_getElem? (i := 159) rfl)⟩
theorem lw_p42 : lw_okq (⟨"ThreeSnowballs", "goThrough", "(LThreeSnowballs$ByteRow;)V"⟩, 38) := ⟨⟨by decide +kernel, by decide +kernel⟩, lw_t1 (List.mem_of_getElem? (i := 46) rfl), lw_t4 (List.mem_of_getElem? (i := 174) rfl), lw_t4 (List.mem_of_getElem? (i := 175) rfl)⟩
theorem lw_p43 : lw_okq (⟨"ThreeSnowballs", "goes", "(II)Z"⟩, 38) := ⟨⟨by decide +kernel, by decide +kernel⟩, lw_t1 (List.mem_of_getElem? (i := 46) rfl), lw_t4 (List.mem_of_getElem? (i := 178) rfl), lw_t4 (List.mem_of_getElem? (i := 179) rfl)⟩
theorem lw_p44 : lw_okq (⟨"ThreeSnowballs", "goTo", "(II)V"⟩, 38) := ⟨⟨by decide +kernel, by decide +kernel⟩, lw_t1 (List.mem_of_getElem? (i := 46) rfl), lw_t4 (List.mem_of_getElem? (i := 182) rfl), lw_t4 (List.mem_of_getElem? (i := 183) rfl)⟩
theorem lw_p45 : lw_okq (⟨"ThreeSnowballs", "made", "(I)LThreeSnowballs$Thrower;"⟩, 38) := ⟨⟨by decide +kernel, by decide +kernel⟩, lw_t1 (List.mem_of_getElem? (i := 46) rfl), lw_t4 (List.mem_of_getElem? (i := 222) rfl), lw_t4 (List.mem_of_getElem? (i := 223) rfl)⟩
theorem lw_p46 : lw_okq (⟨"ThreeSnowballs", "isBody", "(I)Z"⟩, 38) := ⟨⟨by decide +kernel, by decide +kernel⟩, lw_t1 (List.mem_of_getElem? (i := 46) rfl), lw_t5 (List.mem_of_getElem? (i := 95) rfl), lw_t5 (List.mem_of_getElem? (i := 96) rfl)⟩
theorem lw_p47 : lw_okq (⟨"ThreeSnowballs", "ran", "(I)V"⟩, 38) := ⟨⟨by decide +kernel, by decide +kernel⟩, lw_t1 (List.mem_of_getElem? (i := 46) rfl), lw_t5 (List.mem_of_getElem? (i := 109) rfl), lw_t5 (List.mem_of_getElem? (i := 110) rfl)⟩
def lw_privs_3 : List (MethodName × Nat) := [(⟨"ThreeSnowballs", "gives", "()I"⟩, 38), (⟨"ThreeSnowballs", "reach", "(IIIJ)V"⟩, 38), (⟨"ThreeSnowballs", "worthOf", "(I)J"⟩, 38), (⟨"ThreeSnowballs", "leftOf", "(IZ)J"⟩, 38), (⟨"ThreeSnowballs", "isSet", "(I)Z"⟩, 38), (⟨"ThreeSnowballs", "apart", "(I)J"⟩, 38), (⟨"ThreeSnowballs", "wouldOf", "(I)I"⟩, 38), (⟨"ThreeSnowballs", "restless", "()I"⟩, 38), (⟨"ThreeSnowballs", "better", "(II)I"⟩, 38), (⟨"ThreeSnowballs", "firstPlace", "(I)I"⟩, 38), (⟨"ThreeSnowballs", "goThrough", "(LThreeSnowballs$ByteRow;)V"⟩, 38), (⟨"ThreeSnowballs", "goes", "(II)Z"⟩, 38), (⟨"ThreeSnowballs", "goTo", "(II)V"⟩, 38), (⟨"ThreeSnowballs", "made", "(I)LThreeSnowballs$Thrower;"⟩, 38), (⟨"ThreeSnowballs", "isBody", "(I)Z"⟩, 38), (⟨"ThreeSnowballs", "ran", "(I)V"⟩, 38)]
theorem lw_r3 : ∀ q ∈ lw_privs_3, lw_okq q := List.forall_mem_cons.mpr ⟨lw_p32, List.forall_mem_cons.mpr ⟨lw_p33, List.forall_mem_cons.mpr ⟨lw_p34, List.forall_mem_cons.mpr ⟨lw_p35, List.forall_mem_cons.mpr ⟨lw_p36, List.forall_mem_cons.mpr ⟨lw_p37, List.forall_mem_cons.mpr ⟨lw_p38, List.forall_mem_cons.mpr ⟨lw_p39, List.forall_mem_cons.mpr ⟨lw_p40, List.forall_mem_cons.mpr ⟨lw_p41, List.forall_mem_cons.mpr ⟨lw_p42, List.forall_mem_cons.mpr ⟨lw_p43, List.forall_mem_cons.mpr ⟨lw_p44, List.forall_mem_cons.mpr ⟨lw_p45, List.forall_mem_cons.mpr ⟨lw_p46, List.forall_mem_cons.mpr ⟨lw_p47, fun _ h => absurd h List.not_mem_nil⟩⟩⟩⟩⟩⟩⟩⟩⟩⟩⟩⟩⟩⟩⟩⟩
theorem lw_p48 : lw_okq (⟨"ThreeSnowballsModel", "adds", "(II)V"⟩, 50) := ⟨⟨by decide +kernel, by decide +kernel⟩, lw_t6 (List.mem_of_getElem? (i := 217) rfl), lw_t7 (List.mem_of_getElem? (i := 154) rfl), lw_t7 (List.mem_of_getElem? (i := 155) rfl)⟩
theorem lw_p49 : lw_okq (⟨"ThreeSnowballsModel", "startsAnew", "()V"⟩, 50) := ⟨⟨by decide +kernel, by decide +kernel⟩, lw_t6 (List.mem_of_getElem? (i := 217) rfl), lw_t7 (List.mem_of_getElem? (i := 158) rfl), lw_t7 (List.mem_of_getElem? (i := 159) rfl)⟩
theorem lw_p50 : lw_okq (⟨"ThreeSnowballsModel", "all", "()I"⟩, 50) := ⟨⟨by decide +kernel, by decide +kernel⟩, lw_t6 (List.mem_of_getElem? (i := 217) rfl), lw_t7 (List.mem_of_getElem? (i := 162) rfl), lw_t7 (List.mem_of_getElem? (i := 163) rfl)⟩
theorem lw_p51 : lw_okq (⟨"ThreeSnowballsModel", "isPlayer", "(I)Z"⟩, 50) := ⟨⟨by decide +kernel, by decide +kernel⟩, lw_t6 (List.mem_of_getElem? (i := 217) rfl), lw_t7 (List.mem_of_getElem? (i := 178) rfl), lw_t7 (List.mem_of_getElem? (i := 179) rfl)⟩
theorem lw_p52 : lw_okq (⟨"ThreeSnowballsModel", "becomes", "(II)I"⟩, 50) := ⟨⟨by decide +kernel, by decide +kernel⟩, lw_t6 (List.mem_of_getElem? (i := 217) rfl), lw_t7 (List.mem_of_getElem? (i := 182) rfl), lw_t7 (List.mem_of_getElem? (i := 183) rfl)⟩
theorem lw_p53 : lw_okq (⟨"ThreeSnowballsModel", "workOut", "(II)I"⟩, 50) := ⟨⟨by decide +kernel, by decide +kernel⟩, lw_t6 (List.mem_of_getElem? (i := 217) rfl), lw_t7 (List.mem_of_getElem? (i := 216) rfl), lw_t7 (List.mem_of_getElem? (i := 217) rfl)⟩
theorem lw_p54 : lw_okq (⟨"ThreeSnowballsModel", "either", "()I"⟩, 50) := ⟨⟨by decide +kernel, by decide +kernel⟩, lw_t6 (List.mem_of_getElem? (i := 217) rfl), lw_t7 (List.mem_of_getElem? (i := 220) rfl), lw_t7 (List.mem_of_getElem? (i := 221) rfl)⟩
theorem lw_p55 : lw_okq (⟨"ThreeSnowballsModel", "both", "()I"⟩, 50) := ⟨⟨by decide +kernel, by decide +kernel⟩, lw_t6 (List.mem_of_getElem? (i := 217) rfl), lw_t7 (List.mem_of_getElem? (i := 224) rfl), lw_t7 (List.mem_of_getElem? (i := 225) rfl)⟩
theorem lw_p56 : lw_okq (⟨"ThreeSnowballsModel", "compared", "()I"⟩, 50) := ⟨⟨by decide +kernel, by decide +kernel⟩, lw_t6 (List.mem_of_getElem? (i := 217) rfl), lw_t7 (List.mem_of_getElem? (i := 228) rfl), lw_t7 (List.mem_of_getElem? (i := 229) rfl)⟩
theorem lw_p57 : lw_okq (⟨"ThreeSnowballsModel", "sums", "()I"⟩, 50) := ⟨⟨by decide +kernel, by decide +kernel⟩, lw_t6 (List.mem_of_getElem? (i := 217) rfl), lw_t7 (List.mem_of_getElem? (i := 232) rfl), lw_t7 (List.mem_of_getElem? (i := 233) rfl)⟩
theorem lw_p58 : lw_okq (⟨"ThreeSnowballsModel", "product", "()I"⟩, 50) := ⟨⟨by decide +kernel, by decide +kernel⟩, lw_t6 (List.mem_of_getElem? (i := 217) rfl), lw_t7 (List.mem_of_getElem? (i := 236) rfl), lw_t7 (List.mem_of_getElem? (i := 237) rfl)⟩
theorem lw_p59 : lw_okq (⟨"ThreeSnowballsModel", "one", "()I"⟩, 50) := ⟨⟨by decide +kernel, by decide +kernel⟩, lw_t6 (List.mem_of_getElem? (i := 217) rfl), lw_t8 (List.mem_of_getElem? (i := 0) rfl), lw_t8 (List.mem_of_getElem? (i := 1) rfl)⟩
theorem lw_p60 : lw_okq (⟨"ThreeSnowballsModel", "byteAt", "()I"⟩, 50) := ⟨⟨by decide +kernel, by decide +kernel⟩, lw_t6 (List.mem_of_getElem? (i := 217) rfl), lw_t8 (List.mem_of_getElem? (i := 4) rfl), lw_t8 (List.mem_of_getElem? (i := 5) rfl)⟩
theorem lw_p61 : lw_okq (⟨"ThreeSnowballsModel", "wrong", "()I"⟩, 50) := ⟨⟨by decide +kernel, by decide +kernel⟩, lw_t6 (List.mem_of_getElem? (i := 217) rfl), lw_t8 (List.mem_of_getElem? (i := 8) rfl), lw_t8 (List.mem_of_getElem? (i := 9) rfl)⟩
theorem lw_p62 : lw_okq (⟨"ThreeSnowballsModel", "takes", "(I)Z"⟩, 50) := ⟨⟨by decide +kernel, by decide +kernel⟩, lw_t6 (List.mem_of_getElem? (i := 217) rfl), lw_t8 (List.mem_of_getElem? (i := 12) rfl), lw_t8 (List.mem_of_getElem? (i := 13) rfl)⟩
theorem lw_p63 : lw_okq (⟨"ThreeSnowballsModel", "worthOf", "(I)J"⟩, 50) := ⟨⟨by decide +kernel, by decide +kernel⟩, lw_t6 (List.mem_of_getElem? (i := 217) rfl), lw_t8 (List.mem_of_getElem? (i := 25) rfl), lw_t8 (List.mem_of_getElem? (i := 26) rfl)⟩
def lw_privs_4 : List (MethodName × Nat) := [(⟨"ThreeSnowballsModel", "adds", "(II)V"⟩, 50), (⟨"ThreeSnowballsModel", "startsAnew", "()V"⟩, 50), (⟨"ThreeSnowballsModel", "all", "()I"⟩, 50), (⟨"ThreeSnowballsModel", "isPlayer", "(I)Z"⟩, 50), (⟨"ThreeSnowballsModel", "becomes", "(II)I"⟩, 50), (⟨"ThreeSnowballsModel", "workOut", "(II)I"⟩, 50), (⟨"ThreeSnowballsModel", "either", "()I"⟩, 50), (⟨"ThreeSnowballsModel", "both", "()I"⟩, 50), (⟨"ThreeSnowballsModel", "compared", "()I"⟩, 50), (⟨"ThreeSnowballsModel", "sums", "()I"⟩, 50), (⟨"ThreeSnowballsModel", "product", "()I"⟩, 50), (⟨"ThreeSnowballsModel", "one", "()I"⟩, 50), (⟨"ThreeSnowballsModel", "byteAt", "()I"⟩, 50), (⟨"ThreeSnowballsModel", "wrong", "()I"⟩, 50), (⟨"ThreeSnowballsModel", "takes", "(I)Z"⟩, 50), (⟨"ThreeSnowballsModel", "worthOf", "(I)J"⟩, 50)]
theorem lw_r4 : ∀ q ∈ lw_privs_4, lw_okq q := List.forall_mem_cons.mpr ⟨lw_p48, List.forall_mem_cons.mpr ⟨lw_p49, List.forall_mem_cons.mpr ⟨lw_p50, List.forall_mem_cons.mpr ⟨lw_p51, List.forall_mem_cons.mpr ⟨lw_p52, List.forall_mem_cons.mpr ⟨lw_p53, List.forall_mem_cons.mpr ⟨lw_p54, List.forall_mem_cons.mpr ⟨lw_p55, List.forall_mem_cons.mpr ⟨lw_p56, List.forall_mem_cons.mpr ⟨lw_p57, List.forall_mem_cons.mpr ⟨lw_p58, List.forall_mem_cons.mpr ⟨lw_p59, List.forall_mem_cons.mpr ⟨lw_p60, List.forall_mem_cons.mpr ⟨lw_p61, List.forall_mem_cons.mpr ⟨lw_p62, List.forall_mem_cons.mpr ⟨lw_p63, fun _ h => absurd h List.not_mem_nil⟩⟩⟩⟩⟩⟩⟩⟩⟩⟩⟩⟩⟩⟩⟩⟩
theorem lw_p64 : lw_okq (⟨"ThreeSnowballsModel", "solves", "()V"⟩, 50) := ⟨⟨by decide +kernel, by decide +kernel⟩, lw_t6 (List.mem_of_getElem? (i := 217) rfl), lw_t8 (List.mem_of_getElem? (i := 29) rfl), lw_t8 (List.mem_of_getElem? (i := 30) rfl)⟩
theorem lw_p65 : lw_okq (⟨"ThreeSnowballsModel", "isOver", "(II)Z"⟩, 50) := ⟨⟨by decide +kernel, by decide +kernel⟩, lw_t6 (List.mem_of_getElem? (i := 217) rfl), lw_t8 (List.mem_of_getElem? (i := 33) rfl), lw_t8 (List.mem_of_getElem? (i := 34) rfl)⟩
theorem lw_p66 : lw_okq (⟨"ThreeSnowballsModel", "ends1", "(III)V"⟩, 50) := ⟨⟨by decide +kernel, by decide +kernel⟩, lw_t6 (List.mem_of_getElem? (i := 217) rfl), lw_t8 (List.mem_of_getElem? (i := 40) rfl), lw_t8 (List.mem_of_getElem? (i := 41) rfl)⟩
theorem lw_p67 : lw_okq (⟨"ThreeSnowballsModel", "settles", "(III)V"⟩, 50) := ⟨⟨by decide +kernel, by decide +kernel⟩, lw_t6 (List.mem_of_getElem? (i := 217) rfl), lw_t8 (List.mem_of_getElem? (i := 47) rfl), lw_t8 (List.mem_of_getElem? (i := 48) rfl)⟩
theorem lw_p68 : lw_okq (⟨"ThreeSnowballsModel", "plainAim", "(II)I"⟩, 50) := ⟨⟨by decide +kernel, by decide +kernel⟩, lw_t6 (List.mem_of_getElem? (i := 217) rfl), lw_t8 (List.mem_of_getElem? (i := 51) rfl), lw_t8 (List.mem_of_getElem? (i := 52) rfl)⟩
theorem lw_p69 : lw_okq (⟨"ThreeSnowballsModel", "byHits", "(IIZ)I"⟩, 50) := ⟨⟨by decide +kernel, by decide +kernel⟩, lw_t6 (List.mem_of_getElem? (i := 217) rfl), lw_t8 (List.mem_of_getElem? (i := 55) rfl), lw_t8 (List.mem_of_getElem? (i := 56) rfl)⟩
theorem lw_p70 : lw_okq (⟨"ThreeSnowballsModel", "nextOf", "(II)I"⟩, 50) := ⟨⟨by decide +kernel, by decide +kernel⟩, lw_t6 (List.mem_of_getElem? (i := 217) rfl), lw_t8 (List.mem_of_getElem? (i := 59) rfl), lw_t8 (List.mem_of_getElem? (i := 60) rfl)⟩
theorem lw_p71 : lw_okq (⟨"ThreeSnowballsModel", "worthBy", "(IIIII)V"⟩, 50) := ⟨⟨by decide +kernel, by decide +kernel⟩, lw_t6 (List.mem_of_getElem? (i := 217) rfl), lw_t8 (List.mem_of_getElem? (i := 63) rfl), lw_t8 (List.mem_of_getElem? (i := 64) rfl)⟩
theorem lw_p72 : lw_okq (⟨"ThreeSnowballsModel", "hitsAt", "(IIII)I"⟩, 50) := ⟨⟨by decide +kernel, by decide +kernel⟩, lw_t6 (List.mem_of_getElem? (i := 217) rfl), lw_t8 (List.mem_of_getElem? (i := 67) rfl), lw_t8 (List.mem_of_getElem? (i := 68) rfl)⟩
theorem lw_p73 : lw_okq (⟨"ThreeSnowballsModel", "hitsOf", "(IIII)I"⟩, 50) := ⟨⟨by decide +kernel, by decide +kernel⟩, lw_t6 (List.mem_of_getElem? (i := 217) rfl), lw_t8 (List.mem_of_getElem? (i := 71) rfl), lw_t8 (List.mem_of_getElem? (i := 72) rfl)⟩
theorem lw_p74 : lw_okq (⟨"ThreeSnowballsModel", "worthFrom", "(III)J"⟩, 50) := ⟨⟨by decide +kernel, by decide +kernel⟩, lw_t6 (List.mem_of_getElem? (i := 217) rfl), lw_t8 (List.mem_of_getElem? (i := 75) rfl), lw_t8 (List.mem_of_getElem? (i := 76) rfl)⟩
theorem lw_p75 : lw_okq (⟨"ThreeSnowballsModel", "startOf", "(II)I"⟩, 50) := ⟨⟨by decide +kernel, by decide +kernel⟩, lw_t6 (List.mem_of_getElem? (i := 217) rfl), lw_t8 (List.mem_of_getElem? (i := 79) rfl), lw_t8 (List.mem_of_getElem? (i := 80) rfl)⟩
theorem lw_p76 : lw_okq (⟨"ThreeSnowballsModel", "valueOf", "(II)J"⟩, 50) := ⟨⟨by decide +kernel, by decide +kernel⟩, lw_t6 (List.mem_of_getElem? (i := 217) rfl), lw_t8 (List.mem_of_getElem? (i := 83) rfl), lw_t8 (List.mem_of_getElem? (i := 84) rfl)⟩
theorem lw_p77 : lw_okq (⟨"ThreeSnowballsModel", "atEnd", "(IIII)J"⟩, 50) := ⟨⟨by decide +kernel, by decide +kernel⟩, lw_t6 (List.mem_of_getElem? (i := 217) rfl), lw_t8 (List.mem_of_getElem? (i := 87) rfl), lw_t8 (List.mem_of_getElem? (i := 88) rfl)⟩
theorem lw_p78 : lw_okq (⟨"ThreeSnowballsModel", "partOf", "(JI)J"⟩, 50) := ⟨⟨by decide +kernel, by decide +kernel⟩, lw_t6 (List.mem_of_getElem? (i := 217) rfl), lw_t8 (List.mem_of_getElem? (i := 91) rfl), lw_t8 (List.mem_of_getElem? (i := 92) rfl)⟩
theorem lw_p79 : lw_okq (⟨"ThreeSnowballsModel", "wouldOf", "(I)I"⟩, 50) := ⟨⟨by decide +kernel, by decide +kernel⟩, lw_t6 (List.mem_of_getElem? (i := 217) rfl), lw_t8 (List.mem_of_getElem? (i := 119) rfl), lw_t8 (List.mem_of_getElem? (i := 120) rfl)⟩
def lw_privs_5 : List (MethodName × Nat) := [(⟨"ThreeSnowballsModel", "solves", "()V"⟩, 50), (⟨"ThreeSnowballsModel", "isOver", "(II)Z"⟩, 50), (⟨"ThreeSnowballsModel", "ends1", "(III)V"⟩, 50), (⟨"ThreeSnowballsModel", "settles", "(III)V"⟩, 50), (⟨"ThreeSnowballsModel", "plainAim", "(II)I"⟩, 50), (⟨"ThreeSnowballsModel", "byHits", "(IIZ)I"⟩, 50), (⟨"ThreeSnowballsModel", "nextOf", "(II)I"⟩, 50), (⟨"ThreeSnowballsModel", "worthBy", "(IIIII)V"⟩, 50), (⟨"ThreeSnowballsModel", "hitsAt", "(IIII)I"⟩, 50), (⟨"ThreeSnowballsModel", "hitsOf", "(IIII)I"⟩, 50), (⟨"ThreeSnowballsModel", "worthFrom", "(III)J"⟩, 50), (⟨"ThreeSnowballsModel", "startOf", "(II)I"⟩, 50), (⟨"ThreeSnowballsModel", "valueOf", "(II)J"⟩, 50), (⟨"ThreeSnowballsModel", "atEnd", "(IIII)J"⟩, 50), (⟨"ThreeSnowballsModel", "partOf", "(JI)J"⟩, 50), (⟨"ThreeSnowballsModel", "wouldOf", "(I)I"⟩, 50)]
theorem lw_r5 : ∀ q ∈ lw_privs_5, lw_okq q := List.forall_mem_cons.mpr ⟨lw_p64, List.forall_mem_cons.mpr ⟨lw_p65, List.forall_mem_cons.mpr ⟨lw_p66, List.forall_mem_cons.mpr ⟨lw_p67, List.forall_mem_cons.mpr ⟨lw_p68, List.forall_mem_cons.mpr ⟨lw_p69, List.forall_mem_cons.mpr ⟨lw_p70, List.forall_mem_cons.mpr ⟨lw_p71, List.forall_mem_cons.mpr ⟨lw_p72, List.forall_mem_cons.mpr ⟨lw_p73, List.forall_mem_cons.mpr ⟨lw_p74, List.forall_mem_cons.mpr ⟨lw_p75, List.forall_mem_cons.mpr ⟨lw_p76, List.forall_mem_cons.mpr ⟨lw_p77, List.forall_mem_cons.mpr ⟨lw_p78, List.forall_mem_cons.mpr ⟨lw_p79, fun _ h => absurd h List.not_mem_nil⟩⟩⟩⟩⟩⟩⟩⟩⟩⟩⟩⟩⟩⟩⟩⟩
theorem lw_p80 : lw_okq (⟨"ThreeSnowballsModel", "leagueOf", "(II)I"⟩, 50) := ⟨⟨by decide +kernel, by decide +kernel⟩, lw_t6 (List.mem_of_getElem? (i := 217) rfl), lw_t8 (List.mem_of_getElem? (i := 140) rfl), lw_t8 (List.mem_of_getElem? (i := 141) rfl)⟩
theorem lw_p81 : lw_okq (⟨"ThreeSnowballsModel", "looksAt", "(I)V"⟩, 50) := ⟨⟨by decide +kernel, by decide +kernel⟩, lw_t6 (List.mem_of_getElem? (i := 217) rfl), lw_t8 (List.mem_of_getElem? (i := 152) rfl), lw_t8 (List.mem_of_getElem? (i := 153) rfl)⟩
theorem lw_p82 : lw_okq (⟨"ThreeSnowballsModel", "mayThrow", "(IIIJJ)Z"⟩, 50) := ⟨⟨by decide +kernel, by decide +kernel⟩, lw_t6 (List.mem_of_getElem? (i := 217) rfl), lw_t8 (List.mem_of_getElem? (i := 156) rfl), lw_t8 (List.mem_of_getElem? (i := 157) rfl)⟩
theorem lw_p83 : lw_okq (⟨"ThreeSnowballsModel", "isBody", "(I)Z"⟩, 50) := ⟨⟨by decide +kernel, by decide +kernel⟩, lw_t6 (List.mem_of_getElem? (i := 217) rfl), lw_t8 (List.mem_of_getElem? (i := 200) rfl), lw_t8 (List.mem_of_getElem? (i := 201) rfl)⟩
theorem lw_p84 : lw_okq (⟨"ThreeSnowballsModel", "aimsAs", "(II)I"⟩, 50) := ⟨⟨by decide +kernel, by decide +kernel⟩, lw_t6 (List.mem_of_getElem? (i := 217) rfl), lw_t8 (List.mem_of_getElem? (i := 204) rfl), lw_t8 (List.mem_of_getElem? (i := 205) rfl)⟩
theorem lw_p85 : lw_okq (⟨"ThreeSnowballsModel", "begins", "(I)V"⟩, 50) := ⟨⟨by decide +kernel, by decide +kernel⟩, lw_t6 (List.mem_of_getElem? (i := 217) rfl), lw_t8 (List.mem_of_getElem? (i := 208) rfl), lw_t8 (List.mem_of_getElem? (i := 209) rfl)⟩
theorem lw_p86 : lw_okq (⟨"ThreeSnowballsModel", "throwsAs", "(II)I"⟩, 50) := ⟨⟨by decide +kernel, by decide +kernel⟩, lw_t6 (List.mem_of_getElem? (i := 217) rfl), lw_t8 (List.mem_of_getElem? (i := 212) rfl), lw_t8 (List.mem_of_getElem? (i := 213) rfl)⟩
theorem lw_p87 : lw_okq (⟨"ThreeSnowballsModel", "hitsAs", "(II)I"⟩, 50) := ⟨⟨by decide +kernel, by decide +kernel⟩, lw_t6 (List.mem_of_getElem? (i := 217) rfl), lw_t8 (List.mem_of_getElem? (i := 216) rfl), lw_t8 (List.mem_of_getElem? (i := 217) rfl)⟩
theorem lw_p88 : lw_okq (⟨"ThreeSnowballsModel", "tellsAs", "(II)I"⟩, 50) := ⟨⟨by decide +kernel, by decide +kernel⟩, lw_t6 (List.mem_of_getElem? (i := 217) rfl), lw_t8 (List.mem_of_getElem? (i := 220) rfl), lw_t8 (List.mem_of_getElem? (i := 221) rfl)⟩
theorem lw_p89 : lw_okq (⟨"ThreeSnowballsModel", "refusal", "(II)I"⟩, 50) := ⟨⟨by decide +kernel, by decide +kernel⟩, lw_t6 (List.mem_of_getElem? (i := 217) rfl), lw_t9 (List.mem_of_getElem? (i := 0) rfl), lw_t9 (List.mem_of_getElem? (i := 1) rfl)⟩
theorem lw_p90 : lw_okq (⟨"ThreeSnowballsModel", "kindOf", "(I)I"⟩, 50) := ⟨⟨by decide +kernel, by decide +kernel⟩, lw_t6 (List.mem_of_getElem? (i := 217) rfl), lw_t9 (List.mem_of_getElem? (i := 19) rfl), lw_t9 (List.mem_of_getElem? (i := 20) rfl)⟩
def lw_privs_6 : List (MethodName × Nat) := [(⟨"ThreeSnowballsModel", "leagueOf", "(II)I"⟩, 50), (⟨"ThreeSnowballsModel", "looksAt", "(I)V"⟩, 50), (⟨"ThreeSnowballsModel", "mayThrow", "(IIIJJ)Z"⟩, 50), (⟨"ThreeSnowballsModel", "isBody", "(I)Z"⟩, 50), (⟨"ThreeSnowballsModel", "aimsAs", "(II)I"⟩, 50), (⟨"ThreeSnowballsModel", "begins", "(I)V"⟩, 50), (⟨"ThreeSnowballsModel", "throwsAs", "(II)I"⟩, 50), (⟨"ThreeSnowballsModel", "hitsAs", "(II)I"⟩, 50), (⟨"ThreeSnowballsModel", "tellsAs", "(II)I"⟩, 50), (⟨"ThreeSnowballsModel", "refusal", "(II)I"⟩, 50), (⟨"ThreeSnowballsModel", "kindOf", "(I)I"⟩, 50)]
theorem lw_r6 : ∀ q ∈ lw_privs_6, lw_okq q := List.forall_mem_cons.mpr ⟨lw_p80, List.forall_mem_cons.mpr ⟨lw_p81, List.forall_mem_cons.mpr ⟨lw_p82, List.forall_mem_cons.mpr ⟨lw_p83, List.forall_mem_cons.mpr ⟨lw_p84, List.forall_mem_cons.mpr ⟨lw_p85, List.forall_mem_cons.mpr ⟨lw_p86, List.forall_mem_cons.mpr ⟨lw_p87, List.forall_mem_cons.mpr ⟨lw_p88, List.forall_mem_cons.mpr ⟨lw_p89, List.forall_mem_cons.mpr ⟨lw_p90, fun _ h => absurd h List.not_mem_nil⟩⟩⟩⟩⟩⟩⟩⟩⟩⟩⟩
def lw_privs : List (MethodName × Nat) := lw_privs_1 ++ (lw_privs_2 ++ (lw_privs_3 ++ (lw_privs_4 ++ (lw_privs_5 ++ (lw_privs_6)))))
def lw_tbl : List Cond := k2_sels lw_privs ++ tables_1
theorem lw_privs_ok : ∀ q ∈ lw_privs, lw_okq q := by
  show ∀ q ∈ lw_privs_1 ++ (lw_privs_2 ++ (lw_privs_3 ++ (lw_privs_4 ++ (lw_privs_5 ++ (lw_privs_6))))), lw_okq q
  exact List.forall_mem_append.mpr ⟨lw_r1, List.forall_mem_append.mpr ⟨lw_r2, List.forall_mem_append.mpr ⟨lw_r3, List.forall_mem_append.mpr ⟨lw_r4, List.forall_mem_append.mpr ⟨lw_r5, lw_r6⟩⟩⟩⟩⟩
-- ===== ONE list of words for every method: the tables' words that hold all through a run =====
def lw_all : List Cond := lw_tbl.filter goodWord
/-- a word of the tables by its place: claim/WORDS.tsv -/
theorem lw_w {w : Cond} (i : Nat) (h : lw_tbl[i]? = some w) (g : goodWord w = true) : w ∈ lw_all := List.mem_filter.mpr ⟨List.mem_of_getElem? h, g⟩
theorem lw_all_tbl {w : Cond} (h : w ∈ lw_all) : w ∈ lw_tbl := (List.mem_filter.mp h).1
theorem lw_self : GoodIn lw_all lw_all := fun w h => ⟨h, good_of_word (List.mem_filter.mp h).2⟩
/-- a class's field words, by their places -/
theorem lw_in (ws : List Cond) (ps : List Nat) (hp : ws = ps.filterMap (fun i => lw_tbl[i]?)) (hg : ws.all goodWord = true) : ∀ w ∈ ws, w ∈ lw_all := by
  intro w h
  have h1 := List.all_eq_true.mp hg w h
  rw [hp] at h
  obtain ⟨i, -, hi⟩ := List.mem_filterMap.mp h
  exact lw_w i hi h1
/-- the words of a contract for the method y with code b, L locals, answer r -/
abbrev ws_ (y : MethodName) (b : ByteArray) (L : Nat) (r : Option FieldType) : List Cond := Cond.code y b L r :: lw_all
theorem lw_meth {y : MethodName} {b : ByteArray} {L : Nat} {r : Option FieldType} (h : Cond.code y b L r ∈ lw_all) : GoodIn lw_all (ws_ y b L r) := by
  intro w hw
  rcases List.mem_cons.mp hw with e | e
  · rw [e]
    exact lw_self _ h
  · exact lw_self _ e
theorem lw_app {a c : List Cond} (ha : ∀ w ∈ a, w ∈ lw_all) (hc : GoodIn lw_all c) : GoodIn lw_all (a ++ c) := by
  intro w hw
  rcases List.mem_append.mp hw with e | e
  · exact lw_self w (ha w e)
  · exact hc w e
/-- what a call through an object asks: cwV n hts (lw_V ..) -/
theorem lw_V {own : String} {idx : Nat} {C : String} {y : MethodName} {b : ByteArray} {L : Nat} {r : Option FieldType} (h1 : Cond.methodLink own idx y ∈ lw_all) (h2 : Cond.instanceMethod y ∈ lw_all) (h3 : Cond.selects C y y ∈ lw_all) (h4 : Cond.initialized C ∈ lw_all) (h5 : Cond.code y b L r ∈ lw_all) : GoodIn lw_all (wsV own idx C y (ws_ y b L r)) := by
  refine lw_app ?_ (lw_meth h5)
  intro w hw
  simp only [List.mem_cons, List.not_mem_nil, or_false] at hw
  rcases hw with e | e | e | e
  · rw [e]; exact h1
  · rw [e]; exact h2
  · rw [e]; exact h3
  · rw [e]; exact h4
/-- what a static call asks: va_cwS n hts (lw_S ..) -/
theorem lw_S {own : String} {idx : Nat} {y : MethodName} {b : ByteArray} {L : Nat} {r : Option FieldType} (h1 : Cond.methodLink own idx y ∈ lw_all) (h2 : Cond.static y ∈ lw_all) (h3 : Cond.initialized y.cls ∈ lw_all) (h4 : Cond.code y b L r ∈ lw_all) : GoodIn lw_all (va_wsS own idx y (ws_ y b L r)) := by
  refine lw_app ?_ (lw_meth h4)
  intro w hw
  simp only [List.mem_cons, List.not_mem_nil, or_false] at hw
  rcases hw with e | e | e
  · rw [e]; exact h1
  · rw [e]; exact h2
  · rw [e]; exact h3
/-- the words of a contract for a method WITH HANDLERS (hh: its table) -/
abbrev wsW_ (y : MethodName) (b : ByteArray) (L : Nat) (r : Option FieldType) (hh : List (Nat × Nat × Nat × Nat)) : List Cond := Cond.codeWith y b L r hh :: lw_all
theorem lw_methW {y : MethodName} {b : ByteArray} {L : Nat} {r : Option FieldType} {hh : List (Nat × Nat × Nat × Nat)} (h : Cond.codeWith y b L r hh ∈ lw_all) : GoodIn lw_all (wsW_ y b L r hh) := by
  intro w hw
  rcases List.mem_cons.mp hw with e | e
  · rw [e]
    exact lw_self _ h
  · exact lw_self _ e
/-- any list of words by their places (lw_in), good -/
theorem lw_good {ws : List Cond} (h : ∀ w ∈ ws, w ∈ lw_all) : GoodIn lw_all ws := fun w hw => lw_self w (h w hw)
/-- what a call of a method with handlers asks: vx_cwVW n hts (lw_VW ..), vx_cwSW n hts (lw_SW ..) -/
theorem lw_VW {own : String} {idx : Nat} {C : String} {y : MethodName} {b : ByteArray} {L : Nat} {r : Option FieldType} {hh : List (Nat × Nat × Nat × Nat)} (h1 : Cond.methodLink own idx y ∈ lw_all) (h2 : Cond.instanceMethod y ∈ lw_all) (h3 : Cond.selects C y y ∈ lw_all) (h4 : Cond.initialized C ∈ lw_all) (h5 : Cond.codeWith y b L r hh ∈ lw_all) : GoodIn lw_all (wsV own idx C y (wsW_ y b L r hh)) := by
  refine lw_app ?_ (lw_methW h5)
  intro w hw
  simp only [List.mem_cons, List.not_mem_nil, or_false] at hw
  rcases hw with e | e | e | e
  · rw [e]; exact h1
  · rw [e]; exact h2
  · rw [e]; exact h3
  · rw [e]; exact h4
theorem lw_SW {own : String} {idx : Nat} {y : MethodName} {b : ByteArray} {L : Nat} {r : Option FieldType} {hh : List (Nat × Nat × Nat × Nat)} (h1 : Cond.methodLink own idx y ∈ lw_all) (h2 : Cond.static y ∈ lw_all) (h3 : Cond.initialized y.cls ∈ lw_all) (h4 : Cond.codeWith y b L r hh ∈ lw_all) : GoodIn lw_all (va_wsS own idx y (wsW_ y b L r hh)) := by
  refine lw_app ?_ (lw_methW h4)
  intro w hw
  simp only [List.mem_cons, List.not_mem_nil, or_false] at hw
  rcases hw with e | e | e
  · rw [e]; exact h1
  · rw [e]; exact h2
  · rw [e]; exact h3
/-- a word by its place in its run of the tables -/
theorem lw_at {r : List Cond} (hr : ∀ w ∈ r, w ∈ lw_tbl) {w : Cond} (i : Nat) (h : r[i]? = some w) : w ∈ lw_tbl := hr w (List.mem_of_getElem? h)
theorem lw_g {w : Cond} (h : w ∈ lw_tbl) (g : goodWord w = true) : w ∈ lw_all := List.mem_filter.mpr ⟨h, g⟩
theorem lw_ms : ∀ w ∈ k2_sels lw_privs, w ∈ lw_tbl := fun w h => show w ∈ k2_sels lw_privs ++ tables_1 from List.mem_append_left _ h
theorem lw_m1 : ∀ w ∈ tables_1_1, w ∈ lw_tbl := fun w h => show w ∈ k2_sels lw_privs ++ tables_1 from List.mem_append_right (k2_sels lw_privs) (show w ∈ tables_1 from List.mem_append_left _ h)
theorem lw_m2 : ∀ w ∈ tables_1_2, w ∈ lw_tbl := fun w h => show w ∈ k2_sels lw_privs ++ tables_1 from List.mem_append_right (k2_sels lw_privs) (show w ∈ tables_1 from List.mem_append_right _ (List.mem_append_left _ h))
theorem lw_m3 : ∀ w ∈ tables_1_3, w ∈ lw_tbl := fun w h => show w ∈ k2_sels lw_privs ++ tables_1 from List.mem_append_right (k2_sels lw_privs) (show w ∈ tables_1 from List.mem_append_right _ (List.mem_append_right _ (List.mem_append_left _ h)))
theorem lw_m4 : ∀ w ∈ tables_1_4, w ∈ lw_tbl := fun w h => show w ∈ k2_sels lw_privs ++ tables_1 from List.mem_append_right (k2_sels lw_privs) (show w ∈ tables_1 from List.mem_append_right _ (List.mem_append_right _ (List.mem_append_right _ (List.mem_append_left _ h))))
theorem lw_m5 : ∀ w ∈ tables_1_5, w ∈ lw_tbl := fun w h => show w ∈ k2_sels lw_privs ++ tables_1 from List.mem_append_right (k2_sels lw_privs) (show w ∈ tables_1 from List.mem_append_right _ (List.mem_append_right _ (List.mem_append_right _ (List.mem_append_right _ (List.mem_append_left _ h)))))
theorem lw_m6 : ∀ w ∈ tables_1_6, w ∈ lw_tbl := fun w h => show w ∈ k2_sels lw_privs ++ tables_1 from List.mem_append_right (k2_sels lw_privs) (show w ∈ tables_1 from List.mem_append_right _ (List.mem_append_right _ (List.mem_append_right _ (List.mem_append_right _ (List.mem_append_right _ (List.mem_append_left _ h))))))
theorem lw_m7 : ∀ w ∈ tables_1_7, w ∈ lw_tbl := fun w h => show w ∈ k2_sels lw_privs ++ tables_1 from List.mem_append_right (k2_sels lw_privs) (show w ∈ tables_1 from List.mem_append_right _ (List.mem_append_right _ (List.mem_append_right _ (List.mem_append_right _ (List.mem_append_right _ (List.mem_append_right _ (List.mem_append_left _ h)))))))
theorem lw_m8 : ∀ w ∈ tables_1_8, w ∈ lw_tbl := fun w h => show w ∈ k2_sels lw_privs ++ tables_1 from List.mem_append_right (k2_sels lw_privs) (show w ∈ tables_1 from List.mem_append_right _ (List.mem_append_right _ (List.mem_append_right _ (List.mem_append_right _ (List.mem_append_right _ (List.mem_append_right _ (List.mem_append_right _ (List.mem_append_left _ h))))))))
theorem lw_m9 : ∀ w ∈ tables_1_9, w ∈ lw_tbl := fun w h => show w ∈ k2_sels lw_privs ++ tables_1 from List.mem_append_right (k2_sels lw_privs) (show w ∈ tables_1 from List.mem_append_right _ (List.mem_append_right _ (List.mem_append_right _ (List.mem_append_right _ (List.mem_append_right _ (List.mem_append_right _ (List.mem_append_right _ (List.mem_append_right _ h))))))))
theorem qs0 : (Cond.selects "ThreeSnowballs" ⟨"ThreeSnowballs", "addPlayer", "(II)I"⟩ ⟨"ThreeSnowballs", "addPlayer", "(II)I"⟩) ∈ lw_all := lw_g (lw_at lw_ms 0 rfl) rfl
theorem qs1 : (Cond.selects "ThreeSnowballs" ⟨"ThreeSnowballs", "beginAnew", "()V"⟩ ⟨"ThreeSnowballs", "beginAnew", "()V"⟩) ∈ lw_all := lw_g (lw_at lw_ms 1 rfl) rfl
theorem qs2 : (Cond.selects "ThreeSnowballs" ⟨"ThreeSnowballs", "everybody", "()I"⟩ ⟨"ThreeSnowballs", "everybody", "()I"⟩) ∈ lw_all := lw_g (lw_at lw_ms 2 rfl) rfl
theorem qs3 : (Cond.selects "java/lang/NullPointerException" ⟨"java/lang/NullPointerException", "getExtendedNPEMessage", "()Ljava/lang/String;"⟩ ⟨"java/lang/NullPointerException", "getExtendedNPEMessage", "()Ljava/lang/String;"⟩) ∈ lw_all := lw_g (lw_at lw_ms 3 rfl) rfl
theorem qs4 : (Cond.selects "java/lang/Throwable" ⟨"java/lang/Throwable", "fillInStackTrace", "(I)Ljava/lang/Throwable;"⟩ ⟨"java/lang/Throwable", "fillInStackTrace", "(I)Ljava/lang/Throwable;"⟩) ∈ lw_all := lw_g (lw_at lw_ms 4 rfl) rfl
theorem qs5 : (Cond.selects "ThreeSnowballs" ⟨"ThreeSnowballs", "isPlayer", "(I)Z"⟩ ⟨"ThreeSnowballs", "isPlayer", "(I)Z"⟩) ∈ lw_all := lw_g (lw_at lw_ms 5 rfl) rfl
theorem qs6 : (Cond.selects "ThreeSnowballs" ⟨"ThreeSnowballs", "placeOf", "(I)I"⟩ ⟨"ThreeSnowballs", "placeOf", "(I)I"⟩) ∈ lw_all := lw_g (lw_at lw_ms 6 rfl) rfl
theorem qs7 : (Cond.selects "ThreeSnowballs" ⟨"ThreeSnowballs", "setTo", "(III)V"⟩ ⟨"ThreeSnowballs", "setTo", "(III)V"⟩) ∈ lw_all := lw_g (lw_at lw_ms 7 rfl) rfl
theorem qs8 : (Cond.selects "ThreeSnowballs" ⟨"ThreeSnowballs", "become", "(IIII)I"⟩ ⟨"ThreeSnowballs", "become", "(IIII)I"⟩) ∈ lw_all := lw_g (lw_at lw_ms 8 rfl) rfl
theorem qs9 : (Cond.selects "ThreeSnowballs$Reader" ⟨"ThreeSnowballs$Reader", "line", "()LThreeSnowballs$Line;"⟩ ⟨"ThreeSnowballs$Reader", "line", "()LThreeSnowballs$Line;"⟩) ∈ lw_all := lw_g (lw_at lw_ms 9 rfl) rfl
theorem qs10 : (Cond.selects "ThreeSnowballs$Reader" ⟨"ThreeSnowballs$Reader", "either", "()LThreeSnowballs$Node;"⟩ ⟨"ThreeSnowballs$Reader", "either", "()LThreeSnowballs$Node;"⟩) ∈ lw_all := lw_g (lw_at lw_ms 10 rfl) rfl
theorem qs11 : (Cond.selects "ThreeSnowballs$Reader" ⟨"ThreeSnowballs$Reader", "all", "()LThreeSnowballs$Node;"⟩ ⟨"ThreeSnowballs$Reader", "all", "()LThreeSnowballs$Node;"⟩) ∈ lw_all := lw_g (lw_at lw_ms 11 rfl) rfl
theorem qs12 : (Cond.selects "ThreeSnowballs$Reader" ⟨"ThreeSnowballs$Reader", "compared", "()LThreeSnowballs$Node;"⟩ ⟨"ThreeSnowballs$Reader", "compared", "()LThreeSnowballs$Node;"⟩) ∈ lw_all := lw_g (lw_at lw_ms 12 rfl) rfl
theorem qs13 : (Cond.selects "ThreeSnowballs$Reader" ⟨"ThreeSnowballs$Reader", "sum", "()LThreeSnowballs$Node;"⟩ ⟨"ThreeSnowballs$Reader", "sum", "()LThreeSnowballs$Node;"⟩) ∈ lw_all := lw_g (lw_at lw_ms 13 rfl) rfl
theorem qs14 : (Cond.selects "ThreeSnowballs$Reader" ⟨"ThreeSnowballs$Reader", "product", "()LThreeSnowballs$Node;"⟩ ⟨"ThreeSnowballs$Reader", "product", "()LThreeSnowballs$Node;"⟩) ∈ lw_all := lw_g (lw_at lw_ms 14 rfl) rfl
theorem qs15 : (Cond.selects "ThreeSnowballs$Reader" ⟨"ThreeSnowballs$Reader", "operand", "()LThreeSnowballs$Node;"⟩ ⟨"ThreeSnowballs$Reader", "operand", "()LThreeSnowballs$Node;"⟩) ∈ lw_all := lw_g (lw_at lw_ms 15 rfl) rfl
theorem qs16 : (Cond.selects "ThreeSnowballs$Reader" ⟨"ThreeSnowballs$Reader", "here", "()I"⟩ ⟨"ThreeSnowballs$Reader", "here", "()I"⟩) ∈ lw_all := lw_g (lw_at lw_ms 16 rfl) rfl
theorem qs17 : (Cond.selects "ThreeSnowballs$Reader" ⟨"ThreeSnowballs$Reader", "isOne", "(Ljava/lang/String;)Z"⟩ ⟨"ThreeSnowballs$Reader", "isOne", "(Ljava/lang/String;)Z"⟩) ∈ lw_all := lw_g (lw_at lw_ms 17 rfl) rfl
theorem qs18 : (Cond.selects "ThreeSnowballs$Reader" ⟨"ThreeSnowballs$Reader", "opens", "()Z"⟩ ⟨"ThreeSnowballs$Reader", "opens", "()Z"⟩) ∈ lw_all := lw_g (lw_at lw_ms 18 rfl) rfl
theorem qs19 : (Cond.selects "ThreeSnowballs$Reader" ⟨"ThreeSnowballs$Reader", "wrong", "()LThreeSnowballs$Node;"⟩ ⟨"ThreeSnowballs$Reader", "wrong", "()LThreeSnowballs$Node;"⟩) ∈ lw_all := lw_g (lw_at lw_ms 19 rfl) rfl
theorem qs20 : (Cond.selects "ThreeSnowballs$Reader" ⟨"ThreeSnowballs$Reader", "joined", "(ILThreeSnowballs$Node;LThreeSnowballs$Node;)LThreeSnowballs$Node;"⟩ ⟨"ThreeSnowballs$Reader", "joined", "(ILThreeSnowballs$Node;LThreeSnowballs$Node;)LThreeSnowballs$Node;"⟩) ∈ lw_all := lw_g (lw_at lw_ms 20 rfl) rfl
theorem qs21 : (Cond.selects "ThreeSnowballs" ⟨"ThreeSnowballs", "findEnds", "()V"⟩ ⟨"ThreeSnowballs", "findEnds", "()V"⟩) ∈ lw_all := lw_g (lw_at lw_ms 21 rfl) rfl
theorem qs22 : (Cond.selects "ThreeSnowballs" ⟨"ThreeSnowballs", "findValues", "()V"⟩ ⟨"ThreeSnowballs", "findValues", "()V"⟩) ∈ lw_all := lw_g (lw_at lw_ms 22 rfl) rfl
theorem qs23 : (Cond.selects "ThreeSnowballs" ⟨"ThreeSnowballs", "isOver", "(II)Z"⟩ ⟨"ThreeSnowballs", "isOver", "(II)Z"⟩) ∈ lw_all := lw_g (lw_at lw_ms 23 rfl) rfl
theorem qs24 : (Cond.selects "ThreeSnowballs" ⟨"ThreeSnowballs", "aimOf", "(III)I"⟩ ⟨"ThreeSnowballs", "aimOf", "(III)I"⟩) ∈ lw_all := lw_g (lw_at lw_ms 24 rfl) rfl
theorem qs25 : (Cond.selects "ThreeSnowballs" ⟨"ThreeSnowballs", "byHits", "(III)I"⟩ ⟨"ThreeSnowballs", "byHits", "(III)I"⟩) ∈ lw_all := lw_g (lw_at lw_ms 25 rfl) rfl
theorem qs26 : (Cond.selects "ThreeSnowballs" ⟨"ThreeSnowballs", "nextPlace", "(II)I"⟩ ⟨"ThreeSnowballs", "nextPlace", "(II)I"⟩) ∈ lw_all := lw_g (lw_at lw_ms 26 rfl) rfl
theorem qs27 : (Cond.selects "ThreeSnowballs" ⟨"ThreeSnowballs", "bestAim", "(III)I"⟩ ⟨"ThreeSnowballs", "bestAim", "(III)I"⟩) ∈ lw_all := lw_g (lw_at lw_ms 27 rfl) rfl
theorem qs28 : (Cond.selects "ThreeSnowballs" ⟨"ThreeSnowballs", "throwing", "(IIIII)J"⟩ ⟨"ThreeSnowballs", "throwing", "(IIIII)J"⟩) ∈ lw_all := lw_g (lw_at lw_ms 28 rfl) rfl
theorem qs29 : (Cond.selects "ThreeSnowballs" ⟨"ThreeSnowballs", "valueAt", "(IIII)J"⟩ ⟨"ThreeSnowballs", "valueAt", "(IIII)J"⟩) ∈ lw_all := lw_g (lw_at lw_ms 29 rfl) rfl
theorem qs30 : (Cond.selects "ThreeSnowballs" ⟨"ThreeSnowballs", "ends", "(II)J"⟩ ⟨"ThreeSnowballs", "ends", "(II)J"⟩) ∈ lw_all := lw_g (lw_at lw_ms 30 rfl) rfl
theorem qs31 : (Cond.selects "ThreeSnowballs" ⟨"ThreeSnowballs", "hitsOf", "(IIII)I"⟩ ⟨"ThreeSnowballs", "hitsOf", "(IIII)I"⟩) ∈ lw_all := lw_g (lw_at lw_ms 31 rfl) rfl
theorem qs32 : (Cond.selects "ThreeSnowballs" ⟨"ThreeSnowballs", "gives", "()I"⟩ ⟨"ThreeSnowballs", "gives", "()I"⟩) ∈ lw_all := lw_g (lw_at lw_ms 32 rfl) rfl
theorem qs33 : (Cond.selects "ThreeSnowballs" ⟨"ThreeSnowballs", "reach", "(IIIJ)V"⟩ ⟨"ThreeSnowballs", "reach", "(IIIJ)V"⟩) ∈ lw_all := lw_g (lw_at lw_ms 33 rfl) rfl
theorem qs34 : (Cond.selects "ThreeSnowballs" ⟨"ThreeSnowballs", "worthOf", "(I)J"⟩ ⟨"ThreeSnowballs", "worthOf", "(I)J"⟩) ∈ lw_all := lw_g (lw_at lw_ms 34 rfl) rfl
theorem qs35 : (Cond.selects "ThreeSnowballs" ⟨"ThreeSnowballs", "leftOf", "(IZ)J"⟩ ⟨"ThreeSnowballs", "leftOf", "(IZ)J"⟩) ∈ lw_all := lw_g (lw_at lw_ms 35 rfl) rfl
theorem qs36 : (Cond.selects "ThreeSnowballs" ⟨"ThreeSnowballs", "isSet", "(I)Z"⟩ ⟨"ThreeSnowballs", "isSet", "(I)Z"⟩) ∈ lw_all := lw_g (lw_at lw_ms 36 rfl) rfl
theorem qs37 : (Cond.selects "ThreeSnowballs" ⟨"ThreeSnowballs", "apart", "(I)J"⟩ ⟨"ThreeSnowballs", "apart", "(I)J"⟩) ∈ lw_all := lw_g (lw_at lw_ms 37 rfl) rfl
theorem qs38 : (Cond.selects "ThreeSnowballs" ⟨"ThreeSnowballs", "wouldOf", "(I)I"⟩ ⟨"ThreeSnowballs", "wouldOf", "(I)I"⟩) ∈ lw_all := lw_g (lw_at lw_ms 38 rfl) rfl
theorem qs39 : (Cond.selects "ThreeSnowballs" ⟨"ThreeSnowballs", "restless", "()I"⟩ ⟨"ThreeSnowballs", "restless", "()I"⟩) ∈ lw_all := lw_g (lw_at lw_ms 39 rfl) rfl
theorem qs40 : (Cond.selects "ThreeSnowballs" ⟨"ThreeSnowballs", "better", "(II)I"⟩ ⟨"ThreeSnowballs", "better", "(II)I"⟩) ∈ lw_all := lw_g (lw_at lw_ms 40 rfl) rfl
theorem qs41 : (Cond.selects "ThreeSnowballs" ⟨"ThreeSnowballs", "firstPlace", "(I)I"⟩ ⟨"ThreeSnowballs", "firstPlace", "(I)I"⟩) ∈ lw_all := lw_g (lw_at lw_ms 41 rfl) rfl
theorem qs42 : (Cond.selects "ThreeSnowballs" ⟨"ThreeSnowballs", "goThrough", "(LThreeSnowballs$ByteRow;)V"⟩ ⟨"ThreeSnowballs", "goThrough", "(LThreeSnowballs$ByteRow;)V"⟩) ∈ lw_all := lw_g (lw_at lw_ms 42 rfl) rfl
theorem qs43 : (Cond.selects "ThreeSnowballs" ⟨"ThreeSnowballs", "goes", "(II)Z"⟩ ⟨"ThreeSnowballs", "goes", "(II)Z"⟩) ∈ lw_all := lw_g (lw_at lw_ms 43 rfl) rfl
theorem qs44 : (Cond.selects "ThreeSnowballs" ⟨"ThreeSnowballs", "goTo", "(II)V"⟩ ⟨"ThreeSnowballs", "goTo", "(II)V"⟩) ∈ lw_all := lw_g (lw_at lw_ms 44 rfl) rfl
theorem qs45 : (Cond.selects "ThreeSnowballs" ⟨"ThreeSnowballs", "made", "(I)LThreeSnowballs$Thrower;"⟩ ⟨"ThreeSnowballs", "made", "(I)LThreeSnowballs$Thrower;"⟩) ∈ lw_all := lw_g (lw_at lw_ms 45 rfl) rfl
theorem qs46 : (Cond.selects "ThreeSnowballs" ⟨"ThreeSnowballs", "isBody", "(I)Z"⟩ ⟨"ThreeSnowballs", "isBody", "(I)Z"⟩) ∈ lw_all := lw_g (lw_at lw_ms 46 rfl) rfl
theorem qs47 : (Cond.selects "ThreeSnowballs" ⟨"ThreeSnowballs", "ran", "(I)V"⟩ ⟨"ThreeSnowballs", "ran", "(I)V"⟩) ∈ lw_all := lw_g (lw_at lw_ms 47 rfl) rfl
theorem qs48 : (Cond.selects "ThreeSnowballsModel" ⟨"ThreeSnowballsModel", "adds", "(II)V"⟩ ⟨"ThreeSnowballsModel", "adds", "(II)V"⟩) ∈ lw_all := lw_g (lw_at lw_ms 48 rfl) rfl
theorem qs49 : (Cond.selects "ThreeSnowballsModel" ⟨"ThreeSnowballsModel", "startsAnew", "()V"⟩ ⟨"ThreeSnowballsModel", "startsAnew", "()V"⟩) ∈ lw_all := lw_g (lw_at lw_ms 49 rfl) rfl
theorem qs50 : (Cond.selects "ThreeSnowballsModel" ⟨"ThreeSnowballsModel", "all", "()I"⟩ ⟨"ThreeSnowballsModel", "all", "()I"⟩) ∈ lw_all := lw_g (lw_at lw_ms 50 rfl) rfl
theorem qs51 : (Cond.selects "ThreeSnowballsModel" ⟨"ThreeSnowballsModel", "isPlayer", "(I)Z"⟩ ⟨"ThreeSnowballsModel", "isPlayer", "(I)Z"⟩) ∈ lw_all := lw_g (lw_at lw_ms 51 rfl) rfl
theorem qs52 : (Cond.selects "ThreeSnowballsModel" ⟨"ThreeSnowballsModel", "becomes", "(II)I"⟩ ⟨"ThreeSnowballsModel", "becomes", "(II)I"⟩) ∈ lw_all := lw_g (lw_at lw_ms 52 rfl) rfl
theorem qs53 : (Cond.selects "ThreeSnowballsModel" ⟨"ThreeSnowballsModel", "workOut", "(II)I"⟩ ⟨"ThreeSnowballsModel", "workOut", "(II)I"⟩) ∈ lw_all := lw_g (lw_at lw_ms 53 rfl) rfl
theorem qs54 : (Cond.selects "ThreeSnowballsModel" ⟨"ThreeSnowballsModel", "either", "()I"⟩ ⟨"ThreeSnowballsModel", "either", "()I"⟩) ∈ lw_all := lw_g (lw_at lw_ms 54 rfl) rfl
theorem qs55 : (Cond.selects "ThreeSnowballsModel" ⟨"ThreeSnowballsModel", "both", "()I"⟩ ⟨"ThreeSnowballsModel", "both", "()I"⟩) ∈ lw_all := lw_g (lw_at lw_ms 55 rfl) rfl
theorem qs56 : (Cond.selects "ThreeSnowballsModel" ⟨"ThreeSnowballsModel", "compared", "()I"⟩ ⟨"ThreeSnowballsModel", "compared", "()I"⟩) ∈ lw_all := lw_g (lw_at lw_ms 56 rfl) rfl
theorem qs57 : (Cond.selects "ThreeSnowballsModel" ⟨"ThreeSnowballsModel", "sums", "()I"⟩ ⟨"ThreeSnowballsModel", "sums", "()I"⟩) ∈ lw_all := lw_g (lw_at lw_ms 57 rfl) rfl
theorem qs58 : (Cond.selects "ThreeSnowballsModel" ⟨"ThreeSnowballsModel", "product", "()I"⟩ ⟨"ThreeSnowballsModel", "product", "()I"⟩) ∈ lw_all := lw_g (lw_at lw_ms 58 rfl) rfl
theorem qs59 : (Cond.selects "ThreeSnowballsModel" ⟨"ThreeSnowballsModel", "one", "()I"⟩ ⟨"ThreeSnowballsModel", "one", "()I"⟩) ∈ lw_all := lw_g (lw_at lw_ms 59 rfl) rfl
theorem qs60 : (Cond.selects "ThreeSnowballsModel" ⟨"ThreeSnowballsModel", "byteAt", "()I"⟩ ⟨"ThreeSnowballsModel", "byteAt", "()I"⟩) ∈ lw_all := lw_g (lw_at lw_ms 60 rfl) rfl
theorem qs61 : (Cond.selects "ThreeSnowballsModel" ⟨"ThreeSnowballsModel", "wrong", "()I"⟩ ⟨"ThreeSnowballsModel", "wrong", "()I"⟩) ∈ lw_all := lw_g (lw_at lw_ms 61 rfl) rfl
theorem qs62 : (Cond.selects "ThreeSnowballsModel" ⟨"ThreeSnowballsModel", "takes", "(I)Z"⟩ ⟨"ThreeSnowballsModel", "takes", "(I)Z"⟩) ∈ lw_all := lw_g (lw_at lw_ms 62 rfl) rfl
theorem qs63 : (Cond.selects "ThreeSnowballsModel" ⟨"ThreeSnowballsModel", "worthOf", "(I)J"⟩ ⟨"ThreeSnowballsModel", "worthOf", "(I)J"⟩) ∈ lw_all := lw_g (lw_at lw_ms 63 rfl) rfl
theorem qs64 : (Cond.selects "ThreeSnowballsModel" ⟨"ThreeSnowballsModel", "solves", "()V"⟩ ⟨"ThreeSnowballsModel", "solves", "()V"⟩) ∈ lw_all := lw_g (lw_at lw_ms 64 rfl) rfl
theorem qs65 : (Cond.selects "ThreeSnowballsModel" ⟨"ThreeSnowballsModel", "isOver", "(II)Z"⟩ ⟨"ThreeSnowballsModel", "isOver", "(II)Z"⟩) ∈ lw_all := lw_g (lw_at lw_ms 65 rfl) rfl
theorem qs66 : (Cond.selects "ThreeSnowballsModel" ⟨"ThreeSnowballsModel", "ends1", "(III)V"⟩ ⟨"ThreeSnowballsModel", "ends1", "(III)V"⟩) ∈ lw_all := lw_g (lw_at lw_ms 66 rfl) rfl
theorem qs67 : (Cond.selects "ThreeSnowballsModel" ⟨"ThreeSnowballsModel", "settles", "(III)V"⟩ ⟨"ThreeSnowballsModel", "settles", "(III)V"⟩) ∈ lw_all := lw_g (lw_at lw_ms 67 rfl) rfl
theorem qs68 : (Cond.selects "ThreeSnowballsModel" ⟨"ThreeSnowballsModel", "plainAim", "(II)I"⟩ ⟨"ThreeSnowballsModel", "plainAim", "(II)I"⟩) ∈ lw_all := lw_g (lw_at lw_ms 68 rfl) rfl
theorem qs69 : (Cond.selects "ThreeSnowballsModel" ⟨"ThreeSnowballsModel", "byHits", "(IIZ)I"⟩ ⟨"ThreeSnowballsModel", "byHits", "(IIZ)I"⟩) ∈ lw_all := lw_g (lw_at lw_ms 69 rfl) rfl
theorem qs70 : (Cond.selects "ThreeSnowballsModel" ⟨"ThreeSnowballsModel", "nextOf", "(II)I"⟩ ⟨"ThreeSnowballsModel", "nextOf", "(II)I"⟩) ∈ lw_all := lw_g (lw_at lw_ms 70 rfl) rfl
theorem qs71 : (Cond.selects "ThreeSnowballsModel" ⟨"ThreeSnowballsModel", "worthBy", "(IIIII)V"⟩ ⟨"ThreeSnowballsModel", "worthBy", "(IIIII)V"⟩) ∈ lw_all := lw_g (lw_at lw_ms 71 rfl) rfl
theorem qs72 : (Cond.selects "ThreeSnowballsModel" ⟨"ThreeSnowballsModel", "hitsAt", "(IIII)I"⟩ ⟨"ThreeSnowballsModel", "hitsAt", "(IIII)I"⟩) ∈ lw_all := lw_g (lw_at lw_ms 72 rfl) rfl
theorem qs73 : (Cond.selects "ThreeSnowballsModel" ⟨"ThreeSnowballsModel", "hitsOf", "(IIII)I"⟩ ⟨"ThreeSnowballsModel", "hitsOf", "(IIII)I"⟩) ∈ lw_all := lw_g (lw_at lw_ms 73 rfl) rfl
theorem qs74 : (Cond.selects "ThreeSnowballsModel" ⟨"ThreeSnowballsModel", "worthFrom", "(III)J"⟩ ⟨"ThreeSnowballsModel", "worthFrom", "(III)J"⟩) ∈ lw_all := lw_g (lw_at lw_ms 74 rfl) rfl
theorem qs75 : (Cond.selects "ThreeSnowballsModel" ⟨"ThreeSnowballsModel", "startOf", "(II)I"⟩ ⟨"ThreeSnowballsModel", "startOf", "(II)I"⟩) ∈ lw_all := lw_g (lw_at lw_ms 75 rfl) rfl
theorem qs76 : (Cond.selects "ThreeSnowballsModel" ⟨"ThreeSnowballsModel", "valueOf", "(II)J"⟩ ⟨"ThreeSnowballsModel", "valueOf", "(II)J"⟩) ∈ lw_all := lw_g (lw_at lw_ms 76 rfl) rfl
theorem qs77 : (Cond.selects "ThreeSnowballsModel" ⟨"ThreeSnowballsModel", "atEnd", "(IIII)J"⟩ ⟨"ThreeSnowballsModel", "atEnd", "(IIII)J"⟩) ∈ lw_all := lw_g (lw_at lw_ms 77 rfl) rfl
theorem qs78 : (Cond.selects "ThreeSnowballsModel" ⟨"ThreeSnowballsModel", "partOf", "(JI)J"⟩ ⟨"ThreeSnowballsModel", "partOf", "(JI)J"⟩) ∈ lw_all := lw_g (lw_at lw_ms 78 rfl) rfl
theorem qs79 : (Cond.selects "ThreeSnowballsModel" ⟨"ThreeSnowballsModel", "wouldOf", "(I)I"⟩ ⟨"ThreeSnowballsModel", "wouldOf", "(I)I"⟩) ∈ lw_all := lw_g (lw_at lw_ms 79 rfl) rfl
theorem qs80 : (Cond.selects "ThreeSnowballsModel" ⟨"ThreeSnowballsModel", "leagueOf", "(II)I"⟩ ⟨"ThreeSnowballsModel", "leagueOf", "(II)I"⟩) ∈ lw_all := lw_g (lw_at lw_ms 80 rfl) rfl
theorem qs81 : (Cond.selects "ThreeSnowballsModel" ⟨"ThreeSnowballsModel", "looksAt", "(I)V"⟩ ⟨"ThreeSnowballsModel", "looksAt", "(I)V"⟩) ∈ lw_all := lw_g (lw_at lw_ms 81 rfl) rfl
theorem qs82 : (Cond.selects "ThreeSnowballsModel" ⟨"ThreeSnowballsModel", "mayThrow", "(IIIJJ)Z"⟩ ⟨"ThreeSnowballsModel", "mayThrow", "(IIIJJ)Z"⟩) ∈ lw_all := lw_g (lw_at lw_ms 82 rfl) rfl
theorem qs83 : (Cond.selects "ThreeSnowballsModel" ⟨"ThreeSnowballsModel", "isBody", "(I)Z"⟩ ⟨"ThreeSnowballsModel", "isBody", "(I)Z"⟩) ∈ lw_all := lw_g (lw_at lw_ms 83 rfl) rfl
theorem qs84 : (Cond.selects "ThreeSnowballsModel" ⟨"ThreeSnowballsModel", "aimsAs", "(II)I"⟩ ⟨"ThreeSnowballsModel", "aimsAs", "(II)I"⟩) ∈ lw_all := lw_g (lw_at lw_ms 84 rfl) rfl
theorem qs85 : (Cond.selects "ThreeSnowballsModel" ⟨"ThreeSnowballsModel", "begins", "(I)V"⟩ ⟨"ThreeSnowballsModel", "begins", "(I)V"⟩) ∈ lw_all := lw_g (lw_at lw_ms 85 rfl) rfl
theorem qs86 : (Cond.selects "ThreeSnowballsModel" ⟨"ThreeSnowballsModel", "throwsAs", "(II)I"⟩ ⟨"ThreeSnowballsModel", "throwsAs", "(II)I"⟩) ∈ lw_all := lw_g (lw_at lw_ms 86 rfl) rfl
theorem qs87 : (Cond.selects "ThreeSnowballsModel" ⟨"ThreeSnowballsModel", "hitsAs", "(II)I"⟩ ⟨"ThreeSnowballsModel", "hitsAs", "(II)I"⟩) ∈ lw_all := lw_g (lw_at lw_ms 87 rfl) rfl
theorem qs88 : (Cond.selects "ThreeSnowballsModel" ⟨"ThreeSnowballsModel", "tellsAs", "(II)I"⟩ ⟨"ThreeSnowballsModel", "tellsAs", "(II)I"⟩) ∈ lw_all := lw_g (lw_at lw_ms 88 rfl) rfl
theorem qs89 : (Cond.selects "ThreeSnowballsModel" ⟨"ThreeSnowballsModel", "refusal", "(II)I"⟩ ⟨"ThreeSnowballsModel", "refusal", "(II)I"⟩) ∈ lw_all := lw_g (lw_at lw_ms 89 rfl) rfl
theorem qs90 : (Cond.selects "ThreeSnowballsModel" ⟨"ThreeSnowballsModel", "kindOf", "(I)I"⟩ ⟨"ThreeSnowballsModel", "kindOf", "(I)I"⟩) ∈ lw_all := lw_g (lw_at lw_ms 90 rfl) rfl
-- ===== end of PART A; then your names; then what follows =====
