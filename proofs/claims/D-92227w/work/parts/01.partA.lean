/-- a private method of a class that the tables say can be made, by its rows of tables_1 -/
def lw_okq (q : MethodName × Nat) : Prop := (q.1.cls ≠ "java/lang/invoke/MethodHandle" ∧ q.1.cls ≠ "java/lang/invoke/VarHandle") ∧ Cond.instantiable q.1.cls q.2 ∈ tables_1 ∧ Cond.privateMethod q.1 ∈ tables_1 ∧ Cond.instanceMethod q.1 ∈ tables_1
set_option maxRecDepth 100000
theorem lw_t1 {w : Cond} (h : w ∈ tables_1_1) : w ∈ tables_1 := List.mem_append_left _ h
theorem lw_t2 {w : Cond} (h : w ∈ tables_1_2) : w ∈ tables_1 := List.mem_append_right _ (List.mem_append_left _ h)
theorem lw_t3 {w : Cond} (h : w ∈ tables_1_3) : w ∈ tables_1 := List.mem_append_right _ (List.mem_append_right _ (List.mem_append_left _ h))
theorem lw_t4 {w : Cond} (h : w ∈ tables_1_4) : w ∈ tables_1 := List.mem_append_right _ (List.mem_append_right _ (List.mem_append_right _ (List.mem_append_left _ h)))
theorem lw_t5 {w : Cond} (h : w ∈ tables_1_5) : w ∈ tables_1 := List.mem_append_right _ (List.mem_append_right _ (List.mem_append_right _ (List.mem_append_right _ (List.mem_append_left _ h))))
theorem lw_t6 {w : Cond} (h : w ∈ tables_1_6) : w ∈ tables_1 := List.mem_append_right _ (List.mem_append_right _ (List.mem_append_right _ (List.mem_append_right _ (List.mem_append_right _ (List.mem_append_left _ h)))))
theorem lw_t7 {w : Cond} (h : w ∈ tables_1_7) : w ∈ tables_1 := List.mem_append_right _ (List.mem_append_right _ (List.mem_append_right _ (List.mem_append_right _ (List.mem_append_right _ (List.mem_append_right _ (List.mem_append_left _ h))))))
theorem lw_t8 {w : Cond} (h : w ∈ tables_1_8) : w ∈ tables_1 := List.mem_append_right _ (List.mem_append_right _ (List.mem_append_right _ (List.mem_append_right _ (List.mem_append_right _ (List.mem_append_right _ (List.mem_append_right _ (List.mem_append_left _ h)))))))
theorem lw_t9 {w : Cond} (h : w ∈ tables_1_9) : w ∈ tables_1 := List.mem_append_right _ (List.mem_append_right _ (List.mem_append_right _ (List.mem_append_right _ (List.mem_append_right _ (List.mem_append_right _ (List.mem_append_right _ (List.mem_append_right _ h)))))))
theorem lw_p0 : lw_okq (⟨"java/lang/NullPointerException", "getExtendedNPEMessage", "()Ljava/lang/String;"⟩, 8) := ⟨⟨by decide +kernel, by decide +kernel⟩, lw_t1 (List.mem_of_getElem? (i := 119) rfl), lw_t1 (List.mem_of_getElem? (i := 117) rfl), lw_t1 (List.mem_of_getElem? (i := 118) rfl)⟩
theorem lw_p1 : lw_okq (⟨"java/lang/Throwable", "fillInStackTrace", "(I)Ljava/lang/Throwable;"⟩, 6) := ⟨⟨by decide +kernel, by decide +kernel⟩, lw_t1 (List.mem_of_getElem? (i := 131) rfl), lw_t1 (List.mem_of_getElem? (i := 129) rfl), lw_t1 (List.mem_of_getElem? (i := 130) rfl)⟩
theorem lw_p2 : lw_okq (⟨"RoadHouses", "isFull", "()Z"⟩, 27) := ⟨⟨by decide +kernel, by decide +kernel⟩, lw_t1 (List.mem_of_getElem? (i := 43) rfl), lw_t2 (List.mem_of_getElem? (i := 22) rfl), lw_t2 (List.mem_of_getElem? (i := 23) rfl)⟩
theorem lw_p3 : lw_okq (⟨"RoadHouses", "add", "(LRoadHouses$Place;)I"⟩, 27) := ⟨⟨by decide +kernel, by decide +kernel⟩, lw_t1 (List.mem_of_getElem? (i := 43) rfl), lw_t2 (List.mem_of_getElem? (i := 53) rfl), lw_t2 (List.mem_of_getElem? (i := 54) rfl)⟩
theorem lw_p4 : lw_okq (⟨"java/util/ArrayList", "add", "(Ljava/lang/Object;[Ljava/lang/Object;I)V"⟩, 3) := ⟨⟨by decide +kernel, by decide +kernel⟩, lw_t1 (List.mem_of_getElem? (i := 51) rfl), lw_t2 (List.mem_of_getElem? (i := 66) rfl), lw_t2 (List.mem_of_getElem? (i := 67) rfl)⟩
theorem lw_p5 : lw_okq (⟨"java/util/ArrayList", "grow", "()[Ljava/lang/Object;"⟩, 3) := ⟨⟨by decide +kernel, by decide +kernel⟩, lw_t1 (List.mem_of_getElem? (i := 51) rfl), lw_t2 (List.mem_of_getElem? (i := 70) rfl), lw_t2 (List.mem_of_getElem? (i := 71) rfl)⟩
theorem lw_p6 : lw_okq (⟨"java/util/ArrayList", "grow", "(I)[Ljava/lang/Object;"⟩, 3) := ⟨⟨by decide +kernel, by decide +kernel⟩, lw_t1 (List.mem_of_getElem? (i := 51) rfl), lw_t2 (List.mem_of_getElem? (i := 74) rfl), lw_t2 (List.mem_of_getElem? (i := 75) rfl)⟩
theorem lw_p7 : lw_okq (⟨"RoadHouses", "isPlace", "(I)Z"⟩, 27) := ⟨⟨by decide +kernel, by decide +kernel⟩, lw_t1 (List.mem_of_getElem? (i := 43) rfl), lw_t2 (List.mem_of_getElem? (i := 231) rfl), lw_t2 (List.mem_of_getElem? (i := 232) rfl)⟩
theorem lw_p8 : lw_okq (⟨"RoadHouses", "findFar", "(I)V"⟩, 27) := ⟨⟨by decide +kernel, by decide +kernel⟩, lw_t1 (List.mem_of_getElem? (i := 43) rfl), lw_t2 (List.mem_of_getElem? (i := 239) rfl), lw_t3 (List.mem_of_getElem? (i := 0) rfl)⟩
theorem lw_p9 : lw_okq (⟨"RoadHouses", "houseAt", "(I)LRoadHouses$House;"⟩, 27) := ⟨⟨by decide +kernel, by decide +kernel⟩, lw_t1 (List.mem_of_getElem? (i := 43) rfl), lw_t3 (List.mem_of_getElem? (i := 8) rfl), lw_t3 (List.mem_of_getElem? (i := 9) rfl)⟩
theorem lw_p10 : lw_okq (⟨"RoadHouses", "manyAt", "(LRoadHouses$Place;I)I"⟩, 27) := ⟨⟨by decide +kernel, by decide +kernel⟩, lw_t1 (List.mem_of_getElem? (i := 43) rfl), lw_t3 (List.mem_of_getElem? (i := 119) rfl), lw_t3 (List.mem_of_getElem? (i := 120) rfl)⟩
theorem lw_p11 : lw_okq (⟨"RoadHouses", "newPerson", "(ILRoadHouses$Person;LRoadHouses$Place;)I"⟩, 27) := ⟨⟨by decide +kernel, by decide +kernel⟩, lw_t1 (List.mem_of_getElem? (i := 43) rfl), lw_t3 (List.mem_of_getElem? (i := 128) rfl), lw_t3 (List.mem_of_getElem? (i := 129) rfl)⟩
theorem lw_p12 : lw_okq (⟨"RoadHouses", "bedsLeft", "(LRoadHouses$Place;)I"⟩, 27) := ⟨⟨by decide +kernel, by decide +kernel⟩, lw_t1 (List.mem_of_getElem? (i := 43) rfl), lw_t3 (List.mem_of_getElem? (i := 132) rfl), lw_t3 (List.mem_of_getElem? (i := 133) rfl)⟩
theorem lw_p13 : lw_okq (⟨"RoadHouses", "addPerson", "(ILRoadHouses$Person;LRoadHouses$Place;)I"⟩, 27) := ⟨⟨by decide +kernel, by decide +kernel⟩, lw_t1 (List.mem_of_getElem? (i := 43) rfl), lw_t3 (List.mem_of_getElem? (i := 136) rfl), lw_t3 (List.mem_of_getElem? (i := 137) rfl)⟩
theorem lw_p14 : lw_okq (⟨"RoadHouses", "isPerson", "(I)Z"⟩, 27) := ⟨⟨by decide +kernel, by decide +kernel⟩, lw_t1 (List.mem_of_getElem? (i := 43) rfl), lw_t3 (List.mem_of_getElem? (i := 197) rfl), lw_t3 (List.mem_of_getElem? (i := 198) rfl)⟩
theorem lw_p15 : lw_okq (⟨"RoadHouses", "canPass", "(LRoadHouses$Place;LRoadHouses$Place;)Z"⟩, 27) := ⟨⟨by decide +kernel, by decide +kernel⟩, lw_t1 (List.mem_of_getElem? (i := 43) rfl), lw_t3 (List.mem_of_getElem? (i := 217) rfl), lw_t3 (List.mem_of_getElem? (i := 218) rfl)⟩
def lw_privs_1 : List (MethodName × Nat) := [(⟨"java/lang/NullPointerException", "getExtendedNPEMessage", "()Ljava/lang/String;"⟩, 8), (⟨"java/lang/Throwable", "fillInStackTrace", "(I)Ljava/lang/Throwable;"⟩, 6), (⟨"RoadHouses", "isFull", "()Z"⟩, 27), (⟨"RoadHouses", "add", "(LRoadHouses$Place;)I"⟩, 27), (⟨"java/util/ArrayList", "add", "(Ljava/lang/Object;[Ljava/lang/Object;I)V"⟩, 3), (⟨"java/util/ArrayList", "grow", "()[Ljava/lang/Object;"⟩, 3), (⟨"java/util/ArrayList", "grow", "(I)[Ljava/lang/Object;"⟩, 3), (⟨"RoadHouses", "isPlace", "(I)Z"⟩, 27), (⟨"RoadHouses", "findFar", "(I)V"⟩, 27), (⟨"RoadHouses", "houseAt", "(I)LRoadHouses$House;"⟩, 27), (⟨"RoadHouses", "manyAt", "(LRoadHouses$Place;I)I"⟩, 27), (⟨"RoadHouses", "newPerson", "(ILRoadHouses$Person;LRoadHouses$Place;)I"⟩, 27), (⟨"RoadHouses", "bedsLeft", "(LRoadHouses$Place;)I"⟩, 27), (⟨"RoadHouses", "addPerson", "(ILRoadHouses$Person;LRoadHouses$Place;)I"⟩, 27), (⟨"RoadHouses", "isPerson", "(I)Z"⟩, 27), (⟨"RoadHouses", "canPass", "(LRoadHouses$Place;LRoadHouses$Place;)Z"⟩, 27)]
theorem lw_r1 : ∀ q ∈ lw_privs_1, lw_okq q := List.forall_mem_cons.mpr ⟨lw_p0, List.forall_mem_cons.mpr ⟨lw_p1, List.forall_mem_cons.mpr ⟨lw_p2, List.forall_mem_cons.mpr ⟨lw_p3, List.forall_mem_cons.mpr ⟨lw_p4, List.forall_mem_cons.mpr ⟨lw_p5, List.forall_mem_cons.mpr ⟨lw_p6, List.forall_mem_cons.mpr ⟨lw_p7, List.forall_mem_cons.mpr ⟨lw_p8, List.forall_mem_cons.mpr ⟨lw_p9, List.forall_mem_cons.mpr ⟨lw_p10, List.forall_mem_cons.mpr ⟨lw_p11, List.forall_mem_cons.mpr ⟨lw_p12, List.forall_mem_cons.mpr ⟨lw_p13, List.forall_mem_cons.mpr ⟨lw_p14, List.forall_mem_cons.mpr ⟨lw_p15, fun _ h => absurd h List.not_mem_nil⟩⟩⟩⟩⟩⟩⟩⟩⟩⟩⟩⟩⟩⟩⟩⟩
theorem lw_p16 : lw_okq (⟨"RoadHouses", "findParty", "(LRoadHouses$Person;)I"⟩, 27) := ⟨⟨by decide +kernel, by decide +kernel⟩, lw_t1 (List.mem_of_getElem? (i := 43) rfl), lw_t3 (List.mem_of_getElem? (i := 222) rfl), lw_t3 (List.mem_of_getElem? (i := 223) rfl)⟩
theorem lw_p17 : lw_okq (⟨"RoadHouses", "isHunter", "(I)Z"⟩, 27) := ⟨⟨by decide +kernel, by decide +kernel⟩, lw_t1 (List.mem_of_getElem? (i := 43) rfl), lw_t4 (List.mem_of_getElem? (i := 36) rfl), lw_t4 (List.mem_of_getElem? (i := 37) rfl)⟩
theorem lw_p18 : lw_okq (⟨"RoadHouses", "isPersons", "(I)Z"⟩, 27) := ⟨⟨by decide +kernel, by decide +kernel⟩, lw_t1 (List.mem_of_getElem? (i := 43) rfl), lw_t4 (List.mem_of_getElem? (i := 44) rfl), lw_t4 (List.mem_of_getElem? (i := 45) rfl)⟩
theorem lw_p19 : lw_okq (⟨"RoadHouses", "isFound", "(LRoadHouses$Person;LRoadHouses$Hunter;I)Z"⟩, 27) := ⟨⟨by decide +kernel, by decide +kernel⟩, lw_t1 (List.mem_of_getElem? (i := 43) rfl), lw_t4 (List.mem_of_getElem? (i := 52) rfl), lw_t4 (List.mem_of_getElem? (i := 53) rfl)⟩
theorem lw_p20 : lw_okq (⟨"RoadHouses", "lawFor", "(CLRoadHouses$Person;LRoadHouses$Place;I)I"⟩, 27) := ⟨⟨by decide +kernel, by decide +kernel⟩, lw_t1 (List.mem_of_getElem? (i := 43) rfl), lw_t4 (List.mem_of_getElem? (i := 56) rfl), lw_t4 (List.mem_of_getElem? (i := 57) rfl)⟩
theorem lw_p21 : lw_okq (⟨"RoadHouses", "readLaw", "()LRoadHouses$Law;"⟩, 27) := ⟨⟨by decide +kernel, by decide +kernel⟩, lw_t1 (List.mem_of_getElem? (i := 43) rfl), lw_t4 (List.mem_of_getElem? (i := 125) rfl), lw_t4 (List.mem_of_getElem? (i := 126) rfl)⟩
theorem lw_p22 : lw_okq (⟨"RoadHouses", "next", "()I"⟩, 27) := ⟨⟨by decide +kernel, by decide +kernel⟩, lw_t1 (List.mem_of_getElem? (i := 43) rfl), lw_t4 (List.mem_of_getElem? (i := 156) rfl), lw_t4 (List.mem_of_getElem? (i := 157) rfl)⟩
theorem lw_p23 : lw_okq (⟨"RoadHouses", "wrong", "(I)LRoadHouses$Fault;"⟩, 27) := ⟨⟨by decide +kernel, by decide +kernel⟩, lw_t1 (List.mem_of_getElem? (i := 43) rfl), lw_t5 (List.mem_of_getElem? (i := 3) rfl), lw_t5 (List.mem_of_getElem? (i := 4) rfl)⟩
theorem lw_p24 : lw_okq (⟨"RoadHouses", "take", "(I)V"⟩, 27) := ⟨⟨by decide +kernel, by decide +kernel⟩, lw_t1 (List.mem_of_getElem? (i := 43) rfl), lw_t5 (List.mem_of_getElem? (i := 7) rfl), lw_t5 (List.mem_of_getElem? (i := 8) rfl)⟩
theorem lw_p25 : lw_okq (⟨"RoadHouses", "readTest", "()LRoadHouses$Test;"⟩, 27) := ⟨⟨by decide +kernel, by decide +kernel⟩, lw_t1 (List.mem_of_getElem? (i := 43) rfl), lw_t5 (List.mem_of_getElem? (i := 11) rfl), lw_t5 (List.mem_of_getElem? (i := 12) rfl)⟩
theorem lw_p26 : lw_okq (⟨"RoadHouses", "readCase", "()LRoadHouses$Test;"⟩, 27) := ⟨⟨by decide +kernel, by decide +kernel⟩, lw_t1 (List.mem_of_getElem? (i := 43) rfl), lw_t5 (List.mem_of_getElem? (i := 15) rfl), lw_t5 (List.mem_of_getElem? (i := 16) rfl)⟩
theorem lw_p27 : lw_okq (⟨"RoadHouses", "readClaim", "()LRoadHouses$Test;"⟩, 27) := ⟨⟨by decide +kernel, by decide +kernel⟩, lw_t1 (List.mem_of_getElem? (i := 43) rfl), lw_t5 (List.mem_of_getElem? (i := 19) rfl), lw_t5 (List.mem_of_getElem? (i := 20) rfl)⟩
theorem lw_p28 : lw_okq (⟨"RoadHouses", "readWord", "()I"⟩, 27) := ⟨⟨by decide +kernel, by decide +kernel⟩, lw_t1 (List.mem_of_getElem? (i := 43) rfl), lw_t5 (List.mem_of_getElem? (i := 23) rfl), lw_t5 (List.mem_of_getElem? (i := 24) rfl)⟩
theorem lw_p29 : lw_okq (⟨"RoadHouses", "isLaw", "(I)Z"⟩, 27) := ⟨⟨by decide +kernel, by decide +kernel⟩, lw_t1 (List.mem_of_getElem? (i := 43) rfl), lw_t5 (List.mem_of_getElem? (i := 77) rfl), lw_t5 (List.mem_of_getElem? (i := 78) rfl)⟩
theorem lw_p30 : lw_okq (⟨"RoadHouses", "findBand", "(I)LRoadHouses$Place;"⟩, 27) := ⟨⟨by decide +kernel, by decide +kernel⟩, lw_t1 (List.mem_of_getElem? (i := 43) rfl), lw_t5 (List.mem_of_getElem? (i := 114) rfl), lw_t5 (List.mem_of_getElem? (i := 115) rfl)⟩
theorem lw_p31 : lw_okq (⟨"RoadHouses", "takesBand", "(LRoadHouses$Place;LRoadHouses$House;)Z"⟩, 27) := ⟨⟨by decide +kernel, by decide +kernel⟩, lw_t1 (List.mem_of_getElem? (i := 43) rfl), lw_t5 (List.mem_of_getElem? (i := 141) rfl), lw_t5 (List.mem_of_getElem? (i := 142) rfl)⟩
def lw_privs_2 : List (MethodName × Nat) := [(⟨"RoadHouses", "findParty", "(LRoadHouses$Person;)I"⟩, 27), (⟨"RoadHouses", "isHunter", "(I)Z"⟩, 27), (⟨"RoadHouses", "isPersons", "(I)Z"⟩, 27), (⟨"RoadHouses", "isFound", "(LRoadHouses$Person;LRoadHouses$Hunter;I)Z"⟩, 27), (⟨"RoadHouses", "lawFor", "(CLRoadHouses$Person;LRoadHouses$Place;I)I"⟩, 27), (⟨"RoadHouses", "readLaw", "()LRoadHouses$Law;"⟩, 27), (⟨"RoadHouses", "next", "()I"⟩, 27), (⟨"RoadHouses", "wrong", "(I)LRoadHouses$Fault;"⟩, 27), (⟨"RoadHouses", "take", "(I)V"⟩, 27), (⟨"RoadHouses", "readTest", "()LRoadHouses$Test;"⟩, 27), (⟨"RoadHouses", "readCase", "()LRoadHouses$Test;"⟩, 27), (⟨"RoadHouses", "readClaim", "()LRoadHouses$Test;"⟩, 27), (⟨"RoadHouses", "readWord", "()I"⟩, 27), (⟨"RoadHouses", "isLaw", "(I)Z"⟩, 27), (⟨"RoadHouses", "findBand", "(I)LRoadHouses$Place;"⟩, 27), (⟨"RoadHouses", "takesBand", "(LRoadHouses$Place;LRoadHouses$House;)Z"⟩, 27)]
theorem lw_r2 : ∀ q ∈ lw_privs_2, lw_okq q := List.forall_mem_cons.mpr ⟨lw_p16, List.forall_mem_cons.mpr ⟨lw_p17, List.forall_mem_cons.mpr ⟨lw_p18, List.forall_mem_cons.mpr ⟨lw_p19, List.forall_mem_cons.mpr ⟨lw_p20, List.forall_mem_cons.mpr ⟨lw_p21, List.forall_mem_cons.mpr ⟨lw_p22, List.forall_mem_cons.mpr ⟨lw_p23, List.forall_mem_cons.mpr ⟨lw_p24, List.forall_mem_cons.mpr ⟨lw_p25, List.forall_mem_cons.mpr ⟨lw_p26, List.forall_mem_cons.mpr ⟨lw_p27, List.forall_mem_cons.mpr ⟨lw_p28, List.forall_mem_cons.mpr ⟨lw_p29, List.forall_mem_cons.mpr ⟨lw_p30, List.forall_mem_cons.mpr ⟨lw_p31, fun _ h => absurd h List.not_mem_nil⟩⟩⟩⟩⟩⟩⟩⟩⟩⟩⟩⟩⟩⟩⟩⟩
theorem lw_p32 : lw_okq (⟨"RoadHouses", "isDarkTill", "(I)Z"⟩, 27) := ⟨⟨by decide +kernel, by decide +kernel⟩, lw_t1 (List.mem_of_getElem? (i := 43) rfl), lw_t5 (List.mem_of_getElem? (i := 145) rfl), lw_t5 (List.mem_of_getElem? (i := 146) rfl)⟩
theorem lw_p33 : lw_okq (⟨"RoadHouses", "bestUnits", "(II)I"⟩, 27) := ⟨⟨by decide +kernel, by decide +kernel⟩, lw_t1 (List.mem_of_getElem? (i := 43) rfl), lw_t5 (List.mem_of_getElem? (i := 153) rfl), lw_t5 (List.mem_of_getElem? (i := 154) rfl)⟩
theorem lw_p34 : lw_okq (⟨"RoadHouses", "turnedFrom", "(I)I"⟩, 27) := ⟨⟨by decide +kernel, by decide +kernel⟩, lw_t1 (List.mem_of_getElem? (i := 43) rfl), lw_t5 (List.mem_of_getElem? (i := 161) rfl), lw_t5 (List.mem_of_getElem? (i := 162) rfl)⟩
theorem lw_p35 : lw_okq (⟨"RoadHouses", "findSteps", "(I)I"⟩, 27) := ⟨⟨by decide +kernel, by decide +kernel⟩, lw_t1 (List.mem_of_getElem? (i := 43) rfl), lw_t5 (List.mem_of_getElem? (i := 183) rfl), lw_t5 (List.mem_of_getElem? (i := 184) rfl)⟩
theorem lw_p36 : lw_okq (⟨"RoadHouses", "warnOn", "(I)Z"⟩, 27) := ⟨⟨by decide +kernel, by decide +kernel⟩, lw_t1 (List.mem_of_getElem? (i := 43) rfl), lw_t5 (List.mem_of_getElem? (i := 191) rfl), lw_t5 (List.mem_of_getElem? (i := 192) rfl)⟩
theorem lw_p37 : lw_okq (⟨"RoadHouses", "isSafe", "(II)Z"⟩, 27) := ⟨⟨by decide +kernel, by decide +kernel⟩, lw_t1 (List.mem_of_getElem? (i := 43) rfl), lw_t5 (List.mem_of_getElem? (i := 203) rfl), lw_t5 (List.mem_of_getElem? (i := 204) rfl)⟩
theorem lw_p38 : lw_okq (⟨"RoadHouses", "wasLit", "(II)Z"⟩, 27) := ⟨⟨by decide +kernel, by decide +kernel⟩, lw_t1 (List.mem_of_getElem? (i := 43) rfl), lw_t5 (List.mem_of_getElem? (i := 211) rfl), lw_t5 (List.mem_of_getElem? (i := 212) rfl)⟩
theorem lw_p39 : lw_okq (⟨"RoadHousesModel", "makes", "(IIIIII)I"⟩, 62) := ⟨⟨by decide +kernel, by decide +kernel⟩, lw_t6 (List.mem_of_getElem? (i := 111) rfl), lw_t7 (List.mem_of_getElem? (i := 68) rfl), lw_t7 (List.mem_of_getElem? (i := 69) rfl)⟩
theorem lw_p40 : lw_okq (⟨"RoadHousesModel", "isPlace", "(I)Z"⟩, 62) := ⟨⟨by decide +kernel, by decide +kernel⟩, lw_t6 (List.mem_of_getElem? (i := 111) rfl), lw_t7 (List.mem_of_getElem? (i := 98) rfl), lw_t7 (List.mem_of_getElem? (i := 99) rfl)⟩
theorem lw_p41 : lw_okq (⟨"RoadHousesModel", "farOf", "(II)I"⟩, 62) := ⟨⟨by decide +kernel, by decide +kernel⟩, lw_t6 (List.mem_of_getElem? (i := 111) rfl), lw_t7 (List.mem_of_getElem? (i := 106) rfl), lw_t7 (List.mem_of_getElem? (i := 107) rfl)⟩
theorem lw_p42 : lw_okq (⟨"RoadHousesModel", "isHouse", "(I)Z"⟩, 62) := ⟨⟨by decide +kernel, by decide +kernel⟩, lw_t6 (List.mem_of_getElem? (i := 111) rfl), lw_t7 (List.mem_of_getElem? (i := 114) rfl), lw_t7 (List.mem_of_getElem? (i := 115) rfl)⟩
theorem lw_p43 : lw_okq (⟨"RoadHousesModel", "isLit", "(II)Z"⟩, 62) := ⟨⟨by decide +kernel, by decide +kernel⟩, lw_t6 (List.mem_of_getElem? (i := 111) rfl), lw_t7 (List.mem_of_getElem? (i := 122) rfl), lw_t7 (List.mem_of_getElem? (i := 123) rfl)⟩
theorem lw_p44 : lw_okq (⟨"RoadHousesModel", "finds", "(IIII)I"⟩, 62) := ⟨⟨by decide +kernel, by decide +kernel⟩, lw_t6 (List.mem_of_getElem? (i := 111) rfl), lw_t7 (List.mem_of_getElem? (i := 142) rfl), lw_t7 (List.mem_of_getElem? (i := 143) rfl)⟩
theorem lw_p45 : lw_okq (⟨"RoadHousesModel", "bearsAt", "(II)Z"⟩, 62) := ⟨⟨by decide +kernel, by decide +kernel⟩, lw_t6 (List.mem_of_getElem? (i := 111) rfl), lw_t7 (List.mem_of_getElem? (i := 150) rfl), lw_t7 (List.mem_of_getElem? (i := 151) rfl)⟩
theorem lw_p46 : lw_okq (⟨"RoadHousesModel", "there", "(I)I"⟩, 62) := ⟨⟨by decide +kernel, by decide +kernel⟩, lw_t6 (List.mem_of_getElem? (i := 111) rfl), lw_t7 (List.mem_of_getElem? (i := 161) rfl), lw_t7 (List.mem_of_getElem? (i := 162) rfl)⟩
theorem lw_p47 : lw_okq (⟨"RoadHousesModel", "behind", "(I)I"⟩, 62) := ⟨⟨by decide +kernel, by decide +kernel⟩, lw_t6 (List.mem_of_getElem? (i := 111) rfl), lw_t7 (List.mem_of_getElem? (i := 165) rfl), lw_t7 (List.mem_of_getElem? (i := 166) rfl)⟩
def lw_privs_3 : List (MethodName × Nat) := [(⟨"RoadHouses", "isDarkTill", "(I)Z"⟩, 27), (⟨"RoadHouses", "bestUnits", "(II)I"⟩, 27), (⟨"RoadHouses", "turnedFrom", "(I)I"⟩, 27), (⟨"RoadHouses", "findSteps", "(I)I"⟩, 27), (⟨"RoadHouses", "warnOn", "(I)Z"⟩, 27), (⟨"RoadHouses", "isSafe", "(II)Z"⟩, 27), (⟨"RoadHouses", "wasLit", "(II)Z"⟩, 27), (⟨"RoadHousesModel", "makes", "(IIIIII)I"⟩, 62), (⟨"RoadHousesModel", "isPlace", "(I)Z"⟩, 62), (⟨"RoadHousesModel", "farOf", "(II)I"⟩, 62), (⟨"RoadHousesModel", "isHouse", "(I)Z"⟩, 62), (⟨"RoadHousesModel", "isLit", "(II)Z"⟩, 62), (⟨"RoadHousesModel", "finds", "(IIII)I"⟩, 62), (⟨"RoadHousesModel", "bearsAt", "(II)Z"⟩, 62), (⟨"RoadHousesModel", "there", "(I)I"⟩, 62), (⟨"RoadHousesModel", "behind", "(I)I"⟩, 62)]
theorem lw_r3 : ∀ q ∈ lw_privs_3, lw_okq q := List.forall_mem_cons.mpr ⟨lw_p32, List.forall_mem_cons.mpr ⟨lw_p33, List.forall_mem_cons.mpr ⟨lw_p34, List.forall_mem_cons.mpr ⟨lw_p35, List.forall_mem_cons.mpr ⟨lw_p36, List.forall_mem_cons.mpr ⟨lw_p37, List.forall_mem_cons.mpr ⟨lw_p38, List.forall_mem_cons.mpr ⟨lw_p39, List.forall_mem_cons.mpr ⟨lw_p40, List.forall_mem_cons.mpr ⟨lw_p41, List.forall_mem_cons.mpr ⟨lw_p42, List.forall_mem_cons.mpr ⟨lw_p43, List.forall_mem_cons.mpr ⟨lw_p44, List.forall_mem_cons.mpr ⟨lw_p45, List.forall_mem_cons.mpr ⟨lw_p46, List.forall_mem_cons.mpr ⟨lw_p47, fun _ h => absurd h List.not_mem_nil⟩⟩⟩⟩⟩⟩⟩⟩⟩⟩⟩⟩⟩⟩⟩⟩
theorem lw_p48 : lw_okq (⟨"RoadHousesModel", "coming", "(I)I"⟩, 62) := ⟨⟨by decide +kernel, by decide +kernel⟩, lw_t6 (List.mem_of_getElem? (i := 111) rfl), lw_t7 (List.mem_of_getElem? (i := 169) rfl), lw_t7 (List.mem_of_getElem? (i := 170) rfl)⟩
theorem lw_p49 : lw_okq (⟨"RoadHousesModel", "bitsKnown", "(I)I"⟩, 62) := ⟨⟨by decide +kernel, by decide +kernel⟩, lw_t6 (List.mem_of_getElem? (i := 111) rfl), lw_t7 (List.mem_of_getElem? (i := 173) rfl), lw_t7 (List.mem_of_getElem? (i := 174) rfl)⟩
theorem lw_p50 : lw_okq (⟨"RoadHousesModel", "hasBeds", "(II)Z"⟩, 62) := ⟨⟨by decide +kernel, by decide +kernel⟩, lw_t6 (List.mem_of_getElem? (i := 111) rfl), lw_t7 (List.mem_of_getElem? (i := 181) rfl), lw_t7 (List.mem_of_getElem? (i := 182) rfl)⟩
theorem lw_p51 : lw_okq (⟨"RoadHousesModel", "comes", "(III)I"⟩, 62) := ⟨⟨by decide +kernel, by decide +kernel⟩, lw_t6 (List.mem_of_getElem? (i := 111) rfl), lw_t7 (List.mem_of_getElem? (i := 185) rfl), lw_t7 (List.mem_of_getElem? (i := 186) rfl)⟩
theorem lw_p52 : lw_okq (⟨"RoadHousesModel", "isPerson", "(I)Z"⟩, 62) := ⟨⟨by decide +kernel, by decide +kernel⟩, lw_t6 (List.mem_of_getElem? (i := 111) rfl), lw_t7 (List.mem_of_getElem? (i := 193) rfl), lw_t7 (List.mem_of_getElem? (i := 194) rfl)⟩
theorem lw_p53 : lw_okq (⟨"RoadHousesModel", "isAt", "(I)Z"⟩, 62) := ⟨⟨by decide +kernel, by decide +kernel⟩, lw_t6 (List.mem_of_getElem? (i := 111) rfl), lw_t7 (List.mem_of_getElem? (i := 197) rfl), lw_t7 (List.mem_of_getElem? (i := 198) rfl)⟩
theorem lw_p54 : lw_okq (⟨"RoadHousesModel", "childrenOf", "(I)I"⟩, 62) := ⟨⟨by decide +kernel, by decide +kernel⟩, lw_t6 (List.mem_of_getElem? (i := 111) rfl), lw_t7 (List.mem_of_getElem? (i := 209) rfl), lw_t7 (List.mem_of_getElem? (i := 210) rfl)⟩
theorem lw_p55 : lw_okq (⟨"RoadHousesModel", "arrives", "(II)I"⟩, 62) := ⟨⟨by decide +kernel, by decide +kernel⟩, lw_t6 (List.mem_of_getElem? (i := 111) rfl), lw_t7 (List.mem_of_getElem? (i := 219) rfl), lw_t7 (List.mem_of_getElem? (i := 220) rfl)⟩
theorem lw_p56 : lw_okq (⟨"RoadHousesModel", "slow", "(I)I"⟩, 62) := ⟨⟨by decide +kernel, by decide +kernel⟩, lw_t6 (List.mem_of_getElem? (i := 111) rfl), lw_t7 (List.mem_of_getElem? (i := 223) rfl), lw_t7 (List.mem_of_getElem? (i := 224) rfl)⟩
theorem lw_p57 : lw_okq (⟨"RoadHousesModel", "party", "(I)I"⟩, 62) := ⟨⟨by decide +kernel, by decide +kernel⟩, lw_t6 (List.mem_of_getElem? (i := 111) rfl), lw_t7 (List.mem_of_getElem? (i := 227) rfl), lw_t7 (List.mem_of_getElem? (i := 228) rfl)⟩
theorem lw_p58 : lw_okq (⟨"RoadHousesModel", "hasScent", "(I)Z"⟩, 62) := ⟨⟨by decide +kernel, by decide +kernel⟩, lw_t6 (List.mem_of_getElem? (i := 111) rfl), lw_t8 (List.mem_of_getElem? (i := 11) rfl), lw_t8 (List.mem_of_getElem? (i := 12) rfl)⟩
theorem lw_p59 : lw_okq (⟨"RoadHousesModel", "isHunter", "(I)Z"⟩, 62) := ⟨⟨by decide +kernel, by decide +kernel⟩, lw_t6 (List.mem_of_getElem? (i := 111) rfl), lw_t8 (List.mem_of_getElem? (i := 23) rfl), lw_t8 (List.mem_of_getElem? (i := 24) rfl)⟩
theorem lw_p60 : lw_okq (⟨"RoadHousesModel", "arePersons", "(I)Z"⟩, 62) := ⟨⟨by decide +kernel, by decide +kernel⟩, lw_t6 (List.mem_of_getElem? (i := 111) rfl), lw_t8 (List.mem_of_getElem? (i := 31) rfl), lw_t8 (List.mem_of_getElem? (i := 32) rfl)⟩
theorem lw_p61 : lw_okq (⟨"RoadHousesModel", "whyOf", "(IIII)I"⟩, 62) := ⟨⟨by decide +kernel, by decide +kernel⟩, lw_t6 (List.mem_of_getElem? (i := 111) rfl), lw_t8 (List.mem_of_getElem? (i := 39) rfl), lw_t8 (List.mem_of_getElem? (i := 40) rfl)⟩
theorem lw_p62 : lw_okq (⟨"RoadHousesModel", "holds", "(IIII)Z"⟩, 62) := ⟨⟨by decide +kernel, by decide +kernel⟩, lw_t6 (List.mem_of_getElem? (i := 111) rfl), lw_t8 (List.mem_of_getElem? (i := 43) rfl), lw_t8 (List.mem_of_getElem? (i := 44) rfl)⟩
theorem lw_p63 : lw_okq (⟨"RoadHousesModel", "nameOf", "(IIII)I"⟩, 62) := ⟨⟨by decide +kernel, by decide +kernel⟩, lw_t6 (List.mem_of_getElem? (i := 111) rfl), lw_t8 (List.mem_of_getElem? (i := 47) rfl), lw_t8 (List.mem_of_getElem? (i := 48) rfl)⟩
def lw_privs_4 : List (MethodName × Nat) := [(⟨"RoadHousesModel", "coming", "(I)I"⟩, 62), (⟨"RoadHousesModel", "bitsKnown", "(I)I"⟩, 62), (⟨"RoadHousesModel", "hasBeds", "(II)Z"⟩, 62), (⟨"RoadHousesModel", "comes", "(III)I"⟩, 62), (⟨"RoadHousesModel", "isPerson", "(I)Z"⟩, 62), (⟨"RoadHousesModel", "isAt", "(I)Z"⟩, 62), (⟨"RoadHousesModel", "childrenOf", "(I)I"⟩, 62), (⟨"RoadHousesModel", "arrives", "(II)I"⟩, 62), (⟨"RoadHousesModel", "slow", "(I)I"⟩, 62), (⟨"RoadHousesModel", "party", "(I)I"⟩, 62), (⟨"RoadHousesModel", "hasScent", "(I)Z"⟩, 62), (⟨"RoadHousesModel", "isHunter", "(I)Z"⟩, 62), (⟨"RoadHousesModel", "arePersons", "(I)Z"⟩, 62), (⟨"RoadHousesModel", "whyOf", "(IIII)I"⟩, 62), (⟨"RoadHousesModel", "holds", "(IIII)Z"⟩, 62), (⟨"RoadHousesModel", "nameOf", "(IIII)I"⟩, 62)]
theorem lw_r4 : ∀ q ∈ lw_privs_4, lw_okq q := List.forall_mem_cons.mpr ⟨lw_p48, List.forall_mem_cons.mpr ⟨lw_p49, List.forall_mem_cons.mpr ⟨lw_p50, List.forall_mem_cons.mpr ⟨lw_p51, List.forall_mem_cons.mpr ⟨lw_p52, List.forall_mem_cons.mpr ⟨lw_p53, List.forall_mem_cons.mpr ⟨lw_p54, List.forall_mem_cons.mpr ⟨lw_p55, List.forall_mem_cons.mpr ⟨lw_p56, List.forall_mem_cons.mpr ⟨lw_p57, List.forall_mem_cons.mpr ⟨lw_p58, List.forall_mem_cons.mpr ⟨lw_p59, List.forall_mem_cons.mpr ⟨lw_p60, List.forall_mem_cons.mpr ⟨lw_p61, List.forall_mem_cons.mpr ⟨lw_p62, List.forall_mem_cons.mpr ⟨lw_p63, fun _ h => absurd h List.not_mem_nil⟩⟩⟩⟩⟩⟩⟩⟩⟩⟩⟩⟩⟩⟩⟩⟩
theorem lw_p64 : lw_okq (⟨"RoadHousesModel", "next", "()I"⟩, 62) := ⟨⟨by decide +kernel, by decide +kernel⟩, lw_t6 (List.mem_of_getElem? (i := 111) rfl), lw_t8 (List.mem_of_getElem? (i := 70) rfl), lw_t8 (List.mem_of_getElem? (i := 71) rfl)⟩
theorem lw_p65 : lw_okq (⟨"RoadHousesModel", "needs", "(I)V"⟩, 62) := ⟨⟨by decide +kernel, by decide +kernel⟩, lw_t6 (List.mem_of_getElem? (i := 111) rfl), lw_t8 (List.mem_of_getElem? (i := 76) rfl), lw_t8 (List.mem_of_getElem? (i := 77) rfl)⟩
theorem lw_p66 : lw_okq (⟨"RoadHousesModel", "test", "()V"⟩, 62) := ⟨⟨by decide +kernel, by decide +kernel⟩, lw_t6 (List.mem_of_getElem? (i := 111) rfl), lw_t8 (List.mem_of_getElem? (i := 80) rfl), lw_t8 (List.mem_of_getElem? (i := 81) rfl)⟩
theorem lw_p67 : lw_okq (⟨"RoadHousesModel", "passes", "(I)Z"⟩, 62) := ⟨⟨by decide +kernel, by decide +kernel⟩, lw_t6 (List.mem_of_getElem? (i := 111) rfl), lw_t8 (List.mem_of_getElem? (i := 84) rfl), lw_t8 (List.mem_of_getElem? (i := 85) rfl)⟩
theorem lw_p68 : lw_okq (⟨"RoadHousesModel", "claim", "()V"⟩, 62) := ⟨⟨by decide +kernel, by decide +kernel⟩, lw_t6 (List.mem_of_getElem? (i := 111) rfl), lw_t8 (List.mem_of_getElem? (i := 88) rfl), lw_t8 (List.mem_of_getElem? (i := 89) rfl)⟩
theorem lw_p69 : lw_okq (⟨"RoadHousesModel", "word", "()V"⟩, 62) := ⟨⟨by decide +kernel, by decide +kernel⟩, lw_t6 (List.mem_of_getElem? (i := 111) rfl), lw_t8 (List.mem_of_getElem? (i := 92) rfl), lw_t8 (List.mem_of_getElem? (i := 93) rfl)⟩
theorem lw_p70 : lw_okq (⟨"RoadHousesModel", "emits", "(II)V"⟩, 62) := ⟨⟨by decide +kernel, by decide +kernel⟩, lw_t6 (List.mem_of_getElem? (i := 111) rfl), lw_t8 (List.mem_of_getElem? (i := 97) rfl), lw_t8 (List.mem_of_getElem? (i := 98) rfl)⟩
theorem lw_p71 : lw_okq (⟨"RoadHousesModel", "goesOn", "(I)Z"⟩, 62) := ⟨⟨by decide +kernel, by decide +kernel⟩, lw_t6 (List.mem_of_getElem? (i := 111) rfl), lw_t8 (List.mem_of_getElem? (i := 101) rfl), lw_t8 (List.mem_of_getElem? (i := 102) rfl)⟩
theorem lw_p72 : lw_okq (⟨"RoadHousesModel", "isLaw", "(I)Z"⟩, 62) := ⟨⟨by decide +kernel, by decide +kernel⟩, lw_t6 (List.mem_of_getElem? (i := 111) rfl), lw_t8 (List.mem_of_getElem? (i := 109) rfl), lw_t8 (List.mem_of_getElem? (i := 110) rfl)⟩
theorem lw_p73 : lw_okq (⟨"RoadHousesModel", "areWhole", "(I)Z"⟩, 62) := ⟨⟨by decide +kernel, by decide +kernel⟩, lw_t6 (List.mem_of_getElem? (i := 111) rfl), lw_t8 (List.mem_of_getElem? (i := 130) rfl), lw_t8 (List.mem_of_getElem? (i := 131) rfl)⟩
theorem lw_p74 : lw_okq (⟨"RoadHousesModel", "isRoad", "(III)Z"⟩, 62) := ⟨⟨by decide +kernel, by decide +kernel⟩, lw_t6 (List.mem_of_getElem? (i := 111) rfl), lw_t8 (List.mem_of_getElem? (i := 137) rfl), lw_t8 (List.mem_of_getElem? (i := 138) rfl)⟩
theorem lw_p75 : lw_okq (⟨"RoadHousesModel", "families", "(I)I"⟩, 62) := ⟨⟨by decide +kernel, by decide +kernel⟩, lw_t6 (List.mem_of_getElem? (i := 111) rfl), lw_t8 (List.mem_of_getElem? (i := 146) rfl), lw_t8 (List.mem_of_getElem? (i := 147) rfl)⟩
theorem lw_p76 : lw_okq (⟨"RoadHousesModel", "strengthOf", "(I)I"⟩, 62) := ⟨⟨by decide +kernel, by decide +kernel⟩, lw_t6 (List.mem_of_getElem? (i := 111) rfl), lw_t8 (List.mem_of_getElem? (i := 150) rfl), lw_t8 (List.mem_of_getElem? (i := 151) rfl)⟩
theorem lw_p77 : lw_okq (⟨"RoadHousesModel", "turnedFrom", "(I)I"⟩, 62) := ⟨⟨by decide +kernel, by decide +kernel⟩, lw_t6 (List.mem_of_getElem? (i := 111) rfl), lw_t8 (List.mem_of_getElem? (i := 162) rfl), lw_t8 (List.mem_of_getElem? (i := 163) rfl)⟩
theorem lw_p78 : lw_okq (⟨"RoadHousesModel", "talks", "(II)V"⟩, 62) := ⟨⟨by decide +kernel, by decide +kernel⟩, lw_t6 (List.mem_of_getElem? (i := 111) rfl), lw_t8 (List.mem_of_getElem? (i := 174) rfl), lw_t8 (List.mem_of_getElem? (i := 175) rfl)⟩
theorem lw_p79 : lw_okq (⟨"RoadHousesModel", "isCut", "(III)Z"⟩, 62) := ⟨⟨by decide +kernel, by decide +kernel⟩, lw_t6 (List.mem_of_getElem? (i := 111) rfl), lw_t8 (List.mem_of_getElem? (i := 178) rfl), lw_t8 (List.mem_of_getElem? (i := 179) rfl)⟩
def lw_privs_5 : List (MethodName × Nat) := [(⟨"RoadHousesModel", "next", "()I"⟩, 62), (⟨"RoadHousesModel", "needs", "(I)V"⟩, 62), (⟨"RoadHousesModel", "test", "()V"⟩, 62), (⟨"RoadHousesModel", "passes", "(I)Z"⟩, 62), (⟨"RoadHousesModel", "claim", "()V"⟩, 62), (⟨"RoadHousesModel", "word", "()V"⟩, 62), (⟨"RoadHousesModel", "emits", "(II)V"⟩, 62), (⟨"RoadHousesModel", "goesOn", "(I)Z"⟩, 62), (⟨"RoadHousesModel", "isLaw", "(I)Z"⟩, 62), (⟨"RoadHousesModel", "areWhole", "(I)Z"⟩, 62), (⟨"RoadHousesModel", "isRoad", "(III)Z"⟩, 62), (⟨"RoadHousesModel", "families", "(I)I"⟩, 62), (⟨"RoadHousesModel", "strengthOf", "(I)I"⟩, 62), (⟨"RoadHousesModel", "turnedFrom", "(I)I"⟩, 62), (⟨"RoadHousesModel", "talks", "(II)V"⟩, 62), (⟨"RoadHousesModel", "isCut", "(III)Z"⟩, 62)]
theorem lw_r5 : ∀ q ∈ lw_privs_5, lw_okq q := List.forall_mem_cons.mpr ⟨lw_p64, List.forall_mem_cons.mpr ⟨lw_p65, List.forall_mem_cons.mpr ⟨lw_p66, List.forall_mem_cons.mpr ⟨lw_p67, List.forall_mem_cons.mpr ⟨lw_p68, List.forall_mem_cons.mpr ⟨lw_p69, List.forall_mem_cons.mpr ⟨lw_p70, List.forall_mem_cons.mpr ⟨lw_p71, List.forall_mem_cons.mpr ⟨lw_p72, List.forall_mem_cons.mpr ⟨lw_p73, List.forall_mem_cons.mpr ⟨lw_p74, List.forall_mem_cons.mpr ⟨lw_p75, List.forall_mem_cons.mpr ⟨lw_p76, List.forall_mem_cons.mpr ⟨lw_p77, List.forall_mem_cons.mpr ⟨lw_p78, List.forall_mem_cons.mpr ⟨lw_p79, fun _ h => absurd h List.not_mem_nil⟩⟩⟩⟩⟩⟩⟩⟩⟩⟩⟩⟩⟩⟩⟩⟩
theorem lw_p80 : lw_okq (⟨"RoadHousesModel", "isSafe", "(II)Z"⟩, 62) := ⟨⟨by decide +kernel, by decide +kernel⟩, lw_t6 (List.mem_of_getElem? (i := 111) rfl), lw_t8 (List.mem_of_getElem? (i := 195) rfl), lw_t8 (List.mem_of_getElem? (i := 196) rfl)⟩
def lw_privs_6 : List (MethodName × Nat) := [(⟨"RoadHousesModel", "isSafe", "(II)Z"⟩, 62)]
theorem lw_r6 : ∀ q ∈ lw_privs_6, lw_okq q := List.forall_mem_cons.mpr ⟨lw_p80, fun _ h => absurd h List.not_mem_nil⟩
def lw_privs : List (MethodName × Nat) := lw_privs_1 ++ (lw_privs_2 ++ (lw_privs_3 ++ (lw_privs_4 ++ (lw_privs_5 ++ (lw_privs_6)))))
def lw_tbl : List Cond := k2_sels lw_privs ++ tables_1
theorem lw_privs_ok : ∀ q ∈ lw_privs, lw_okq q := by
  show ∀ q ∈ lw_privs_1 ++ (lw_privs_2 ++ (lw_privs_3 ++ (lw_privs_4 ++ (lw_privs_5 ++ (lw_privs_6))))), lw_okq q
  exact List.forall_mem_append.mpr ⟨lw_r1, List.forall_mem_append.mpr ⟨lw_r2, List.forall_mem_append.mpr ⟨lw_r3, List.forall_mem_append.mpr ⟨lw_r4, List.forall_mem_append.mpr ⟨lw_r5, lw_r6⟩⟩⟩⟩⟩
-- ===== ONE list of words for every method: the tables' words that hold all through a run =====
def lw_all : List Cond := lw_tbl.filter goodWord
/-- a word of the tables by its place: claim/WORDS.tsv -/
theorem lw_w {w : Cond} (i : Nat) (h : lw_tbl[i]? = some w) (g : goodWord w = true) : w ∈ lw_all := List.mem_filter.mpr ⟨List.mem_of_getElem? h, g⟩
theorem lw_all_tbl {w : Cond} (h : w ∈ lw_all) : w ∈ lw_tbl := (List.mem_filter.mp h).1
theorem lw_self : GoodIn lw_all lw_all := fun w h => ⟨h, good_of_word (List.mem_filter.mp h).2⟩
/-- a class's field words, by their places -/
theorem lw_in (ws : List Cond) (ps : List Nat) (hp : ws = ps.filterMap (fun i => lw_tbl[i]?)) (hg : ws.all goodWord = true) : ∀ w ∈ ws, w ∈ lw_all := by
  intro w h
  have h1 := List.all_eq_true.mp hg w h
  rw [hp] at h
  obtain ⟨i, -, hi⟩ := List.mem_filterMap.mp h
  exact lw_w i hi h1
/-- the words of a contract for the method y with code b, L locals, answer r -/
abbrev ws_ (y : MethodName) (b : ByteArray) (L : Nat) (r : Option FieldType) : List Cond := Cond.code y b L r :: lw_all
theorem lw_meth {y : MethodName} {b : ByteArray} {L : Nat} {r : Option FieldType} (h : Cond.code y b L r ∈ lw_all) : GoodIn lw_all (ws_ y b L r) := by
  intro w hw
  rcases List.mem_cons.mp hw with e | e
  · rw [e]
    exact lw_self _ h
  · exact lw_self _ e
theorem lw_app {a c : List Cond} (ha : ∀ w ∈ a, w ∈ lw_all) (hc : GoodIn lw_all c) : GoodIn lw_all (a ++ c) := by
  intro w hw
  rcases List.mem_append.mp hw with e | e
  · exact lw_self w (ha w e)
  · exact hc w e
/-- what a call through an object asks: cwV n hts (lw_V ..) -/
theorem lw_V {own : String} {idx : Nat} {C : String} {y : MethodName} {b : ByteArray} {L : Nat} {r : Option FieldType} (h1 : Cond.methodLink own idx y ∈ lw_all) (h2 : Cond.instanceMethod y ∈ lw_all) (h3 : Cond.selects C y y ∈ lw_all) (h4 : Cond.initialized C ∈ lw_all) (h5 : Cond.code y b L r ∈ lw_all) : GoodIn lw_all (wsV own idx C y (ws_ y b L r)) := by
  refine lw_app ?_ (lw_meth h5)
  intro w hw
  simp only [List.mem_cons, List.not_mem_nil, or_false] at hw
  rcases hw with e | e | e | e
  · rw [e]; exact h1
  · rw [e]; exact h2
  · rw [e]; exact h3
  · rw [e]; exact h4
/-- what a static call asks: va_cwS n hts (lw_S ..) -/
theorem lw_S {own : String} {idx : Nat} {y : MethodName} {b : ByteArray} {L : Nat} {r : Option FieldType} (h1 : Cond.methodLink own idx y ∈ lw_all) (h2 : Cond.static y ∈ lw_all) (h3 : Cond.initialized y.cls ∈ lw_all) (h4 : Cond.code y b L r ∈ lw_all) : GoodIn lw_all (va_wsS own idx y (ws_ y b L r)) := by
  refine lw_app ?_ (lw_meth h4)
  intro w hw
  simp only [List.mem_cons, List.not_mem_nil, or_false] at hw
  rcases hw with e | e | e
  · rw [e]; exact h1
  · rw [e]; exact h2
  · rw [e]; exact h3
/-- the words of a contract for a method WITH HANDLERS (hh: its table) -/
abbrev wsW_ (y : MethodName) (b : ByteArray) (L : Nat) (r : Option FieldType) (hh : List (Nat × Nat × Nat × Nat)) : List Cond := Cond.codeWith y b L r hh :: lw_all
theorem lw_methW {y : MethodName} {b : ByteArray} {L : Nat} {r : Option FieldType} {hh : List (Nat × Nat × Nat × Nat)} (h : Cond.codeWith y b L r hh ∈ lw_all) : GoodIn lw_all (wsW_ y b L r hh) := by
  intro w hw
  rcases List.mem_cons.mp hw with e | e
  · rw [e]
    exact lw_self _ h
  · exact lw_self _ e
/-- any list of words by their places (lw_in), good -/
theorem lw_good {ws : List Cond} (h : ∀ w ∈ ws, w ∈ lw_all) : GoodIn lw_all ws := fun w hw => lw_self w (h w hw)
/-- what a call of a method with handlers asks: vx_cwVW n hts (lw_VW ..), vx_cwSW n hts (lw_SW ..) -/
theorem lw_VW {own : String} {idx : Nat} {C : String} {y : MethodName} {b : ByteArray} {L : Nat} {r : Option FieldType} {hh : List (Nat × Nat × Nat × Nat)} (h1 : Cond.methodLink own idx y ∈ lw_all) (h2 : Cond.instanceMethod y ∈ lw_all) (h3 : Cond.selects C y y ∈ lw_all) (h4 : Cond.initialized C ∈ lw_all) (h5 : Cond.codeWith y b L r hh ∈ lw_all) : GoodIn lw_all (wsV own idx C y (wsW_ y b L r hh)) := by
  refine lw_app ?_ (lw_methW h5)
  intro w hw
  simp only [List.mem_cons, List.not_mem_nil, or_false] at hw
  rcases hw with e | e | e | e
  · rw [e]; exact h1
  · rw [e]; exact h2
  · rw [e]; exact h3
  · rw [e]; exact h4
theorem lw_SW {own : String} {idx : Nat} {y : MethodName} {b : ByteArray} {L : Nat} {r : Option FieldType} {hh : List (Nat × Nat × Nat × Nat)} (h1 : Cond.methodLink own idx y ∈ lw_all) (h2 : Cond.static y ∈ lw_all) (h3 : Cond.initialized y.cls ∈ lw_all) (h4 : Cond.codeWith y b L r hh ∈ lw_all) : GoodIn lw_all (va_wsS own idx y (wsW_ y b L r hh)) := by
  refine lw_app ?_ (lw_methW h4)
  intro w hw
  simp only [List.mem_cons, List.not_mem_nil, or_false] at hw
  rcases hw with e | e | e
  · rw [e]; exact h1
  · rw [e]; exact h2
  · rw [e]; exact h3
/-- a word by its place in its run of the tables -/
theorem lw_at {r : List Cond} (hr : ∀ w ∈ r, w ∈ lw_tbl) {w : Cond} (i : Nat) (h : r[i]? = some w) : w ∈ lw_tbl := hr w (List.mem_of_getElem? h)
theorem lw_g {w : Cond} (h : w ∈ lw_tbl) (g : goodWord w = true) : w ∈ lw_all := List.mem_filter.mpr ⟨h, g⟩
theorem lw_ms : ∀ w ∈ k2_sels lw_privs, w ∈ lw_tbl := fun w h => show w ∈ k2_sels lw_privs ++ tables_1 from List.mem_append_left _ h
theorem lw_m1 : ∀ w ∈ tables_1_1, w ∈ lw_tbl := fun w h => show w ∈ k2_sels lw_privs ++ tables_1 from List.mem_append_right (k2_sels lw_privs) (show w ∈ tables_1 from List.mem_append_left _ h)
theorem lw_m2 : ∀ w ∈ tables_1_2, w ∈ lw_tbl := fun w h => show w ∈ k2_sels lw_privs ++ tables_1 from List.mem_append_right (k2_sels lw_privs) (show w ∈ tables_1 from List.mem_append_right _ (List.mem_append_left _ h))
theorem lw_m3 : ∀ w ∈ tables_1_3, w ∈ lw_tbl := fun w h => show w ∈ k2_sels lw_privs ++ tables_1 from List.mem_append_right (k2_sels lw_privs) (show w ∈ tables_1 from List.mem_append_right _ (List.mem_append_right _ (List.mem_append_left _ h)))
theorem lw_m4 : ∀ w ∈ tables_1_4, w ∈ lw_tbl := fun w h => show w ∈ k2_sels lw_privs ++ tables_1 from List.mem_append_right (k2_sels lw_privs) (show w ∈ tables_1 from List.mem_append_right _ (List.mem_append_right _ (List.mem_append_right _ (List.mem_append_left _ h))))
theorem lw_m5 : ∀ w ∈ tables_1_5, w ∈ lw_tbl := fun w h => show w ∈ k2_sels lw_privs ++ tables_1 from List.mem_append_right (k2_sels lw_privs) (show w ∈ tables_1 from List.mem_append_right _ (List.mem_append_right _ (List.mem_append_right _ (List.mem_append_right _ (List.mem_append_left _ h)))))
theorem lw_m6 : ∀ w ∈ tables_1_6, w ∈ lw_tbl := fun w h => show w ∈ k2_sels lw_privs ++ tables_1 from List.mem_append_right (k2_sels lw_privs) (show w ∈ tables_1 from List.mem_append_right _ (List.mem_append_right _ (List.mem_append_right _ (List.mem_append_right _ (List.mem_append_right _ (List.mem_append_left _ h))))))
theorem lw_m7 : ∀ w ∈ tables_1_7, w ∈ lw_tbl := fun w h => show w ∈ k2_sels lw_privs ++ tables_1 from List.mem_append_right (k2_sels lw_privs) (show w ∈ tables_1 from List.mem_append_right _ (List.mem_append_right _ (List.mem_append_right _ (List.mem_append_right _ (List.mem_append_right _ (List.mem_append_right _ (List.mem_append_left _ h)))))))
theorem lw_m8 : ∀ w ∈ tables_1_8, w ∈ lw_tbl := fun w h => show w ∈ k2_sels lw_privs ++ tables_1 from List.mem_append_right (k2_sels lw_privs) (show w ∈ tables_1 from List.mem_append_right _ (List.mem_append_right _ (List.mem_append_right _ (List.mem_append_right _ (List.mem_append_right _ (List.mem_append_right _ (List.mem_append_right _ (List.mem_append_left _ h))))))))
theorem lw_m9 : ∀ w ∈ tables_1_9, w ∈ lw_tbl := fun w h => show w ∈ k2_sels lw_privs ++ tables_1 from List.mem_append_right (k2_sels lw_privs) (show w ∈ tables_1 from List.mem_append_right _ (List.mem_append_right _ (List.mem_append_right _ (List.mem_append_right _ (List.mem_append_right _ (List.mem_append_right _ (List.mem_append_right _ (List.mem_append_right _ h))))))))
theorem qs0 : (Cond.selects "java/lang/NullPointerException" ⟨"java/lang/NullPointerException", "getExtendedNPEMessage", "()Ljava/lang/String;"⟩ ⟨"java/lang/NullPointerException", "getExtendedNPEMessage", "()Ljava/lang/String;"⟩) ∈ lw_all := lw_g (lw_at lw_ms 0 rfl) rfl
theorem qs1 : (Cond.selects "java/lang/Throwable" ⟨"java/lang/Throwable", "fillInStackTrace", "(I)Ljava/lang/Throwable;"⟩ ⟨"java/lang/Throwable", "fillInStackTrace", "(I)Ljava/lang/Throwable;"⟩) ∈ lw_all := lw_g (lw_at lw_ms 1 rfl) rfl
theorem qs2 : (Cond.selects "RoadHouses" ⟨"RoadHouses", "isFull", "()Z"⟩ ⟨"RoadHouses", "isFull", "()Z"⟩) ∈ lw_all := lw_g (lw_at lw_ms 2 rfl) rfl
theorem qs3 : (Cond.selects "RoadHouses" ⟨"RoadHouses", "add", "(LRoadHouses$Place;)I"⟩ ⟨"RoadHouses", "add", "(LRoadHouses$Place;)I"⟩) ∈ lw_all := lw_g (lw_at lw_ms 3 rfl) rfl
theorem qs4 : (Cond.selects "java/util/ArrayList" ⟨"java/util/ArrayList", "add", "(Ljava/lang/Object;[Ljava/lang/Object;I)V"⟩ ⟨"java/util/ArrayList", "add", "(Ljava/lang/Object;[Ljava/lang/Object;I)V"⟩) ∈ lw_all := lw_g (lw_at lw_ms 4 rfl) rfl
theorem qs5 : (Cond.selects "java/util/ArrayList" ⟨"java/util/ArrayList", "grow", "()[Ljava/lang/Object;"⟩ ⟨"java/util/ArrayList", "grow", "()[Ljava/lang/Object;"⟩) ∈ lw_all := lw_g (lw_at lw_ms 5 rfl) rfl
theorem qs6 : (Cond.selects "java/util/ArrayList" ⟨"java/util/ArrayList", "grow", "(I)[Ljava/lang/Object;"⟩ ⟨"java/util/ArrayList", "grow", "(I)[Ljava/lang/Object;"⟩) ∈ lw_all := lw_g (lw_at lw_ms 6 rfl) rfl
theorem qs7 : (Cond.selects "RoadHouses" ⟨"RoadHouses", "isPlace", "(I)Z"⟩ ⟨"RoadHouses", "isPlace", "(I)Z"⟩) ∈ lw_all := lw_g (lw_at lw_ms 7 rfl) rfl
theorem qs8 : (Cond.selects "RoadHouses" ⟨"RoadHouses", "findFar", "(I)V"⟩ ⟨"RoadHouses", "findFar", "(I)V"⟩) ∈ lw_all := lw_g (lw_at lw_ms 8 rfl) rfl
theorem qs9 : (Cond.selects "RoadHouses" ⟨"RoadHouses", "houseAt", "(I)LRoadHouses$House;"⟩ ⟨"RoadHouses", "houseAt", "(I)LRoadHouses$House;"⟩) ∈ lw_all := lw_g (lw_at lw_ms 9 rfl) rfl
theorem qs10 : (Cond.selects "RoadHouses" ⟨"RoadHouses", "manyAt", "(LRoadHouses$Place;I)I"⟩ ⟨"RoadHouses", "manyAt", "(LRoadHouses$Place;I)I"⟩) ∈ lw_all := lw_g (lw_at lw_ms 10 rfl) rfl
theorem qs11 : (Cond.selects "RoadHouses" ⟨"RoadHouses", "newPerson", "(ILRoadHouses$Person;LRoadHouses$Place;)I"⟩ ⟨"RoadHouses", "newPerson", "(ILRoadHouses$Person;LRoadHouses$Place;)I"⟩) ∈ lw_all := lw_g (lw_at lw_ms 11 rfl) rfl
theorem qs12 : (Cond.selects "RoadHouses" ⟨"RoadHouses", "bedsLeft", "(LRoadHouses$Place;)I"⟩ ⟨"RoadHouses", "bedsLeft", "(LRoadHouses$Place;)I"⟩) ∈ lw_all := lw_g (lw_at lw_ms 12 rfl) rfl
theorem qs13 : (Cond.selects "RoadHouses" ⟨"RoadHouses", "addPerson", "(ILRoadHouses$Person;LRoadHouses$Place;)I"⟩ ⟨"RoadHouses", "addPerson", "(ILRoadHouses$Person;LRoadHouses$Place;)I"⟩) ∈ lw_all := lw_g (lw_at lw_ms 13 rfl) rfl
theorem qs14 : (Cond.selects "RoadHouses" ⟨"RoadHouses", "isPerson", "(I)Z"⟩ ⟨"RoadHouses", "isPerson", "(I)Z"⟩) ∈ lw_all := lw_g (lw_at lw_ms 14 rfl) rfl
theorem qs15 : (Cond.selects "RoadHouses" ⟨"RoadHouses", "canPass", "(LRoadHouses$Place;LRoadHouses$Place;)Z"⟩ ⟨"RoadHouses", "canPass", "(LRoadHouses$Place;LRoadHouses$Place;)Z"⟩) ∈ lw_all := lw_g (lw_at lw_ms 15 rfl) rfl
theorem qs16 : (Cond.selects "RoadHouses" ⟨"RoadHouses", "findParty", "(LRoadHouses$Person;)I"⟩ ⟨"RoadHouses", "findParty", "(LRoadHouses$Person;)I"⟩) ∈ lw_all := lw_g (lw_at lw_ms 16 rfl) rfl
theorem qs17 : (Cond.selects "RoadHouses" ⟨"RoadHouses", "isHunter", "(I)Z"⟩ ⟨"RoadHouses", "isHunter", "(I)Z"⟩) ∈ lw_all := lw_g (lw_at lw_ms 17 rfl) rfl
theorem qs18 : (Cond.selects "RoadHouses" ⟨"RoadHouses", "isPersons", "(I)Z"⟩ ⟨"RoadHouses", "isPersons", "(I)Z"⟩) ∈ lw_all := lw_g (lw_at lw_ms 18 rfl) rfl
theorem qs19 : (Cond.selects "RoadHouses" ⟨"RoadHouses", "isFound", "(LRoadHouses$Person;LRoadHouses$Hunter;I)Z"⟩ ⟨"RoadHouses", "isFound", "(LRoadHouses$Person;LRoadHouses$Hunter;I)Z"⟩) ∈ lw_all := lw_g (lw_at lw_ms 19 rfl) rfl
theorem qs20 : (Cond.selects "RoadHouses" ⟨"RoadHouses", "lawFor", "(CLRoadHouses$Person;LRoadHouses$Place;I)I"⟩ ⟨"RoadHouses", "lawFor", "(CLRoadHouses$Person;LRoadHouses$Place;I)I"⟩) ∈ lw_all := lw_g (lw_at lw_ms 20 rfl) rfl
theorem qs21 : (Cond.selects "RoadHouses" ⟨"RoadHouses", "readLaw", "()LRoadHouses$Law;"⟩ ⟨"RoadHouses", "readLaw", "()LRoadHouses$Law;"⟩) ∈ lw_all := lw_g (lw_at lw_ms 21 rfl) rfl
theorem qs22 : (Cond.selects "RoadHouses" ⟨"RoadHouses", "next", "()I"⟩ ⟨"RoadHouses", "next", "()I"⟩) ∈ lw_all := lw_g (lw_at lw_ms 22 rfl) rfl
theorem qs23 : (Cond.selects "RoadHouses" ⟨"RoadHouses", "wrong", "(I)LRoadHouses$Fault;"⟩ ⟨"RoadHouses", "wrong", "(I)LRoadHouses$Fault;"⟩) ∈ lw_all := lw_g (lw_at lw_ms 23 rfl) rfl
theorem qs24 : (Cond.selects "RoadHouses" ⟨"RoadHouses", "take", "(I)V"⟩ ⟨"RoadHouses", "take", "(I)V"⟩) ∈ lw_all := lw_g (lw_at lw_ms 24 rfl) rfl
theorem qs25 : (Cond.selects "RoadHouses" ⟨"RoadHouses", "readTest", "()LRoadHouses$Test;"⟩ ⟨"RoadHouses", "readTest", "()LRoadHouses$Test;"⟩) ∈ lw_all := lw_g (lw_at lw_ms 25 rfl) rfl
theorem qs26 : (Cond.selects "RoadHouses" ⟨"RoadHouses", "readCase", "()LRoadHouses$Test;"⟩ ⟨"RoadHouses", "readCase", "()LRoadHouses$Test;"⟩) ∈ lw_all := lw_g (lw_at lw_ms 26 rfl) rfl
theorem qs27 : (Cond.selects "RoadHouses" ⟨"RoadHouses", "readClaim", "()LRoadHouses$Test;"⟩ ⟨"RoadHouses", "readClaim", "()LRoadHouses$Test;"⟩) ∈ lw_all := lw_g (lw_at lw_ms 27 rfl) rfl
theorem qs28 : (Cond.selects "RoadHouses" ⟨"RoadHouses", "readWord", "()I"⟩ ⟨"RoadHouses", "readWord", "()I"⟩) ∈ lw_all := lw_g (lw_at lw_ms 28 rfl) rfl
theorem qs29 : (Cond.selects "RoadHouses" ⟨"RoadHouses", "isLaw", "(I)Z"⟩ ⟨"RoadHouses", "isLaw", "(I)Z"⟩) ∈ lw_all := lw_g (lw_at lw_ms 29 rfl) rfl
theorem qs30 : (Cond.selects "RoadHouses" ⟨"RoadHouses", "findBand", "(I)LRoadHouses$Place;"⟩ ⟨"RoadHouses", "findBand", "(I)LRoadHouses$Place;"⟩) ∈ lw_all := lw_g (lw_at lw_ms 30 rfl) rfl
theorem qs31 : (Cond.selects "RoadHouses" ⟨"RoadHouses", "takesBand", "(LRoadHouses$Place;LRoadHouses$House;)Z"⟩ ⟨"RoadHouses", "takesBand", "(LRoadHouses$Place;LRoadHouses$House;)Z"⟩) ∈ lw_all := lw_g (lw_at lw_ms 31 rfl) rfl
theorem qs32 : (Cond.selects "RoadHouses" ⟨"RoadHouses", "isDarkTill", "(I)Z"⟩ ⟨"RoadHouses", "isDarkTill", "(I)Z"⟩) ∈ lw_all := lw_g (lw_at lw_ms 32 rfl) rfl
theorem qs33 : (Cond.selects "RoadHouses" ⟨"RoadHouses", "bestUnits", "(II)I"⟩ ⟨"RoadHouses", "bestUnits", "(II)I"⟩) ∈ lw_all := lw_g (lw_at lw_ms 33 rfl) rfl
theorem qs34 : (Cond.selects "RoadHouses" ⟨"RoadHouses", "turnedFrom", "(I)I"⟩ ⟨"RoadHouses", "turnedFrom", "(I)I"⟩) ∈ lw_all := lw_g (lw_at lw_ms 34 rfl) rfl
theorem qs35 : (Cond.selects "RoadHouses" ⟨"RoadHouses", "findSteps", "(I)I"⟩ ⟨"RoadHouses", "findSteps", "(I)I"⟩) ∈ lw_all := lw_g (lw_at lw_ms 35 rfl) rfl
theorem qs36 : (Cond.selects "RoadHouses" ⟨"RoadHouses", "warnOn", "(I)Z"⟩ ⟨"RoadHouses", "warnOn", "(I)Z"⟩) ∈ lw_all := lw_g (lw_at lw_ms 36 rfl) rfl
theorem qs37 : (Cond.selects "RoadHouses" ⟨"RoadHouses", "isSafe", "(II)Z"⟩ ⟨"RoadHouses", "isSafe", "(II)Z"⟩) ∈ lw_all := lw_g (lw_at lw_ms 37 rfl) rfl
theorem qs38 : (Cond.selects "RoadHouses" ⟨"RoadHouses", "wasLit", "(II)Z"⟩ ⟨"RoadHouses", "wasLit", "(II)Z"⟩) ∈ lw_all := lw_g (lw_at lw_ms 38 rfl) rfl
theorem qs39 : (Cond.selects "RoadHousesModel" ⟨"RoadHousesModel", "makes", "(IIIIII)I"⟩ ⟨"RoadHousesModel", "makes", "(IIIIII)I"⟩) ∈ lw_all := lw_g (lw_at lw_ms 39 rfl) rfl
theorem qs40 : (Cond.selects "RoadHousesModel" ⟨"RoadHousesModel", "isPlace", "(I)Z"⟩ ⟨"RoadHousesModel", "isPlace", "(I)Z"⟩) ∈ lw_all := lw_g (lw_at lw_ms 40 rfl) rfl
theorem qs41 : (Cond.selects "RoadHousesModel" ⟨"RoadHousesModel", "farOf", "(II)I"⟩ ⟨"RoadHousesModel", "farOf", "(II)I"⟩) ∈ lw_all := lw_g (lw_at lw_ms 41 rfl) rfl
theorem qs42 : (Cond.selects "RoadHousesModel" ⟨"RoadHousesModel", "isHouse", "(I)Z"⟩ ⟨"RoadHousesModel", "isHouse", "(I)Z"⟩) ∈ lw_all := lw_g (lw_at lw_ms 42 rfl) rfl
theorem qs43 : (Cond.selects "RoadHousesModel" ⟨"RoadHousesModel", "isLit", "(II)Z"⟩ ⟨"RoadHousesModel", "isLit", "(II)Z"⟩) ∈ lw_all := lw_g (lw_at lw_ms 43 rfl) rfl
theorem qs44 : (Cond.selects "RoadHousesModel" ⟨"RoadHousesModel", "finds", "(IIII)I"⟩ ⟨"RoadHousesModel", "finds", "(IIII)I"⟩) ∈ lw_all := lw_g (lw_at lw_ms 44 rfl) rfl
theorem qs45 : (Cond.selects "RoadHousesModel" ⟨"RoadHousesModel", "bearsAt", "(II)Z"⟩ ⟨"RoadHousesModel", "bearsAt", "(II)Z"⟩) ∈ lw_all := lw_g (lw_at lw_ms 45 rfl) rfl
theorem qs46 : (Cond.selects "RoadHousesModel" ⟨"RoadHousesModel", "there", "(I)I"⟩ ⟨"RoadHousesModel", "there", "(I)I"⟩) ∈ lw_all := lw_g (lw_at lw_ms 46 rfl) rfl
theorem qs47 : (Cond.selects "RoadHousesModel" ⟨"RoadHousesModel", "behind", "(I)I"⟩ ⟨"RoadHousesModel", "behind", "(I)I"⟩) ∈ lw_all := lw_g (lw_at lw_ms 47 rfl) rfl
theorem qs48 : (Cond.selects "RoadHousesModel" ⟨"RoadHousesModel", "coming", "(I)I"⟩ ⟨"RoadHousesModel", "coming", "(I)I"⟩) ∈ lw_all := lw_g (lw_at lw_ms 48 rfl) rfl
theorem qs49 : (Cond.selects "RoadHousesModel" ⟨"RoadHousesModel", "bitsKnown", "(I)I"⟩ ⟨"RoadHousesModel", "bitsKnown", "(I)I"⟩) ∈ lw_all := lw_g (lw_at lw_ms 49 rfl) rfl
theorem qs50 : (Cond.selects "RoadHousesModel" ⟨"RoadHousesModel", "hasBeds", "(II)Z"⟩ ⟨"RoadHousesModel", "hasBeds", "(II)Z"⟩) ∈ lw_all := lw_g (lw_at lw_ms 50 rfl) rfl
theorem qs51 : (Cond.selects "RoadHousesModel" ⟨"RoadHousesModel", "comes", "(III)I"⟩ ⟨"RoadHousesModel", "comes", "(III)I"⟩) ∈ lw_all := lw_g (lw_at lw_ms 51 rfl) rfl
theorem qs52 : (Cond.selects "RoadHousesModel" ⟨"RoadHousesModel", "isPerson", "(I)Z"⟩ ⟨"RoadHousesModel", "isPerson", "(I)Z"⟩) ∈ lw_all := lw_g (lw_at lw_ms 52 rfl) rfl
theorem qs53 : (Cond.selects "RoadHousesModel" ⟨"RoadHousesModel", "isAt", "(I)Z"⟩ ⟨"RoadHousesModel", "isAt", "(I)Z"⟩) ∈ lw_all := lw_g (lw_at lw_ms 53 rfl) rfl
theorem qs54 : (Cond.selects "RoadHousesModel" ⟨"RoadHousesModel", "childrenOf", "(I)I"⟩ ⟨"RoadHousesModel", "childrenOf", "(I)I"⟩) ∈ lw_all := lw_g (lw_at lw_ms 54 rfl) rfl
theorem qs55 : (Cond.selects "RoadHousesModel" ⟨"RoadHousesModel", "arrives", "(II)I"⟩ ⟨"RoadHousesModel", "arrives", "(II)I"⟩) ∈ lw_all := lw_g (lw_at lw_ms 55 rfl) rfl
theorem qs56 : (Cond.selects "RoadHousesModel" ⟨"RoadHousesModel", "slow", "(I)I"⟩ ⟨"RoadHousesModel", "slow", "(I)I"⟩) ∈ lw_all := lw_g (lw_at lw_ms 56 rfl) rfl
theorem qs57 : (Cond.selects "RoadHousesModel" ⟨"RoadHousesModel", "party", "(I)I"⟩ ⟨"RoadHousesModel", "party", "(I)I"⟩) ∈ lw_all := lw_g (lw_at lw_ms 57 rfl) rfl
theorem qs58 : (Cond.selects "RoadHousesModel" ⟨"RoadHousesModel", "hasScent", "(I)Z"⟩ ⟨"RoadHousesModel", "hasScent", "(I)Z"⟩) ∈ lw_all := lw_g (lw_at lw_ms 58 rfl) rfl
theorem qs59 : (Cond.selects "RoadHousesModel" ⟨"RoadHousesModel", "isHunter", "(I)Z"⟩ ⟨"RoadHousesModel", "isHunter", "(I)Z"⟩) ∈ lw_all := lw_g (lw_at lw_ms 59 rfl) rfl
theorem qs60 : (Cond.selects "RoadHousesModel" ⟨"RoadHousesModel", "arePersons", "(I)Z"⟩ ⟨"RoadHousesModel", "arePersons", "(I)Z"⟩) ∈ lw_all := lw_g (lw_at lw_ms 60 rfl) rfl
theorem qs61 : (Cond.selects "RoadHousesModel" ⟨"RoadHousesModel", "whyOf", "(IIII)I"⟩ ⟨"RoadHousesModel", "whyOf", "(IIII)I"⟩) ∈ lw_all := lw_g (lw_at lw_ms 61 rfl) rfl
theorem qs62 : (Cond.selects "RoadHousesModel" ⟨"RoadHousesModel", "holds", "(IIII)Z"⟩ ⟨"RoadHousesModel", "holds", "(IIII)Z"⟩) ∈ lw_all := lw_g (lw_at lw_ms 62 rfl) rfl
theorem qs63 : (Cond.selects "RoadHousesModel" ⟨"RoadHousesModel", "nameOf", "(IIII)I"⟩ ⟨"RoadHousesModel", "nameOf", "(IIII)I"⟩) ∈ lw_all := lw_g (lw_at lw_ms 63 rfl) rfl
theorem qs64 : (Cond.selects "RoadHousesModel" ⟨"RoadHousesModel", "next", "()I"⟩ ⟨"RoadHousesModel", "next", "()I"⟩) ∈ lw_all := lw_g (lw_at lw_ms 64 rfl) rfl
theorem qs65 : (Cond.selects "RoadHousesModel" ⟨"RoadHousesModel", "needs", "(I)V"⟩ ⟨"RoadHousesModel", "needs", "(I)V"⟩) ∈ lw_all := lw_g (lw_at lw_ms 65 rfl) rfl
theorem qs66 : (Cond.selects "RoadHousesModel" ⟨"RoadHousesModel", "test", "()V"⟩ ⟨"RoadHousesModel", "test", "()V"⟩) ∈ lw_all := lw_g (lw_at lw_ms 66 rfl) rfl
theorem qs67 : (Cond.selects "RoadHousesModel" ⟨"RoadHousesModel", "passes", "(I)Z"⟩ ⟨"RoadHousesModel", "passes", "(I)Z"⟩) ∈ lw_all := lw_g (lw_at lw_ms 67 rfl) rfl
theorem qs68 : (Cond.selects "RoadHousesModel" ⟨"RoadHousesModel", "claim", "()V"⟩ ⟨"RoadHousesModel", "claim", "()V"⟩) ∈ lw_all := lw_g (lw_at lw_ms 68 rfl) rfl
theorem qs69 : (Cond.selects "RoadHousesModel" ⟨"RoadHousesModel", "word", "()V"⟩ ⟨"RoadHousesModel", "word", "()V"⟩) ∈ lw_all := lw_g (lw_at lw_ms 69 rfl) rfl
theorem qs70 : (Cond.selects "RoadHousesModel" ⟨"RoadHousesModel", "emits", "(II)V"⟩ ⟨"RoadHousesModel", "emits", "(II)V"⟩) ∈ lw_all := lw_g (lw_at lw_ms 70 rfl) rfl
theorem qs71 : (Cond.selects "RoadHousesModel" ⟨"RoadHousesModel", "goesOn", "(I)Z"⟩ ⟨"RoadHousesModel", "goesOn", "(I)Z"⟩) ∈ lw_all := lw_g (lw_at lw_ms 71 rfl) rfl
theorem qs72 : (Cond.selects "RoadHousesModel" ⟨"RoadHousesModel", "isLaw", "(I)Z"⟩ ⟨"RoadHousesModel", "isLaw", "(I)Z"⟩) ∈ lw_all := lw_g (lw_at lw_ms 72 rfl) rfl
theorem qs73 : (Cond.selects "RoadHousesModel" ⟨"RoadHousesModel", "areWhole", "(I)Z"⟩ ⟨"RoadHousesModel", "areWhole", "(I)Z"⟩) ∈ lw_all := lw_g (lw_at lw_ms 73 rfl) rfl
theorem qs74 : (Cond.selects "RoadHousesModel" ⟨"RoadHousesModel", "isRoad", "(III)Z"⟩ ⟨"RoadHousesModel", "isRoad", "(III)Z"⟩) ∈ lw_all := lw_g (lw_at lw_ms 74 rfl) rfl
theorem qs75 : (Cond.selects "RoadHousesModel" ⟨"RoadHousesModel", "families", "(I)I"⟩ ⟨"RoadHousesModel", "families", "(I)I"⟩) ∈ lw_all := lw_g (lw_at lw_ms 75 rfl) rfl
theorem qs76 : (Cond.selects "RoadHousesModel" ⟨"RoadHousesModel", "strengthOf", "(I)I"⟩ ⟨"RoadHousesModel", "strengthOf", "(I)I"⟩) ∈ lw_all := lw_g (lw_at lw_ms 76 rfl) rfl
theorem qs77 : (Cond.selects "RoadHousesModel" ⟨"RoadHousesModel", "turnedFrom", "(I)I"⟩ ⟨"RoadHousesModel", "turnedFrom", "(I)I"⟩) ∈ lw_all := lw_g (lw_at lw_ms 77 rfl) rfl
theorem qs78 : (Cond.selects "RoadHousesModel" ⟨"RoadHousesModel", "talks", "(II)V"⟩ ⟨"RoadHousesModel", "talks", "(II)V"⟩) ∈ lw_all := lw_g (lw_at lw_ms 78 rfl) rfl
theorem qs79 : (Cond.selects "RoadHousesModel" ⟨"RoadHousesModel", "isCut", "(III)Z"⟩ ⟨"RoadHousesModel", "isCut", "(III)Z"⟩) ∈ lw_all := lw_g (lw_at lw_ms 79 rfl) rfl
theorem qs80 : (Cond.selects "RoadHousesModel" ⟨"RoadHousesModel", "isSafe", "(II)Z"⟩ ⟨"RoadHousesModel", "isSafe", "(II)Z"⟩) ∈ lw_all := lw_g (lw_at lw_ms 80 rfl) rfl
