-- ===== PART A: goes FIRST, ahead of the names: the tables' words, and 'selects' of the private methods out of them =====
/-- a private method of a class that the tables say can be made, by its rows of tables_1 -/
def lw_okq (q : MethodName × Nat) : Prop := (q.1.cls ≠ "java/lang/invoke/MethodHandle" ∧ q.1.cls ≠ "java/lang/invoke/VarHandle") ∧ Cond.instantiable q.1.cls q.2 ∈ tables_1 ∧ Cond.privateMethod q.1 ∈ tables_1 ∧ Cond.instanceMethod q.1 ∈ tables_1
set_option maxRecDepth 100000
theorem lw_t1 {w : Cond} (h : w ∈ tables_1_1) : w ∈ tables_1 := List.mem_append_left _ h
theorem lw_t2 {w : Cond} (h : w ∈ tables_1_2) : w ∈ tables_1 := List.mem_append_right _ (List.mem_append_left _ h)
theorem lw_t3 {w : Cond} (h : w ∈ tables_1_3) : w ∈ tables_1 := List.mem_append_right _ (List.mem_append_right _ (List.mem_append_left _ h))
theorem lw_t4 {w : Cond} (h : w ∈ tables_1_4) : w ∈ tables_1 := List.mem_append_right _ (List.mem_append_right _ (List.mem_append_right _ (List.mem_append_left _ h)))
theorem lw_t5 {w : Cond} (h : w ∈ tables_1_5) : w ∈ tables_1 := List.mem_append_right _ (List.mem_append_right _ (List.mem_append_right _ (List.mem_append_right _ (List.mem_append_left _ h))))
theorem lw_t6 {w : Cond} (h : w ∈ tables_1_6) : w ∈ tables_1 := List.mem_append_right _ (List.mem_append_right _ (List.mem_append_right _ (List.mem_append_right _ (List.mem_append_right _ (List.mem_append_left _ h)))))
theorem lw_t7 {w : Cond} (h : w ∈ tables_1_7) : w ∈ tables_1 := List.mem_append_right _ (List.mem_append_right _ (List.mem_append_right _ (List.mem_append_right _ (List.mem_append_right _ (List.mem_append_right _ (List.mem_append_left _ h))))))
theorem lw_t8 {w : Cond} (h : w ∈ tables_1_8) : w ∈ tables_1 := List.mem_append_right _ (List.mem_append_right _ (List.mem_append_right _ (List.mem_append_right _ (List.mem_append_right _ (List.mem_append_right _ (List.mem_append_right _ (List.mem_append_left _ h)))))))
theorem lw_t9 {w : Cond} (h : w ∈ tables_1_9) : w ∈ tables_1 := List.mem_append_right _ (List.mem_append_right _ (List.mem_append_right _ (List.mem_append_right _ (List.mem_append_right _ (List.mem_append_right _ (List.mem_append_right _ (List.mem_append_right _ h)))))))
theorem lw_p0 : lw_okq (⟨"java/lang/Throwable", "fillInStackTrace", "(I)Ljava/lang/Throwable;"⟩, 6) := ⟨⟨by decide +kernel, by decide +kernel⟩, lw_t1 (List.mem_of_getElem? (i := 83) rfl), lw_t1 (List.mem_of_getElem? (i := 81) rfl), lw_t1 (List.mem_of_getElem? (i := 82) rfl)⟩
theorem lw_p1 : lw_okq (⟨"RainWalk", "bytes", "(I)V"⟩, 18) := ⟨⟨by decide +kernel, by decide +kernel⟩, lw_t1 (List.mem_of_getElem? (i := 32) rfl), lw_t2 (List.mem_of_getElem? (i := 52) rfl), lw_t2 (List.mem_of_getElem? (i := 53) rfl)⟩
theorem lw_p2 : lw_okq (⟨"RainWalk", "anew", "()V"⟩, 18) := ⟨⟨by decide +kernel, by decide +kernel⟩, lw_t1 (List.mem_of_getElem? (i := 32) rfl), lw_t2 (List.mem_of_getElem? (i := 61) rfl), lw_t2 (List.mem_of_getElem? (i := 62) rfl)⟩
theorem lw_p3 : lw_okq (⟨"RainWalk", "no", "(I)I"⟩, 18) := ⟨⟨by decide +kernel, by decide +kernel⟩, lw_t1 (List.mem_of_getElem? (i := 32) rfl), lw_t2 (List.mem_of_getElem? (i := 68) rfl), lw_t2 (List.mem_of_getElem? (i := 69) rfl)⟩
theorem lw_p4 : lw_okq (⟨"RainWalk$Reader", "next", "()V"⟩, 10) := ⟨⟨by decide +kernel, by decide +kernel⟩, lw_t1 (List.mem_of_getElem? (i := 40) rfl), lw_t2 (List.mem_of_getElem? (i := 152) rfl), lw_t2 (List.mem_of_getElem? (i := 153) rfl)⟩
theorem lw_p5 : lw_okq (⟨"RainWalk$Reader", "see", "(I)I"⟩, 10) := ⟨⟨by decide +kernel, by decide +kernel⟩, lw_t1 (List.mem_of_getElem? (i := 40) rfl), lw_t2 (List.mem_of_getElem? (i := 156) rfl), lw_t2 (List.mem_of_getElem? (i := 157) rfl)⟩
theorem lw_p6 : lw_okq (⟨"RainWalk$Reader", "line", "()V"⟩, 10) := ⟨⟨by decide +kernel, by decide +kernel⟩, lw_t1 (List.mem_of_getElem? (i := 40) rfl), lw_t3 (List.mem_of_getElem? (i := 6) rfl), lw_t3 (List.mem_of_getElem? (i := 7) rfl)⟩
theorem lw_p7 : lw_okq (⟨"RainWalk$Reader", "fail", "(I)LRainWalk$Refused;"⟩, 10) := ⟨⟨by decide +kernel, by decide +kernel⟩, lw_t1 (List.mem_of_getElem? (i := 40) rfl), lw_t3 (List.mem_of_getElem? (i := 10) rfl), lw_t3 (List.mem_of_getElem? (i := 11) rfl)⟩
theorem lw_p8 : lw_okq (⟨"RainWalk$Reader", "worldLine", "()V"⟩, 10) := ⟨⟨by decide +kernel, by decide +kernel⟩, lw_t1 (List.mem_of_getElem? (i := 40) rfl), lw_t3 (List.mem_of_getElem? (i := 85) rfl), lw_t3 (List.mem_of_getElem? (i := 86) rfl)⟩
theorem lw_p9 : lw_okq (⟨"RainWalk$Reader", "after", "(Ljava/lang/String;II)I"⟩, 10) := ⟨⟨by decide +kernel, by decide +kernel⟩, lw_t1 (List.mem_of_getElem? (i := 40) rfl), lw_t3 (List.mem_of_getElem? (i := 90) rfl), lw_t3 (List.mem_of_getElem? (i := 91) rfl)⟩
theorem lw_p10 : lw_okq (⟨"RainWalk$Reader", "must", "(Ljava/lang/String;)V"⟩, 10) := ⟨⟨by decide +kernel, by decide +kernel⟩, lw_t1 (List.mem_of_getElem? (i := 40) rfl), lw_t3 (List.mem_of_getElem? (i := 94) rfl), lw_t3 (List.mem_of_getElem? (i := 95) rfl)⟩
theorem lw_p11 : lw_okq (⟨"RainWalk$Reader", "takes", "(Ljava/lang/String;)Z"⟩, 10) := ⟨⟨by decide +kernel, by decide +kernel⟩, lw_t1 (List.mem_of_getElem? (i := 40) rfl), lw_t3 (List.mem_of_getElem? (i := 98) rfl), lw_t3 (List.mem_of_getElem? (i := 99) rfl)⟩
theorem lw_p12 : lw_okq (⟨"RainWalk$Reader", "number", "(II)I"⟩, 10) := ⟨⟨by decide +kernel, by decide +kernel⟩, lw_t1 (List.mem_of_getElem? (i := 40) rfl), lw_t3 (List.mem_of_getElem? (i := 102) rfl), lw_t3 (List.mem_of_getElem? (i := 103) rfl)⟩
theorem lw_p13 : lw_okq (⟨"RainWalk$Reader", "rain", "()V"⟩, 10) := ⟨⟨by decide +kernel, by decide +kernel⟩, lw_t1 (List.mem_of_getElem? (i := 40) rfl), lw_t3 (List.mem_of_getElem? (i := 106) rfl), lw_t3 (List.mem_of_getElem? (i := 107) rfl)⟩
theorem lw_p14 : lw_okq (⟨"RainWalk$Reader", "begins", "(Z)V"⟩, 10) := ⟨⟨by decide +kernel, by decide +kernel⟩, lw_t1 (List.mem_of_getElem? (i := 40) rfl), lw_t3 (List.mem_of_getElem? (i := 110) rfl), lw_t3 (List.mem_of_getElem? (i := 111) rfl)⟩
theorem lw_p15 : lw_okq (⟨"RainWalk$Reader", "side", "()I"⟩, 10) := ⟨⟨by decide +kernel, by decide +kernel⟩, lw_t1 (List.mem_of_getElem? (i := 40) rfl), lw_t3 (List.mem_of_getElem? (i := 117) rfl), lw_t3 (List.mem_of_getElem? (i := 118) rfl)⟩
def lw_privs_1 : List (MethodName × Nat) := [(⟨"java/lang/Throwable", "fillInStackTrace", "(I)Ljava/lang/Throwable;"⟩, 6), (⟨"RainWalk", "bytes", "(I)V"⟩, 18), (⟨"RainWalk", "anew", "()V"⟩, 18), (⟨"RainWalk", "no", "(I)I"⟩, 18), (⟨"RainWalk$Reader", "next", "()V"⟩, 10), (⟨"RainWalk$Reader", "see", "(I)I"⟩, 10), (⟨"RainWalk$Reader", "line", "()V"⟩, 10), (⟨"RainWalk$Reader", "fail", "(I)LRainWalk$Refused;"⟩, 10), (⟨"RainWalk$Reader", "worldLine", "()V"⟩, 10), (⟨"RainWalk$Reader", "after", "(Ljava/lang/String;II)I"⟩, 10), (⟨"RainWalk$Reader", "must", "(Ljava/lang/String;)V"⟩, 10), (⟨"RainWalk$Reader", "takes", "(Ljava/lang/String;)Z"⟩, 10), (⟨"RainWalk$Reader", "number", "(II)I"⟩, 10), (⟨"RainWalk$Reader", "rain", "()V"⟩, 10), (⟨"RainWalk$Reader", "begins", "(Z)V"⟩, 10), (⟨"RainWalk$Reader", "side", "()I"⟩, 10)]
theorem lw_r1 : ∀ q ∈ lw_privs_1, lw_okq q := List.forall_mem_cons.mpr ⟨lw_p0, List.forall_mem_cons.mpr ⟨lw_p1, List.forall_mem_cons.mpr ⟨lw_p2, List.forall_mem_cons.mpr ⟨lw_p3, List.forall_mem_cons.mpr ⟨lw_p4, List.forall_mem_cons.mpr ⟨lw_p5, List.forall_mem_cons.mpr ⟨lw_p6, List.forall_mem_cons.mpr ⟨lw_p7, List.forall_mem_cons.mpr ⟨lw_p8, List.forall_mem_cons.mpr ⟨lw_p9, List.forall_mem_cons.mpr ⟨lw_p10, List.forall_mem_cons.mpr ⟨lw_p11, List.forall_mem_cons.mpr ⟨lw_p12, List.forall_mem_cons.mpr ⟨lw_p13, List.forall_mem_cons.mpr ⟨lw_p14, List.forall_mem_cons.mpr ⟨lw_p15, fun _ h => absurd h List.not_mem_nil⟩⟩⟩⟩⟩⟩⟩⟩⟩⟩⟩⟩⟩⟩⟩⟩
theorem lw_p16 : lw_okq (⟨"RainWalk$Reader", "place", "()V"⟩, 10) := ⟨⟨by decide +kernel, by decide +kernel⟩, lw_t1 (List.mem_of_getElem? (i := 40) rfl), lw_t3 (List.mem_of_getElem? (i := 153) rfl), lw_t3 (List.mem_of_getElem? (i := 154) rfl)⟩
theorem lw_p17 : lw_okq (⟨"RainWalk$Reader", "newName", "()Ljava/lang/String;"⟩, 10) := ⟨⟨by decide +kernel, by decide +kernel⟩, lw_t1 (List.mem_of_getElem? (i := 40) rfl), lw_t3 (List.mem_of_getElem? (i := 159) rfl), lw_t3 (List.mem_of_getElem? (i := 160) rfl)⟩
theorem lw_p18 : lw_okq (⟨"RainWalk$Reader", "mustName", "()V"⟩, 10) := ⟨⟨by decide +kernel, by decide +kernel⟩, lw_t1 (List.mem_of_getElem? (i := 40) rfl), lw_t3 (List.mem_of_getElem? (i := 163) rfl), lw_t3 (List.mem_of_getElem? (i := 164) rfl)⟩
theorem lw_p19 : lw_okq (⟨"RainWalk$Reader", "road", "()V"⟩, 10) := ⟨⟨by decide +kernel, by decide +kernel⟩, lw_t1 (List.mem_of_getElem? (i := 40) rfl), lw_t3 (List.mem_of_getElem? (i := 209) rfl), lw_t3 (List.mem_of_getElem? (i := 210) rfl)⟩
theorem lw_p20 : lw_okq (⟨"RainWalk$Reader", "placeHere", "()LRainWalk$Place;"⟩, 10) := ⟨⟨by decide +kernel, by decide +kernel⟩, lw_t1 (List.mem_of_getElem? (i := 40) rfl), lw_t3 (List.mem_of_getElem? (i := 213) rfl), lw_t3 (List.mem_of_getElem? (i := 214) rfl)⟩
theorem lw_p21 : lw_okq (⟨"RainWalk$Reader", "walker", "()V"⟩, 10) := ⟨⟨by decide +kernel, by decide +kernel⟩, lw_t1 (List.mem_of_getElem? (i := 40) rfl), lw_t4 (List.mem_of_getElem? (i := 5) rfl), lw_t4 (List.mem_of_getElem? (i := 6) rfl)⟩
theorem lw_p22 : lw_okq (⟨"RainWalk$Reader", "walkerOf", "(Ljava/lang/String;I)LRainWalk$Walker;"⟩, 10) := ⟨⟨by decide +kernel, by decide +kernel⟩, lw_t1 (List.mem_of_getElem? (i := 40) rfl), lw_t4 (List.mem_of_getElem? (i := 9) rfl), lw_t4 (List.mem_of_getElem? (i := 10) rfl)⟩
theorem lw_p23 : lw_okq (⟨"RainWalk$Reader", "seen", "()V"⟩, 10) := ⟨⟨by decide +kernel, by decide +kernel⟩, lw_t1 (List.mem_of_getElem? (i := 40) rfl), lw_t4 (List.mem_of_getElem? (i := 123) rfl), lw_t4 (List.mem_of_getElem? (i := 124) rfl)⟩
theorem lw_p24 : lw_okq (⟨"RainWalk", "legWhy", "(IIIII)I"⟩, 18) := ⟨⟨by decide +kernel, by decide +kernel⟩, lw_t1 (List.mem_of_getElem? (i := 32) rfl), lw_t4 (List.mem_of_getElem? (i := 157) rfl), lw_t4 (List.mem_of_getElem? (i := 158) rfl)⟩
theorem lw_p25 : lw_okq (⟨"RainWalk", "isWalker", "(I)Z"⟩, 18) := ⟨⟨by decide +kernel, by decide +kernel⟩, lw_t1 (List.mem_of_getElem? (i := 32) rfl), lw_t4 (List.mem_of_getElem? (i := 161) rfl), lw_t4 (List.mem_of_getElem? (i := 162) rfl)⟩
theorem lw_p26 : lw_okq (⟨"RainWalk", "isLeg", "(III)Z"⟩, 18) := ⟨⟨by decide +kernel, by decide +kernel⟩, lw_t1 (List.mem_of_getElem? (i := 32) rfl), lw_t4 (List.mem_of_getElem? (i := 165) rfl), lw_t4 (List.mem_of_getElem? (i := 166) rfl)⟩
theorem lw_p27 : lw_okq (⟨"RainWalk", "isRoad", "(I)Z"⟩, 18) := ⟨⟨by decide +kernel, by decide +kernel⟩, lw_t1 (List.mem_of_getElem? (i := 32) rfl), lw_t4 (List.mem_of_getElem? (i := 169) rfl), lw_t4 (List.mem_of_getElem? (i := 170) rfl)⟩
theorem lw_p28 : lw_okq (⟨"RainWalk$Leg", "byTop", "(I)J"⟩, 6) := ⟨⟨by decide +kernel, by decide +kernel⟩, lw_t1 (List.mem_of_getElem? (i := 152) rfl), lw_t4 (List.mem_of_getElem? (i := 232) rfl), lw_t4 (List.mem_of_getElem? (i := 233) rfl)⟩
theorem lw_p29 : lw_okq (⟨"RainWalk$Leg", "byFront", "(I)J"⟩, 6) := ⟨⟨by decide +kernel, by decide +kernel⟩, lw_t1 (List.mem_of_getElem? (i := 152) rfl), lw_t5 (List.mem_of_getElem? (i := 4) rfl), lw_t5 (List.mem_of_getElem? (i := 5) rfl)⟩
theorem lw_p30 : lw_okq (⟨"RainWalk$Leg", "byBack", "(I)J"⟩, 6) := ⟨⟨by decide +kernel, by decide +kernel⟩, lw_t1 (List.mem_of_getElem? (i := 152) rfl), lw_t5 (List.mem_of_getElem? (i := 18) rfl), lw_t5 (List.mem_of_getElem? (i := 19) rfl)⟩
theorem lw_p31 : lw_okq (⟨"RainWalk", "bestSpeed", "(IIII)I"⟩, 18) := ⟨⟨by decide +kernel, by decide +kernel⟩, lw_t1 (List.mem_of_getElem? (i := 32) rfl), lw_t5 (List.mem_of_getElem? (i := 73) rfl), lw_t5 (List.mem_of_getElem? (i := 74) rfl)⟩
def lw_privs_2 : List (MethodName × Nat) := [(⟨"RainWalk$Reader", "place", "()V"⟩, 10), (⟨"RainWalk$Reader", "newName", "()Ljava/lang/String;"⟩, 10), (⟨"RainWalk$Reader", "mustName", "()V"⟩, 10), (⟨"RainWalk$Reader", "road", "()V"⟩, 10), (⟨"RainWalk$Reader", "placeHere", "()LRainWalk$Place;"⟩, 10), (⟨"RainWalk$Reader", "walker", "()V"⟩, 10), (⟨"RainWalk$Reader", "walkerOf", "(Ljava/lang/String;I)LRainWalk$Walker;"⟩, 10), (⟨"RainWalk$Reader", "seen", "()V"⟩, 10), (⟨"RainWalk", "legWhy", "(IIIII)I"⟩, 18), (⟨"RainWalk", "isWalker", "(I)Z"⟩, 18), (⟨"RainWalk", "isLeg", "(III)Z"⟩, 18), (⟨"RainWalk", "isRoad", "(I)Z"⟩, 18), (⟨"RainWalk$Leg", "byTop", "(I)J"⟩, 6), (⟨"RainWalk$Leg", "byFront", "(I)J"⟩, 6), (⟨"RainWalk$Leg", "byBack", "(I)J"⟩, 6), (⟨"RainWalk", "bestSpeed", "(IIII)I"⟩, 18)]
theorem lw_r2 : ∀ q ∈ lw_privs_2, lw_okq q := List.forall_mem_cons.mpr ⟨lw_p16, List.forall_mem_cons.mpr ⟨lw_p17, List.forall_mem_cons.mpr ⟨lw_p18, List.forall_mem_cons.mpr ⟨lw_p19, List.forall_mem_cons.mpr ⟨lw_p20, List.forall_mem_cons.mpr ⟨lw_p21, List.forall_mem_cons.mpr ⟨lw_p22, List.forall_mem_cons.mpr ⟨lw_p23, List.forall_mem_cons.mpr ⟨lw_p24, List.forall_mem_cons.mpr ⟨lw_p25, List.forall_mem_cons.mpr ⟨lw_p26, List.forall_mem_cons.mpr ⟨lw_p27, List.forall_mem_cons.mpr ⟨lw_p28, List.forall_mem_cons.mpr ⟨lw_p29, List.forall_mem_cons.mpr ⟨lw_p30, List.forall_mem_cons.mpr ⟨lw_p31, fun _ h => absurd h List.not_mem_nil⟩⟩⟩⟩⟩⟩⟩⟩⟩⟩⟩⟩⟩⟩⟩⟩
theorem lw_p32 : lw_okq (⟨"RainWalk", "worstSpeed", "(IIII)I"⟩, 18) := ⟨⟨by decide +kernel, by decide +kernel⟩, lw_t1 (List.mem_of_getElem? (i := 32) rfl), lw_t5 (List.mem_of_getElem? (i := 85) rfl), lw_t5 (List.mem_of_getElem? (i := 86) rfl)⟩
theorem lw_p33 : lw_okq (⟨"RainWalk", "wetAtBest", "(IIII)J"⟩, 18) := ⟨⟨by decide +kernel, by decide +kernel⟩, lw_t1 (List.mem_of_getElem? (i := 32) rfl), lw_t5 (List.mem_of_getElem? (i := 93) rfl), lw_t5 (List.mem_of_getElem? (i := 94) rfl)⟩
theorem lw_p34 : lw_okq (⟨"RainWalk", "pairWhy", "(IIIIII)I"⟩, 18) := ⟨⟨by decide +kernel, by decide +kernel⟩, lw_t1 (List.mem_of_getElem? (i := 32) rfl), lw_t5 (List.mem_of_getElem? (i := 109) rfl), lw_t5 (List.mem_of_getElem? (i := 110) rfl)⟩
theorem lw_p35 : lw_okq (⟨"RainWalk", "together", "(IIIIII)J"⟩, 18) := ⟨⟨by decide +kernel, by decide +kernel⟩, lw_t1 (List.mem_of_getElem? (i := 32) rfl), lw_t5 (List.mem_of_getElem? (i := 113) rfl), lw_t5 (List.mem_of_getElem? (i := 114) rfl)⟩
theorem lw_p36 : lw_okq (⟨"RainWalk", "wayWhy", "(IIIII)I"⟩, 18) := ⟨⟨by decide +kernel, by decide +kernel⟩, lw_t1 (List.mem_of_getElem? (i := 32) rfl), lw_t5 (List.mem_of_getElem? (i := 130) rfl), lw_t5 (List.mem_of_getElem? (i := 131) rfl)⟩
theorem lw_p37 : lw_okq (⟨"RainWalk", "isPlace", "(I)Z"⟩, 18) := ⟨⟨by decide +kernel, by decide +kernel⟩, lw_t1 (List.mem_of_getElem? (i := 32) rfl), lw_t5 (List.mem_of_getElem? (i := 134) rfl), lw_t5 (List.mem_of_getElem? (i := 135) rfl)⟩
theorem lw_p38 : lw_okq (⟨"RainWalk$Ways", "layMeans", "(III)V"⟩, 8) := ⟨⟨by decide +kernel, by decide +kernel⟩, lw_t1 (List.mem_of_getElem? (i := 180) rfl), lw_t5 (List.mem_of_getElem? (i := 142) rfl), lw_t5 (List.mem_of_getElem? (i := 143) rfl)⟩
theorem lw_p39 : lw_okq (⟨"RainWalk$Ways", "best", "(II)J"⟩, 8) := ⟨⟨by decide +kernel, by decide +kernel⟩, lw_t1 (List.mem_of_getElem? (i := 180) rfl), lw_t5 (List.mem_of_getElem? (i := 155) rfl), lw_t5 (List.mem_of_getElem? (i := 156) rfl)⟩
theorem lw_p40 : lw_okq (⟨"RainWalk$Ways", "byWaiting", "(II)J"⟩, 8) := ⟨⟨by decide +kernel, by decide +kernel⟩, lw_t1 (List.mem_of_getElem? (i := 180) rfl), lw_t5 (List.mem_of_getElem? (i := 159) rfl), lw_t5 (List.mem_of_getElem? (i := 160) rfl)⟩
theorem lw_p41 : lw_okq (⟨"RainWalk$Ways", "byLeg", "(IIIII)J"⟩, 8) := ⟨⟨by decide +kernel, by decide +kernel⟩, lw_t1 (List.mem_of_getElem? (i := 180) rfl), lw_t5 (List.mem_of_getElem? (i := 174) rfl), lw_t5 (List.mem_of_getElem? (i := 175) rfl)⟩
theorem lw_p42 : lw_okq (⟨"RainWalk$Ways", "next", "()I"⟩, 8) := ⟨⟨by decide +kernel, by decide +kernel⟩, lw_t1 (List.mem_of_getElem? (i := 180) rfl), lw_t5 (List.mem_of_getElem? (i := 214) rfl), lw_t5 (List.mem_of_getElem? (i := 215) rfl)⟩
theorem lw_p43 : lw_okq (⟨"RainWalk", "isSeen", "(I)Z"⟩, 18) := ⟨⟨by decide +kernel, by decide +kernel⟩, lw_t1 (List.mem_of_getElem? (i := 32) rfl), lw_t5 (List.mem_of_getElem? (i := 234) rfl), lw_t5 (List.mem_of_getElem? (i := 235) rfl)⟩
theorem lw_p44 : lw_okq (⟨"RainWalk", "fitOf", "(II)I"⟩, 18) := ⟨⟨by decide +kernel, by decide +kernel⟩, lw_t1 (List.mem_of_getElem? (i := 32) rfl), lw_t5 (List.mem_of_getElem? (i := 238) rfl), lw_t5 (List.mem_of_getElem? (i := 239) rfl)⟩
theorem lw_p45 : lw_okq (⟨"RainWalk", "doesFit", "(LRainWalk$Seen;LRainWalk$Walker;IIII)Z"⟩, 18) := ⟨⟨by decide +kernel, by decide +kernel⟩, lw_t1 (List.mem_of_getElem? (i := 32) rfl), lw_t6 (List.mem_of_getElem? (i := 2) rfl), lw_t6 (List.mem_of_getElem? (i := 3) rfl)⟩
theorem lw_p46 : lw_okq (⟨"RainWalk", "hasDay", "()Z"⟩, 18) := ⟨⟨by decide +kernel, by decide +kernel⟩, lw_t1 (List.mem_of_getElem? (i := 32) rfl), lw_t6 (List.mem_of_getElem? (i := 26) rfl), lw_t6 (List.mem_of_getElem? (i := 27) rfl)⟩
theorem lw_p47 : lw_okq (⟨"RainWalk", "note", "()V"⟩, 18) := ⟨⟨by decide +kernel, by decide +kernel⟩, lw_t1 (List.mem_of_getElem? (i := 32) rfl), lw_t6 (List.mem_of_getElem? (i := 31) rfl), lw_t6 (List.mem_of_getElem? (i := 32) rfl)⟩
def lw_privs_3 : List (MethodName × Nat) := [(⟨"RainWalk", "worstSpeed", "(IIII)I"⟩, 18), (⟨"RainWalk", "wetAtBest", "(IIII)J"⟩, 18), (⟨"RainWalk", "pairWhy", "(IIIIII)I"⟩, 18), (⟨"RainWalk", "together", "(IIIIII)J"⟩, 18), (⟨"RainWalk", "wayWhy", "(IIIII)I"⟩, 18), (⟨"RainWalk", "isPlace", "(I)Z"⟩, 18), (⟨"RainWalk$Ways", "layMeans", "(III)V"⟩, 8), (⟨"RainWalk$Ways", "best", "(II)J"⟩, 8), (⟨"RainWalk$Ways", "byWaiting", "(II)J"⟩, 8), (⟨"RainWalk$Ways", "byLeg", "(IIIII)J"⟩, 8), (⟨"RainWalk$Ways", "next", "()I"⟩, 8), (⟨"RainWalk", "isSeen", "(I)Z"⟩, 18), (⟨"RainWalk", "fitOf", "(II)I"⟩, 18), (⟨"RainWalk", "doesFit", "(LRainWalk$Seen;LRainWalk$Walker;IIII)Z"⟩, 18), (⟨"RainWalk", "hasDay", "()Z"⟩, 18), (⟨"RainWalk", "note", "()V"⟩, 18)]
theorem lw_r3 : ∀ q ∈ lw_privs_3, lw_okq q := List.forall_mem_cons.mpr ⟨lw_p32, List.forall_mem_cons.mpr ⟨lw_p33, List.forall_mem_cons.mpr ⟨lw_p34, List.forall_mem_cons.mpr ⟨lw_p35, List.forall_mem_cons.mpr ⟨lw_p36, List.forall_mem_cons.mpr ⟨lw_p37, List.forall_mem_cons.mpr ⟨lw_p38, List.forall_mem_cons.mpr ⟨lw_p39, List.forall_mem_cons.mpr ⟨lw_p40, List.forall_mem_cons.mpr ⟨lw_p41, List.forall_mem_cons.mpr ⟨lw_p42, List.forall_mem_cons.mpr ⟨lw_p43, List.forall_mem_cons.mpr ⟨lw_p44, List.forall_mem_cons.mpr ⟨lw_p45, List.forall_mem_cons.mpr ⟨lw_p46, List.forall_mem_cons.mpr ⟨lw_p47, fun _ h => absurd h List.not_mem_nil⟩⟩⟩⟩⟩⟩⟩⟩⟩⟩⟩⟩⟩⟩⟩⟩
theorem lw_p48 : lw_okq (⟨"RainWalk", "rainHour", "(I)I"⟩, 18) := ⟨⟨by decide +kernel, by decide +kernel⟩, lw_t1 (List.mem_of_getElem? (i := 32) rfl), lw_t6 (List.mem_of_getElem? (i := 42) rfl), lw_t6 (List.mem_of_getElem? (i := 43) rfl)⟩
theorem lw_p49 : lw_okq (⟨"RainWalk", "done", "()Z"⟩, 18) := ⟨⟨by decide +kernel, by decide +kernel⟩, lw_t1 (List.mem_of_getElem? (i := 32) rfl), lw_t6 (List.mem_of_getElem? (i := 51) rfl), lw_t6 (List.mem_of_getElem? (i := 52) rfl)⟩
theorem lw_p50 : lw_okq (⟨"RainWalk", "yes", "(I)Z"⟩, 18) := ⟨⟨by decide +kernel, by decide +kernel⟩, lw_t1 (List.mem_of_getElem? (i := 32) rfl), lw_t6 (List.mem_of_getElem? (i := 60) rfl), lw_t6 (List.mem_of_getElem? (i := 61) rfl)⟩
theorem lw_p51 : lw_okq (⟨"RainWalkModel", "refused", "(I)I"⟩, 26) := ⟨⟨by decide +kernel, by decide +kernel⟩, lw_t6 (List.mem_of_getElem? (i := 170) rfl), lw_t7 (List.mem_of_getElem? (i := 27) rfl), lw_t7 (List.mem_of_getElem? (i := 28) rfl)⟩
theorem lw_p52 : lw_okq (⟨"RainWalkModel", "goesOn", "()V"⟩, 26) := ⟨⟨by decide +kernel, by decide +kernel⟩, lw_t6 (List.mem_of_getElem? (i := 170) rfl), lw_t7 (List.mem_of_getElem? (i := 157) rfl), lw_t7 (List.mem_of_getElem? (i := 158) rfl)⟩
theorem lw_p53 : lw_okq (⟨"RainWalkModel", "byteAt", "(I)I"⟩, 26) := ⟨⟨by decide +kernel, by decide +kernel⟩, lw_t6 (List.mem_of_getElem? (i := 170) rfl), lw_t7 (List.mem_of_getElem? (i := 161) rfl), lw_t7 (List.mem_of_getElem? (i := 162) rfl)⟩
theorem lw_p54 : lw_okq (⟨"RainWalkModel", "readAll", "()V"⟩, 26) := ⟨⟨by decide +kernel, by decide +kernel⟩, lw_t6 (List.mem_of_getElem? (i := 170) rfl), lw_t7 (List.mem_of_getElem? (i := 172) rfl), lw_t7 (List.mem_of_getElem? (i := 173) rfl)⟩
theorem lw_p55 : lw_okq (⟨"RainWalkModel", "readLine", "()V"⟩, 26) := ⟨⟨by decide +kernel, by decide +kernel⟩, lw_t6 (List.mem_of_getElem? (i := 170) rfl), lw_t7 (List.mem_of_getElem? (i := 176) rfl), lw_t7 (List.mem_of_getElem? (i := 177) rfl)⟩
theorem lw_p56 : lw_okq (⟨"RainWalkModel", "isWord", "(Ljava/lang/String;)Z"⟩, 26) := ⟨⟨by decide +kernel, by decide +kernel⟩, lw_t6 (List.mem_of_getElem? (i := 170) rfl), lw_t7 (List.mem_of_getElem? (i := 181) rfl), lw_t7 (List.mem_of_getElem? (i := 182) rfl)⟩
theorem lw_p57 : lw_okq (⟨"RainWalkModel", "readWorld", "()V"⟩, 26) := ⟨⟨by decide +kernel, by decide +kernel⟩, lw_t6 (List.mem_of_getElem? (i := 170) rfl), lw_t7 (List.mem_of_getElem? (i := 216) rfl), lw_t7 (List.mem_of_getElem? (i := 217) rfl)⟩
theorem lw_p58 : lw_okq (⟨"RainWalkModel", "flaw", "(I)V"⟩, 26) := ⟨⟨by decide +kernel, by decide +kernel⟩, lw_t6 (List.mem_of_getElem? (i := 170) rfl), lw_t7 (List.mem_of_getElem? (i := 220) rfl), lw_t7 (List.mem_of_getElem? (i := 221) rfl)⟩
theorem lw_p59 : lw_okq (⟨"RainWalkModel", "readPart", "(Ljava/lang/String;II)I"⟩, 26) := ⟨⟨by decide +kernel, by decide +kernel⟩, lw_t6 (List.mem_of_getElem? (i := 170) rfl), lw_t7 (List.mem_of_getElem? (i := 225) rfl), lw_t7 (List.mem_of_getElem? (i := 226) rfl)⟩
theorem lw_p60 : lw_okq (⟨"RainWalkModel", "needs", "(Ljava/lang/String;)V"⟩, 26) := ⟨⟨by decide +kernel, by decide +kernel⟩, lw_t6 (List.mem_of_getElem? (i := 170) rfl), lw_t7 (List.mem_of_getElem? (i := 229) rfl), lw_t7 (List.mem_of_getElem? (i := 230) rfl)⟩
theorem lw_p61 : lw_okq (⟨"RainWalkModel", "readWhole", "(II)I"⟩, 26) := ⟨⟨by decide +kernel, by decide +kernel⟩, lw_t6 (List.mem_of_getElem? (i := 170) rfl), lw_t7 (List.mem_of_getElem? (i := 233) rfl), lw_t7 (List.mem_of_getElem? (i := 234) rfl)⟩
theorem lw_p62 : lw_okq (⟨"RainWalkModel", "readRain", "()V"⟩, 26) := ⟨⟨by decide +kernel, by decide +kernel⟩, lw_t6 (List.mem_of_getElem? (i := 170) rfl), lw_t8 (List.mem_of_getElem? (i := 1) rfl), lw_t8 (List.mem_of_getElem? (i := 2) rfl)⟩
theorem lw_p63 : lw_okq (⟨"RainWalkModel", "begins", "(II)V"⟩, 26) := ⟨⟨by decide +kernel, by decide +kernel⟩, lw_t6 (List.mem_of_getElem? (i := 170) rfl), lw_t8 (List.mem_of_getElem? (i := 5) rfl), lw_t8 (List.mem_of_getElem? (i := 6) rfl)⟩
def lw_privs_4 : List (MethodName × Nat) := [(⟨"RainWalk", "rainHour", "(I)I"⟩, 18), (⟨"RainWalk", "done", "()Z"⟩, 18), (⟨"RainWalk", "yes", "(I)Z"⟩, 18), (⟨"RainWalkModel", "refused", "(I)I"⟩, 26), (⟨"RainWalkModel", "goesOn", "()V"⟩, 26), (⟨"RainWalkModel", "byteAt", "(I)I"⟩, 26), (⟨"RainWalkModel", "readAll", "()V"⟩, 26), (⟨"RainWalkModel", "readLine", "()V"⟩, 26), (⟨"RainWalkModel", "isWord", "(Ljava/lang/String;)Z"⟩, 26), (⟨"RainWalkModel", "readWorld", "()V"⟩, 26), (⟨"RainWalkModel", "flaw", "(I)V"⟩, 26), (⟨"RainWalkModel", "readPart", "(Ljava/lang/String;II)I"⟩, 26), (⟨"RainWalkModel", "needs", "(Ljava/lang/String;)V"⟩, 26), (⟨"RainWalkModel", "readWhole", "(II)I"⟩, 26), (⟨"RainWalkModel", "readRain", "()V"⟩, 26), (⟨"RainWalkModel", "begins", "(II)V"⟩, 26)]
theorem lw_r4 : ∀ q ∈ lw_privs_4, lw_okq q := List.forall_mem_cons.mpr ⟨lw_p48, List.forall_mem_cons.mpr ⟨lw_p49, List.forall_mem_cons.mpr ⟨lw_p50, List.forall_mem_cons.mpr ⟨lw_p51, List.forall_mem_cons.mpr ⟨lw_p52, List.forall_mem_cons.mpr ⟨lw_p53, List.forall_mem_cons.mpr ⟨lw_p54, List.forall_mem_cons.mpr ⟨lw_p55, List.forall_mem_cons.mpr ⟨lw_p56, List.forall_mem_cons.mpr ⟨lw_p57, List.forall_mem_cons.mpr ⟨lw_p58, List.forall_mem_cons.mpr ⟨lw_p59, List.forall_mem_cons.mpr ⟨lw_p60, List.forall_mem_cons.mpr ⟨lw_p61, List.forall_mem_cons.mpr ⟨lw_p62, List.forall_mem_cons.mpr ⟨lw_p63, fun _ h => absurd h List.not_mem_nil⟩⟩⟩⟩⟩⟩⟩⟩⟩⟩⟩⟩⟩⟩⟩⟩
theorem lw_p64 : lw_okq (⟨"RainWalkModel", "readSide", "()I"⟩, 26) := ⟨⟨by decide +kernel, by decide +kernel⟩, lw_t6 (List.mem_of_getElem? (i := 170) rfl), lw_t8 (List.mem_of_getElem? (i := 12) rfl), lw_t8 (List.mem_of_getElem? (i := 13) rfl)⟩
theorem lw_p65 : lw_okq (⟨"RainWalkModel", "readPlace", "()V"⟩, 26) := ⟨⟨by decide +kernel, by decide +kernel⟩, lw_t6 (List.mem_of_getElem? (i := 170) rfl), lw_t8 (List.mem_of_getElem? (i := 22) rfl), lw_t8 (List.mem_of_getElem? (i := 23) rfl)⟩
theorem lw_p66 : lw_okq (⟨"RainWalkModel", "readFresh", "()J"⟩, 26) := ⟨⟨by decide +kernel, by decide +kernel⟩, lw_t6 (List.mem_of_getElem? (i := 170) rfl), lw_t8 (List.mem_of_getElem? (i := 26) rfl), lw_t8 (List.mem_of_getElem? (i := 27) rfl)⟩
theorem lw_p67 : lw_okq (⟨"RainWalkModel", "isName", "()Z"⟩, 26) := ⟨⟨by decide +kernel, by decide +kernel⟩, lw_t6 (List.mem_of_getElem? (i := 170) rfl), lw_t8 (List.mem_of_getElem? (i := 30) rfl), lw_t8 (List.mem_of_getElem? (i := 31) rfl)⟩
theorem lw_p68 : lw_okq (⟨"RainWalkModel", "eatsWord", "(Ljava/lang/String;)Z"⟩, 26) := ⟨⟨by decide +kernel, by decide +kernel⟩, lw_t6 (List.mem_of_getElem? (i := 170) rfl), lw_t8 (List.mem_of_getElem? (i := 44) rfl), lw_t8 (List.mem_of_getElem? (i := 45) rfl)⟩
theorem lw_p69 : lw_okq (⟨"RainWalkModel", "names", "(JII)V"⟩, 26) := ⟨⟨by decide +kernel, by decide +kernel⟩, lw_t6 (List.mem_of_getElem? (i := 170) rfl), lw_t8 (List.mem_of_getElem? (i := 48) rfl), lw_t8 (List.mem_of_getElem? (i := 49) rfl)⟩
theorem lw_p70 : lw_okq (⟨"RainWalkModel", "readRoad", "()V"⟩, 26) := ⟨⟨by decide +kernel, by decide +kernel⟩, lw_t6 (List.mem_of_getElem? (i := 170) rfl), lw_t8 (List.mem_of_getElem? (i := 52) rfl), lw_t8 (List.mem_of_getElem? (i := 53) rfl)⟩
theorem lw_p71 : lw_okq (⟨"RainWalkModel", "known", "(I)I"⟩, 26) := ⟨⟨by decide +kernel, by decide +kernel⟩, lw_t6 (List.mem_of_getElem? (i := 170) rfl), lw_t8 (List.mem_of_getElem? (i := 56) rfl), lw_t8 (List.mem_of_getElem? (i := 57) rfl)⟩
theorem lw_p72 : lw_okq (⟨"RainWalkModel", "readWalker", "()V"⟩, 26) := ⟨⟨by decide +kernel, by decide +kernel⟩, lw_t6 (List.mem_of_getElem? (i := 170) rfl), lw_t8 (List.mem_of_getElem? (i := 60) rfl), lw_t8 (List.mem_of_getElem? (i := 61) rfl)⟩
theorem lw_p73 : lw_okq (⟨"RainWalkModel", "readSeen", "()V"⟩, 26) := ⟨⟨by decide +kernel, by decide +kernel⟩, lw_t6 (List.mem_of_getElem? (i := 170) rfl), lw_t8 (List.mem_of_getElem? (i := 73) rfl), lw_t8 (List.mem_of_getElem? (i := 74) rfl)⟩
theorem lw_p74 : lw_okq (⟨"RainWalkModel", "eatsSign", "(I)Z"⟩, 26) := ⟨⟨by decide +kernel, by decide +kernel⟩, lw_t6 (List.mem_of_getElem? (i := 170) rfl), lw_t8 (List.mem_of_getElem? (i := 77) rfl), lw_t8 (List.mem_of_getElem? (i := 78) rfl)⟩
theorem lw_p75 : lw_okq (⟨"RainWalkModel", "good", "(I)I"⟩, 26) := ⟨⟨by decide +kernel, by decide +kernel⟩, lw_t6 (List.mem_of_getElem? (i := 170) rfl), lw_t8 (List.mem_of_getElem? (i := 81) rfl), lw_t8 (List.mem_of_getElem? (i := 82) rfl)⟩
theorem lw_p76 : lw_okq (⟨"RainWalkModel", "refuses", "(IIIII)I"⟩, 26) := ⟨⟨by decide +kernel, by decide +kernel⟩, lw_t6 (List.mem_of_getElem? (i := 170) rfl), lw_t8 (List.mem_of_getElem? (i := 97) rfl), lw_t8 (List.mem_of_getElem? (i := 98) rfl)⟩
theorem lw_p77 : lw_okq (⟨"RainWalkModel", "isWalker", "(I)Z"⟩, 26) := ⟨⟨by decide +kernel, by decide +kernel⟩, lw_t6 (List.mem_of_getElem? (i := 170) rfl), lw_t8 (List.mem_of_getElem? (i := 101) rfl), lw_t8 (List.mem_of_getElem? (i := 102) rfl)⟩
theorem lw_p78 : lw_okq (⟨"RainWalkModel", "isRoad", "(I)Z"⟩, 26) := ⟨⟨by decide +kernel, by decide +kernel⟩, lw_t6 (List.mem_of_getElem? (i := 170) rfl), lw_t8 (List.mem_of_getElem? (i := 105) rfl), lw_t8 (List.mem_of_getElem? (i := 106) rfl)⟩
theorem lw_p79 : lw_okq (⟨"RainWalkModel", "isHour", "(I)Z"⟩, 26) := ⟨⟨by decide +kernel, by decide +kernel⟩, lw_t6 (List.mem_of_getElem? (i := 170) rfl), lw_t8 (List.mem_of_getElem? (i := 109) rfl), lw_t8 (List.mem_of_getElem? (i := 110) rfl)⟩
def lw_privs_5 : List (MethodName × Nat) := [(⟨"RainWalkModel", "readSide", "()I"⟩, 26), (⟨"RainWalkModel", "readPlace", "()V"⟩, 26), (⟨"RainWalkModel", "readFresh", "()J"⟩, 26), (⟨"RainWalkModel", "isName", "()Z"⟩, 26), (⟨"RainWalkModel", "eatsWord", "(Ljava/lang/String;)Z"⟩, 26), (⟨"RainWalkModel", "names", "(JII)V"⟩, 26), (⟨"RainWalkModel", "readRoad", "()V"⟩, 26), (⟨"RainWalkModel", "known", "(I)I"⟩, 26), (⟨"RainWalkModel", "readWalker", "()V"⟩, 26), (⟨"RainWalkModel", "readSeen", "()V"⟩, 26), (⟨"RainWalkModel", "eatsSign", "(I)Z"⟩, 26), (⟨"RainWalkModel", "good", "(I)I"⟩, 26), (⟨"RainWalkModel", "refuses", "(IIIII)I"⟩, 26), (⟨"RainWalkModel", "isWalker", "(I)Z"⟩, 26), (⟨"RainWalkModel", "isRoad", "(I)Z"⟩, 26), (⟨"RainWalkModel", "isHour", "(I)Z"⟩, 26)]
theorem lw_r5 : ∀ q ∈ lw_privs_5, lw_okq q := List.forall_mem_cons.mpr ⟨lw_p64, List.forall_mem_cons.mpr ⟨lw_p65, List.forall_mem_cons.mpr ⟨lw_p66, List.forall_mem_cons.mpr ⟨lw_p67, List.forall_mem_cons.mpr ⟨lw_p68, List.forall_mem_cons.mpr ⟨lw_p69, List.forall_mem_cons.mpr ⟨lw_p70, List.forall_mem_cons.mpr ⟨lw_p71, List.forall_mem_cons.mpr ⟨lw_p72, List.forall_mem_cons.mpr ⟨lw_p73, List.forall_mem_cons.mpr ⟨lw_p74, List.forall_mem_cons.mpr ⟨lw_p75, List.forall_mem_cons.mpr ⟨lw_p76, List.forall_mem_cons.mpr ⟨lw_p77, List.forall_mem_cons.mpr ⟨lw_p78, List.forall_mem_cons.mpr ⟨lw_p79, fun _ h => absurd h List.not_mem_nil⟩⟩⟩⟩⟩⟩⟩⟩⟩⟩⟩⟩⟩⟩⟩⟩
theorem lw_p80 : lw_okq (⟨"RainWalkModel", "isSpeed", "(II)Z"⟩, 26) := ⟨⟨by decide +kernel, by decide +kernel⟩, lw_t6 (List.mem_of_getElem? (i := 170) rfl), lw_t8 (List.mem_of_getElem? (i := 113) rfl), lw_t8 (List.mem_of_getElem? (i := 114) rfl)⟩
theorem lw_p81 : lw_okq (⟨"RainWalkModel", "partsOf", "(IIIIII)J"⟩, 26) := ⟨⟨by decide +kernel, by decide +kernel⟩, lw_t6 (List.mem_of_getElem? (i := 170) rfl), lw_t8 (List.mem_of_getElem? (i := 117) rfl), lw_t8 (List.mem_of_getElem? (i := 118) rfl)⟩
theorem lw_p82 : lw_okq (⟨"RainWalkModel", "inTime", "(IIIIIIII)I"⟩, 26) := ⟨⟨by decide +kernel, by decide +kernel⟩, lw_t6 (List.mem_of_getElem? (i := 170) rfl), lw_t8 (List.mem_of_getElem? (i := 121) rfl), lw_t8 (List.mem_of_getElem? (i := 122) rfl)⟩
theorem lw_p83 : lw_okq (⟨"RainWalkModel", "isForward", "(IIIII)Z"⟩, 26) := ⟨⟨by decide +kernel, by decide +kernel⟩, lw_t6 (List.mem_of_getElem? (i := 170) rfl), lw_t8 (List.mem_of_getElem? (i := 137) rfl), lw_t8 (List.mem_of_getElem? (i := 138) rfl)⟩
theorem lw_p84 : lw_okq (⟨"RainWalkModel", "told", "(JJZ)J"⟩, 26) := ⟨⟨by decide +kernel, by decide +kernel⟩, lw_t6 (List.mem_of_getElem? (i := 170) rfl), lw_t8 (List.mem_of_getElem? (i := 149) rfl), lw_t8 (List.mem_of_getElem? (i := 150) rfl)⟩
theorem lw_p85 : lw_okq (⟨"RainWalkModel", "wetOf", "(IIIII)J"⟩, 26) := ⟨⟨by decide +kernel, by decide +kernel⟩, lw_t6 (List.mem_of_getElem? (i := 170) rfl), lw_t8 (List.mem_of_getElem? (i := 157) rfl), lw_t8 (List.mem_of_getElem? (i := 158) rfl)⟩
theorem lw_p86 : lw_okq (⟨"RainWalkModel", "lost", "(I)I"⟩, 26) := ⟨⟨by decide +kernel, by decide +kernel⟩, lw_t6 (List.mem_of_getElem? (i := 170) rfl), lw_t8 (List.mem_of_getElem? (i := 178) rfl), lw_t8 (List.mem_of_getElem? (i := 179) rfl)⟩
theorem lw_p87 : lw_okq (⟨"RainWalkModel", "bestOf", "(IIII)I"⟩, 26) := ⟨⟨by decide +kernel, by decide +kernel⟩, lw_t6 (List.mem_of_getElem? (i := 170) rfl), lw_t8 (List.mem_of_getElem? (i := 190) rfl), lw_t8 (List.mem_of_getElem? (i := 191) rfl)⟩
theorem lw_p88 : lw_okq (⟨"RainWalkModel", "wetAtBest", "(IIII)J"⟩, 26) := ⟨⟨by decide +kernel, by decide +kernel⟩, lw_t6 (List.mem_of_getElem? (i := 170) rfl), lw_t8 (List.mem_of_getElem? (i := 210) rfl), lw_t8 (List.mem_of_getElem? (i := 211) rfl)⟩
theorem lw_p89 : lw_okq (⟨"RainWalkModel", "refusesTwo", "(IIIIII)I"⟩, 26) := ⟨⟨by decide +kernel, by decide +kernel⟩, lw_t6 (List.mem_of_getElem? (i := 170) rfl), lw_t8 (List.mem_of_getElem? (i := 222) rfl), lw_t8 (List.mem_of_getElem? (i := 223) rfl)⟩
theorem lw_p90 : lw_okq (⟨"RainWalkModel", "together", "(IIIIII)J"⟩, 26) := ⟨⟨by decide +kernel, by decide +kernel⟩, lw_t6 (List.mem_of_getElem? (i := 170) rfl), lw_t8 (List.mem_of_getElem? (i := 226) rfl), lw_t8 (List.mem_of_getElem? (i := 227) rfl)⟩
theorem lw_p91 : lw_okq (⟨"RainWalkModel", "refusesWay", "(IIIII)I"⟩, 26) := ⟨⟨by decide +kernel, by decide +kernel⟩, lw_t6 (List.mem_of_getElem? (i := 170) rfl), lw_t8 (List.mem_of_getElem? (i := 238) rfl), lw_t8 (List.mem_of_getElem? (i := 239) rfl)⟩
theorem lw_p92 : lw_okq (⟨"RainWalkModel", "isPlace", "(I)Z"⟩, 26) := ⟨⟨by decide +kernel, by decide +kernel⟩, lw_t6 (List.mem_of_getElem? (i := 170) rfl), lw_t9 (List.mem_of_getElem? (i := 2) rfl), lw_t9 (List.mem_of_getElem? (i := 3) rfl)⟩
theorem lw_p93 : lw_okq (⟨"RainWalkModel", "laysWays", "(III)V"⟩, 26) := ⟨⟨by decide +kernel, by decide +kernel⟩, lw_t6 (List.mem_of_getElem? (i := 170) rfl), lw_t9 (List.mem_of_getElem? (i := 6) rfl), lw_t9 (List.mem_of_getElem? (i := 7) rfl)⟩
theorem lw_p94 : lw_okq (⟨"RainWalkModel", "tries", "(IIII)V"⟩, 26) := ⟨⟨by decide +kernel, by decide +kernel⟩, lw_t6 (List.mem_of_getElem? (i := 170) rfl), lw_t9 (List.mem_of_getElem? (i := 14) rfl), lw_t9 (List.mem_of_getElem? (i := 15) rfl)⟩
theorem lw_p95 : lw_okq (⟨"RainWalkModel", "meanOf", "(IIIII)J"⟩, 26) := ⟨⟨by decide +kernel, by decide +kernel⟩, lw_t6 (List.mem_of_getElem? (i := 170) rfl), lw_t9 (List.mem_of_getElem? (i := 26) rfl), lw_t9 (List.mem_of_getElem? (i := 27) rfl)⟩
def lw_privs_6 : List (MethodName × Nat) := [(⟨"RainWalkModel", "isSpeed", "(II)Z"⟩, 26), (⟨"RainWalkModel", "partsOf", "(IIIIII)J"⟩, 26), (⟨"RainWalkModel", "inTime", "(IIIIIIII)I"⟩, 26), (⟨"RainWalkModel", "isForward", "(IIIII)Z"⟩, 26), (⟨"RainWalkModel", "told", "(JJZ)J"⟩, 26), (⟨"RainWalkModel", "wetOf", "(IIIII)J"⟩, 26), (⟨"RainWalkModel", "lost", "(I)I"⟩, 26), (⟨"RainWalkModel", "bestOf", "(IIII)I"⟩, 26), (⟨"RainWalkModel", "wetAtBest", "(IIII)J"⟩, 26), (⟨"RainWalkModel", "refusesTwo", "(IIIIII)I"⟩, 26), (⟨"RainWalkModel", "together", "(IIIIII)J"⟩, 26), (⟨"RainWalkModel", "refusesWay", "(IIIII)I"⟩, 26), (⟨"RainWalkModel", "isPlace", "(I)Z"⟩, 26), (⟨"RainWalkModel", "laysWays", "(III)V"⟩, 26), (⟨"RainWalkModel", "tries", "(IIII)V"⟩, 26), (⟨"RainWalkModel", "meanOf", "(IIIII)J"⟩, 26)]
theorem lw_r6 : ∀ q ∈ lw_privs_6, lw_okq q := List.forall_mem_cons.mpr ⟨lw_p80, List.forall_mem_cons.mpr ⟨lw_p81, List.forall_mem_cons.mpr ⟨lw_p82, List.forall_mem_cons.mpr ⟨lw_p83, List.forall_mem_cons.mpr ⟨lw_p84, List.forall_mem_cons.mpr ⟨lw_p85, List.forall_mem_cons.mpr ⟨lw_p86, List.forall_mem_cons.mpr ⟨lw_p87, List.forall_mem_cons.mpr ⟨lw_p88, List.forall_mem_cons.mpr ⟨lw_p89, List.forall_mem_cons.mpr ⟨lw_p90, List.forall_mem_cons.mpr ⟨lw_p91, List.forall_mem_cons.mpr ⟨lw_p92, List.forall_mem_cons.mpr ⟨lw_p93, List.forall_mem_cons.mpr ⟨lw_p94, List.forall_mem_cons.mpr ⟨lw_p95, fun _ h => absurd h List.not_mem_nil⟩⟩⟩⟩⟩⟩⟩⟩⟩⟩⟩⟩⟩⟩⟩⟩
theorem lw_p96 : lw_okq (⟨"RainWalkModel", "hourOf", "(I)I"⟩, 26) := ⟨⟨by decide +kernel, by decide +kernel⟩, lw_t6 (List.mem_of_getElem? (i := 170) rfl), lw_t9 (List.mem_of_getElem? (i := 30) rfl), lw_t9 (List.mem_of_getElem? (i := 31) rfl)⟩
theorem lw_p97 : lw_okq (⟨"RainWalkModel", "takes", "(IIJI)V"⟩, 26) := ⟨⟨by decide +kernel, by decide +kernel⟩, lw_t6 (List.mem_of_getElem? (i := 170) rfl), lw_t9 (List.mem_of_getElem? (i := 34) rfl), lw_t9 (List.mem_of_getElem? (i := 35) rfl)⟩
theorem lw_p98 : lw_okq (⟨"RainWalkModel", "canWait", "(I)Z"⟩, 26) := ⟨⟨by decide +kernel, by decide +kernel⟩, lw_t6 (List.mem_of_getElem? (i := 170) rfl), lw_t9 (List.mem_of_getElem? (i := 38) rfl), lw_t9 (List.mem_of_getElem? (i := 39) rfl)⟩
theorem lw_p99 : lw_okq (⟨"RainWalkModel", "waitsOf", "(III)J"⟩, 26) := ⟨⟨by decide +kernel, by decide +kernel⟩, lw_t6 (List.mem_of_getElem? (i := 170) rfl), lw_t9 (List.mem_of_getElem? (i := 42) rfl), lw_t9 (List.mem_of_getElem? (i := 43) rfl)⟩
theorem lw_p100 : lw_okq (⟨"RainWalkModel", "drips", "(II)J"⟩, 26) := ⟨⟨by decide +kernel, by decide +kernel⟩, lw_t6 (List.mem_of_getElem? (i := 170) rfl), lw_t9 (List.mem_of_getElem? (i := 46) rfl), lw_t9 (List.mem_of_getElem? (i := 47) rfl)⟩
theorem lw_p101 : lw_okq (⟨"RainWalkModel", "stepOf", "(IIII)I"⟩, 26) := ⟨⟨by decide +kernel, by decide +kernel⟩, lw_t6 (List.mem_of_getElem? (i := 170) rfl), lw_t9 (List.mem_of_getElem? (i := 58) rfl), lw_t9 (List.mem_of_getElem? (i := 59) rfl)⟩
theorem lw_p102 : lw_okq (⟨"RainWalkModel", "isSeen", "(I)Z"⟩, 26) := ⟨⟨by decide +kernel, by decide +kernel⟩, lw_t6 (List.mem_of_getElem? (i := 170) rfl), lw_t9 (List.mem_of_getElem? (i := 74) rfl), lw_t9 (List.mem_of_getElem? (i := 75) rfl)⟩
theorem lw_p103 : lw_okq (⟨"RainWalkModel", "fitOf", "(II)I"⟩, 26) := ⟨⟨by decide +kernel, by decide +kernel⟩, lw_t6 (List.mem_of_getElem? (i := 170) rfl), lw_t9 (List.mem_of_getElem? (i := 78) rfl), lw_t9 (List.mem_of_getElem? (i := 79) rfl)⟩
theorem lw_p104 : lw_okq (⟨"RainWalkModel", "isDay", "()Z"⟩, 26) := ⟨⟨by decide +kernel, by decide +kernel⟩, lw_t6 (List.mem_of_getElem? (i := 170) rfl), lw_t9 (List.mem_of_getElem? (i := 102) rfl), lw_t9 (List.mem_of_getElem? (i := 103) rfl)⟩
theorem lw_p105 : lw_okq (⟨"RainWalkModel", "keeps", "()V"⟩, 26) := ⟨⟨by decide +kernel, by decide +kernel⟩, lw_t6 (List.mem_of_getElem? (i := 170) rfl), lw_t9 (List.mem_of_getElem? (i := 106) rfl), lw_t9 (List.mem_of_getElem? (i := 107) rfl)⟩
theorem lw_p106 : lw_okq (⟨"RainWalkModel", "rainsIn", "(I)Z"⟩, 26) := ⟨⟨by decide +kernel, by decide +kernel⟩, lw_t6 (List.mem_of_getElem? (i := 170) rfl), lw_t9 (List.mem_of_getElem? (i := 110) rfl), lw_t9 (List.mem_of_getElem? (i := 111) rfl)⟩
theorem lw_p107 : lw_okq (⟨"RainWalkModel", "denied", "(I)Z"⟩, 26) := ⟨⟨by decide +kernel, by decide +kernel⟩, lw_t6 (List.mem_of_getElem? (i := 170) rfl), lw_t9 (List.mem_of_getElem? (i := 118) rfl), lw_t9 (List.mem_of_getElem? (i := 119) rfl)⟩
theorem lw_p108 : lw_okq (⟨"RainWalkModel", "granted", "()Z"⟩, 26) := ⟨⟨by decide +kernel, by decide +kernel⟩, lw_t6 (List.mem_of_getElem? (i := 170) rfl), lw_t9 (List.mem_of_getElem? (i := 123) rfl), lw_t9 (List.mem_of_getElem? (i := 124) rfl)⟩
theorem lw_p109 : lw_okq (⟨"RainWalkModel", "gotInAll", "()J"⟩, 26) := ⟨⟨by decide +kernel, by decide +kernel⟩, lw_t6 (List.mem_of_getElem? (i := 170) rfl), lw_t9 (List.mem_of_getElem? (i := 135) rfl), lw_t9 (List.mem_of_getElem? (i := 136) rfl)⟩
theorem lw_p110 : lw_okq (⟨"RainWalkModel", "holds", "()J"⟩, 26) := ⟨⟨by decide +kernel, by decide +kernel⟩, lw_t6 (List.mem_of_getElem? (i := 170) rfl), lw_t9 (List.mem_of_getElem? (i := 139) rfl), lw_t9 (List.mem_of_getElem? (i := 140) rfl)⟩
def lw_privs_7 : List (MethodName × Nat) := [(⟨"RainWalkModel", "hourOf", "(I)I"⟩, 26), (⟨"RainWalkModel", "takes", "(IIJI)V"⟩, 26), (⟨"RainWalkModel", "canWait", "(I)Z"⟩, 26), (⟨"RainWalkModel", "waitsOf", "(III)J"⟩, 26), (⟨"RainWalkModel", "drips", "(II)J"⟩, 26), (⟨"RainWalkModel", "stepOf", "(IIII)I"⟩, 26), (⟨"RainWalkModel", "isSeen", "(I)Z"⟩, 26), (⟨"RainWalkModel", "fitOf", "(II)I"⟩, 26), (⟨"RainWalkModel", "isDay", "()Z"⟩, 26), (⟨"RainWalkModel", "keeps", "()V"⟩, 26), (⟨"RainWalkModel", "rainsIn", "(I)Z"⟩, 26), (⟨"RainWalkModel", "denied", "(I)Z"⟩, 26), (⟨"RainWalkModel", "granted", "()Z"⟩, 26), (⟨"RainWalkModel", "gotInAll", "()J"⟩, 26), (⟨"RainWalkModel", "holds", "()J"⟩, 26)]
theorem lw_r7 : ∀ q ∈ lw_privs_7, lw_okq q := List.forall_mem_cons.mpr ⟨lw_p96, List.forall_mem_cons.mpr ⟨lw_p97, List.forall_mem_cons.mpr ⟨lw_p98, List.forall_mem_cons.mpr ⟨lw_p99, List.forall_mem_cons.mpr ⟨lw_p100, List.forall_mem_cons.mpr ⟨lw_p101, List.forall_mem_cons.mpr ⟨lw_p102, List.forall_mem_cons.mpr ⟨lw_p103, List.forall_mem_cons.mpr ⟨lw_p104, List.forall_mem_cons.mpr ⟨lw_p105, List.forall_mem_cons.mpr ⟨lw_p106, List.forall_mem_cons.mpr ⟨lw_p107, List.forall_mem_cons.mpr ⟨lw_p108, List.forall_mem_cons.mpr ⟨lw_p109, List.forall_mem_cons.mpr ⟨lw_p110, fun _ h => absurd h List.not_mem_nil⟩⟩⟩⟩⟩⟩⟩⟩⟩⟩⟩⟩⟩⟩⟩
def lw_privs : List (MethodName × Nat) := lw_privs_1 ++ (lw_privs_2 ++ (lw_privs_3 ++ (lw_privs_4 ++ (lw_privs_5 ++ (lw_privs_6 ++ (lw_privs_7))))))
def lw_tbl : List Cond := k2_sels lw_privs ++ tables_1
theorem lw_privs_ok : ∀ q ∈ lw_privs, lw_okq q := by
  show ∀ q ∈ lw_privs_1 ++ (lw_privs_2 ++ (lw_privs_3 ++ (lw_privs_4 ++ (lw_privs_5 ++ (lw_privs_6 ++ (lw_privs_7)))))), lw_okq q
  exact List.forall_mem_append.mpr ⟨lw_r1, List.forall_mem_append.mpr ⟨lw_r2, List.forall_mem_append.mpr ⟨lw_r3, List.forall_mem_append.mpr ⟨lw_r4, List.forall_mem_append.mpr ⟨lw_r5, List.forall_mem_append.mpr ⟨lw_r6, lw_r7⟩⟩⟩⟩⟩⟩
-- ===== ONE list of words for every method: the tables' words that hold all through a run =====
def lw_all : List Cond := lw_tbl.filter goodWord
/-- a word of the tables by its place: claim/WORDS.tsv -/
theorem lw_w {w : Cond} (i : Nat) (h : lw_tbl[i]? = some w) (g : goodWord w = true) : w ∈ lw_all := List.mem_filter.mpr ⟨List.mem_of_getElem? h, g⟩
theorem lw_all_tbl {w : Cond} (h : w ∈ lw_all) : w ∈ lw_tbl := (List.mem_filter.mp h).1
theorem lw_self : GoodIn lw_all lw_all := fun w h => ⟨h, good_of_word (List.mem_filter.mp h).2⟩
/-- a class's field words, by their places -/
theorem lw_in (ws : List Cond) (ps : List Nat) (hp : ws = ps.filterMap (fun i => lw_tbl[i]?)) (hg : ws.all goodWord = true) : ∀ w ∈ ws, w ∈ lw_all := by
  intro w h
  have h1 := List.all_eq_true.mp hg w h
  rw [hp] at h
  obtain ⟨i, -, hi⟩ := List.mem_filterMap.mp h
  exact lw_w i hi h1
/-- the words of a contract for the method y with code b, L locals, answer r -/
abbrev ws_ (y : MethodName) (b : ByteArray) (L : Nat) (r : Option FieldType) : List Cond := Cond.code y b L r :: lw_all
theorem lw_meth {y : MethodName} {b : ByteArray} {L : Nat} {r : Option FieldType} (h : Cond.code y b L r ∈ lw_all) : GoodIn lw_all (ws_ y b L r) := by
  intro w hw
  rcases List.mem_cons.mp hw with e | e
  · rw [e]
    exact lw_self _ h
  · exact lw_self _ e
theorem lw_app {a c : List Cond} (ha : ∀ w ∈ a, w ∈ lw_all) (hc : GoodIn lw_all c) : GoodIn lw_all (a ++ c) := by
  intro w hw
  rcases List.mem_append.mp hw with e | e
  · exact lw_self w (ha w e)
  · exact hc w e
/-- what a call through an object asks: cwV n hts (lw_V ..) -/
theorem lw_V {own : String} {idx : Nat} {C : String} {y : MethodName} {b : ByteArray} {L : Nat} {r : Option FieldType} (h1 : Cond.methodLink own idx y ∈ lw_all) (h2 : Cond.instanceMethod y ∈ lw_all) (h3 : Cond.selects C y y ∈ lw_all) (h4 : Cond.initialized C ∈ lw_all) (h5 : Cond.code y b L r ∈ lw_all) : GoodIn lw_all (wsV own idx C y (ws_ y b L r)) := by
  refine lw_app ?_ (lw_meth h5)
  intro w hw
  simp only [List.mem_cons, List.not_mem_nil, or_false] at hw
  rcases hw with e | e | e | e
  · rw [e]; exact h1
  · rw [e]; exact h2
  · rw [e]; exact h3
  · rw [e]; exact h4
/-- what a static call asks: va_cwS n hts (lw_S ..) -/
theorem lw_S {own : String} {idx : Nat} {y : MethodName} {b : ByteArray} {L : Nat} {r : Option FieldType} (h1 : Cond.methodLink own idx y ∈ lw_all) (h2 : Cond.static y ∈ lw_all) (h3 : Cond.initialized y.cls ∈ lw_all) (h4 : Cond.code y b L r ∈ lw_all) : GoodIn lw_all (va_wsS own idx y (ws_ y b L r)) := by
  refine lw_app ?_ (lw_meth h4)
  intro w hw
  simp only [List.mem_cons, List.not_mem_nil, or_false] at hw
  rcases hw with e | e | e
  · rw [e]; exact h1
  · rw [e]; exact h2
  · rw [e]; exact h3
/-- the words of a contract for a method WITH HANDLERS (hh: its table) -/
abbrev wsW_ (y : MethodName) (b : ByteArray) (L : Nat) (r : Option FieldType) (hh : List (Nat × Nat × Nat × Nat)) : List Cond := Cond.codeWith y b L r hh :: lw_all
theorem lw_methW {y : MethodName} {b : ByteArray} {L : Nat} {r : Option FieldType} {hh : List (Nat × Nat × Nat × Nat)} (h : Cond.codeWith y b L r hh ∈ lw_all) : GoodIn lw_all (wsW_ y b L r hh) := by
  intro w hw
  rcases List.mem_cons.mp hw with e | e
  · rw [e]
    exact lw_self _ h
  · exact lw_self _ e
/-- any list of words by their places (lw_in), good -/
theorem lw_good {ws : List Cond} (h : ∀ w ∈ ws, w ∈ lw_all) : GoodIn lw_all ws := fun w hw => lw_self w (h w hw)
/-- what a call of a method with handlers asks: vx_cwVW n hts (lw_VW ..), vx_cwSW n hts (lw_SW ..) -/
theorem lw_VW {own : String} {idx : Nat} {C : String} {y : MethodName} {b : ByteArray} {L : Nat} {r : Option FieldType} {hh : List (Nat × Nat × Nat × Nat)} (h1 : Cond.methodLink own idx y ∈ lw_all) (h2 : Cond.instanceMethod y ∈ lw_all) (h3 : Cond.selects C y y ∈ lw_all) (h4 : Cond.initialized C ∈ lw_all) (h5 : Cond.codeWith y b L r hh ∈ lw_all) : GoodIn lw_all (wsV own idx C y (wsW_ y b L r hh)) := by
  refine lw_app ?_ (lw_methW h5)
  intro w hw
  simp only [List.mem_cons, List.not_mem_nil, or_false] at hw
  rcases hw with e | e | e | e
  · rw [e]; exact h1
  · rw [e]; exact h2
  · rw [e]; exact h3
  · rw [e]; exact h4
theorem lw_SW {own : String} {idx : Nat} {y : MethodName} {b : ByteArray} {L : Nat} {r : Option FieldType} {hh : List (Nat × Nat × Nat × Nat)} (h1 : Cond.methodLink own idx y ∈ lw_all) (h2 : Cond.static y ∈ lw_all) (h3 : Cond.initialized y.cls ∈ lw_all) (h4 : Cond.codeWith y b L r hh ∈ lw_all) : GoodIn lw_all (va_wsS own idx y (wsW_ y b L r hh)) := by
  refine lw_app ?_ (lw_methW h4)
  intro w hw
  simp only [List.mem_cons, List.not_mem_nil, or_false] at hw
  rcases hw with e | e | e
  · rw [e]; exact h1
  · rw [e]; exact h2
  · rw [e]; exact h3
/-- a word by its place in its run of the tables -/
theorem lw_at {r : List Cond} (hr : ∀ w ∈ r, w ∈ lw_tbl) {w : Cond} (i : Nat) (h : r[i]? = some w) : w ∈ lw_tbl := hr w (List.mem_of_getElem? h)
theorem lw_g {w : Cond} (h : w ∈ lw_tbl) (g : goodWord w = true) : w ∈ lw_all := List.mem_filter.mpr ⟨h, g⟩
theorem lw_ms : ∀ w ∈ k2_sels lw_privs, w ∈ lw_tbl := fun w h => show w ∈ k2_sels lw_privs ++ tables_1 from List.mem_append_left _ h
theorem lw_m1 : ∀ w ∈ tables_1_1, w ∈ lw_tbl := fun w h => show w ∈ k2_sels lw_privs ++ tables_1 from List.mem_append_right (k2_sels lw_privs) (show w ∈ tables_1 from List.mem_append_left _ h)
theorem lw_m2 : ∀ w ∈ tables_1_2, w ∈ lw_tbl := fun w h => show w ∈ k2_sels lw_privs ++ tables_1 from List.mem_append_right (k2_sels lw_privs) (show w ∈ tables_1 from List.mem_append_right _ (List.mem_append_left _ h))
theorem lw_m3 : ∀ w ∈ tables_1_3, w ∈ lw_tbl := fun w h => show w ∈ k2_sels lw_privs ++ tables_1 from List.mem_append_right (k2_sels lw_privs) (show w ∈ tables_1 from List.mem_append_right _ (List.mem_append_right _ (List.mem_append_left _ h)))
theorem lw_m4 : ∀ w ∈ tables_1_4, w ∈ lw_tbl := fun w h => show w ∈ k2_sels lw_privs ++ tables_1 from List.mem_append_right (k2_sels lw_privs) (show w ∈ tables_1 from List.mem_append_right _ (List.mem_append_right _ (List.mem_append_right _ (List.mem_append_left _ h))))
theorem lw_m5 : ∀ w ∈ tables_1_5, w ∈ lw_tbl := fun w h => show w ∈ k2_sels lw_privs ++ tables_1 from List.mem_append_right (k2_sels lw_privs) (show w ∈ tables_1 from List.mem_append_right _ (List.mem_append_right _ (List.mem_append_right _ (List.mem_append_right _ (List.mem_append_left _ h)))))
theorem lw_m6 : ∀ w ∈ tables_1_6, w ∈ lw_tbl := fun w h => show w ∈ k2_sels lw_privs ++ tables_1 from List.mem_append_right (k2_sels lw_privs) (show w ∈ tables_1 from List.mem_append_right _ (List.mem_append_right _ (List.mem_append_right _ (List.mem_append_right _ (List.mem_append_right _ (List.mem_append_left _ h))))))
theorem lw_m7 : ∀ w ∈ tables_1_7, w ∈ lw_tbl := fun w h => show w ∈ k2_sels lw_privs ++ tables_1 from List.mem_append_right (k2_sels lw_privs) (show w ∈ tables_1 from List.mem_append_right _ (List.mem_append_right _ (List.mem_append_right _ (List.mem_append_right _ (List.mem_append_right _ (List.mem_append_right _ (List.mem_append_left _ h)))))))
theorem lw_m8 : ∀ w ∈ tables_1_8, w ∈ lw_tbl := fun w h => show w ∈ k2_sels lw_privs ++ tables_1 from List.mem_append_right (k2_sels lw_privs) (show w ∈ tables_1 from List.mem_append_right _ (List.mem_append_right _ (List.mem_append_right _ (List.mem_append_right _ (List.mem_append_right _ (List.mem_append_right _ (List.mem_append_right _ (List.mem_append_left _ h))))))))
theorem lw_m9 : ∀ w ∈ tables_1_9, w ∈ lw_tbl := fun w h => show w ∈ k2_sels lw_privs ++ tables_1 from List.mem_append_right (k2_sels lw_privs) (show w ∈ tables_1 from List.mem_append_right _ (List.mem_append_right _ (List.mem_append_right _ (List.mem_append_right _ (List.mem_append_right _ (List.mem_append_right _ (List.mem_append_right _ (List.mem_append_right _ h))))))))
theorem qs0 : (Cond.selects "java/lang/Throwable" ⟨"java/lang/Throwable", "fillInStackTrace", "(I)Ljava/lang/Throwable;"⟩ ⟨"java/lang/Throwable", "fillInStackTrace", "(I)Ljava/lang/Throwable;"⟩) ∈ lw_all := lw_g (lw_at lw_ms 0 rfl) rfl
theorem qs1 : (Cond.selects "RainWalk" ⟨"RainWalk", "bytes", "(I)V"⟩ ⟨"RainWalk", "bytes", "(I)V"⟩) ∈ lw_all := lw_g (lw_at lw_ms 1 rfl) rfl
theorem qs2 : (Cond.selects "RainWalk" ⟨"RainWalk", "anew", "()V"⟩ ⟨"RainWalk", "anew", "()V"⟩) ∈ lw_all := lw_g (lw_at lw_ms 2 rfl) rfl
theorem qs3 : (Cond.selects "RainWalk" ⟨"RainWalk", "no", "(I)I"⟩ ⟨"RainWalk", "no", "(I)I"⟩) ∈ lw_all := lw_g (lw_at lw_ms 3 rfl) rfl
theorem qs4 : (Cond.selects "RainWalk$Reader" ⟨"RainWalk$Reader", "next", "()V"⟩ ⟨"RainWalk$Reader", "next", "()V"⟩) ∈ lw_all := lw_g (lw_at lw_ms 4 rfl) rfl
theorem qs5 : (Cond.selects "RainWalk$Reader" ⟨"RainWalk$Reader", "see", "(I)I"⟩ ⟨"RainWalk$Reader", "see", "(I)I"⟩) ∈ lw_all := lw_g (lw_at lw_ms 5 rfl) rfl
theorem qs6 : (Cond.selects "RainWalk$Reader" ⟨"RainWalk$Reader", "line", "()V"⟩ ⟨"RainWalk$Reader", "line", "()V"⟩) ∈ lw_all := lw_g (lw_at lw_ms 6 rfl) rfl
theorem qs7 : (Cond.selects "RainWalk$Reader" ⟨"RainWalk$Reader", "fail", "(I)LRainWalk$Refused;"⟩ ⟨"RainWalk$Reader", "fail", "(I)LRainWalk$Refused;"⟩) ∈ lw_all := lw_g (lw_at lw_ms 7 rfl) rfl
theorem qs8 : (Cond.selects "RainWalk$Reader" ⟨"RainWalk$Reader", "worldLine", "()V"⟩ ⟨"RainWalk$Reader", "worldLine", "()V"⟩) ∈ lw_all := lw_g (lw_at lw_ms 8 rfl) rfl
theorem qs9 : (Cond.selects "RainWalk$Reader" ⟨"RainWalk$Reader", "after", "(Ljava/lang/String;II)I"⟩ ⟨"RainWalk$Reader", "after", "(Ljava/lang/String;II)I"⟩) ∈ lw_all := lw_g (lw_at lw_ms 9 rfl) rfl
theorem qs10 : (Cond.selects "RainWalk$Reader" ⟨"RainWalk$Reader", "must", "(Ljava/lang/String;)V"⟩ ⟨"RainWalk$Reader", "must", "(Ljava/lang/String;)V"⟩) ∈ lw_all := lw_g (lw_at lw_ms 10 rfl) rfl
theorem qs11 : (Cond.selects "RainWalk$Reader" ⟨"RainWalk$Reader", "takes", "(Ljava/lang/String;)Z"⟩ ⟨"RainWalk$Reader", "takes", "(Ljava/lang/String;)Z"⟩) ∈ lw_all := lw_g (lw_at lw_ms 11 rfl) rfl
theorem qs12 : (Cond.selects "RainWalk$Reader" ⟨"RainWalk$Reader", "number", "(II)I"⟩ ⟨"RainWalk$Reader", "number", "(II)I"⟩) ∈ lw_all := lw_g (lw_at lw_ms 12 rfl) rfl
theorem qs13 : (Cond.selects "RainWalk$Reader" ⟨"RainWalk$Reader", "rain", "()V"⟩ ⟨"RainWalk$Reader", "rain", "()V"⟩) ∈ lw_all := lw_g (lw_at lw_ms 13 rfl) rfl
theorem qs14 : (Cond.selects "RainWalk$Reader" ⟨"RainWalk$Reader", "begins", "(Z)V"⟩ ⟨"RainWalk$Reader", "begins", "(Z)V"⟩) ∈ lw_all := lw_g (lw_at lw_ms 14 rfl) rfl
theorem qs15 : (Cond.selects "RainWalk$Reader" ⟨"RainWalk$Reader", "side", "()I"⟩ ⟨"RainWalk$Reader", "side", "()I"⟩) ∈ lw_all := lw_g (lw_at lw_ms 15 rfl) rfl
theorem qs16 : (Cond.selects "RainWalk$Reader" ⟨"RainWalk$Reader", "place", "()V"⟩ ⟨"RainWalk$Reader", "place", "()V"⟩) ∈ lw_all := lw_g (lw_at lw_ms 16 rfl) rfl
theorem qs17 : (Cond.selects "RainWalk$Reader" ⟨"RainWalk$Reader", "newName", "()Ljava/lang/String;"⟩ ⟨"RainWalk$Reader", "newName", "()Ljava/lang/String;"⟩) ∈ lw_all := lw_g (lw_at lw_ms 17 rfl) rfl
theorem qs18 : (Cond.selects "RainWalk$Reader" ⟨"RainWalk$Reader", "mustName", "()V"⟩ ⟨"RainWalk$Reader", "mustName", "()V"⟩) ∈ lw_all := lw_g (lw_at lw_ms 18 rfl) rfl
theorem qs19 : (Cond.selects "RainWalk$Reader" ⟨"RainWalk$Reader", "road", "()V"⟩ ⟨"RainWalk$Reader", "road", "()V"⟩) ∈ lw_all := lw_g (lw_at lw_ms 19 rfl) rfl
theorem qs20 : (Cond.selects "RainWalk$Reader" ⟨"RainWalk$Reader", "placeHere", "()LRainWalk$Place;"⟩ ⟨"RainWalk$Reader", "placeHere", "()LRainWalk$Place;"⟩) ∈ lw_all := lw_g (lw_at lw_ms 20 rfl) rfl
theorem qs21 : (Cond.selects "RainWalk$Reader" ⟨"RainWalk$Reader", "walker", "()V"⟩ ⟨"RainWalk$Reader", "walker", "()V"⟩) ∈ lw_all := lw_g (lw_at lw_ms 21 rfl) rfl
theorem qs22 : (Cond.selects "RainWalk$Reader" ⟨"RainWalk$Reader", "walkerOf", "(Ljava/lang/String;I)LRainWalk$Walker;"⟩ ⟨"RainWalk$Reader", "walkerOf", "(Ljava/lang/String;I)LRainWalk$Walker;"⟩) ∈ lw_all := lw_g (lw_at lw_ms 22 rfl) rfl
theorem qs23 : (Cond.selects "RainWalk$Reader" ⟨"RainWalk$Reader", "seen", "()V"⟩ ⟨"RainWalk$Reader", "seen", "()V"⟩) ∈ lw_all := lw_g (lw_at lw_ms 23 rfl) rfl
theorem qs24 : (Cond.selects "RainWalk" ⟨"RainWalk", "legWhy", "(IIIII)I"⟩ ⟨"RainWalk", "legWhy", "(IIIII)I"⟩) ∈ lw_all := lw_g (lw_at lw_ms 24 rfl) rfl
theorem qs25 : (Cond.selects "RainWalk" ⟨"RainWalk", "isWalker", "(I)Z"⟩ ⟨"RainWalk", "isWalker", "(I)Z"⟩) ∈ lw_all := lw_g (lw_at lw_ms 25 rfl) rfl
theorem qs26 : (Cond.selects "RainWalk" ⟨"RainWalk", "isLeg", "(III)Z"⟩ ⟨"RainWalk", "isLeg", "(III)Z"⟩) ∈ lw_all := lw_g (lw_at lw_ms 26 rfl) rfl
theorem qs27 : (Cond.selects "RainWalk" ⟨"RainWalk", "isRoad", "(I)Z"⟩ ⟨"RainWalk", "isRoad", "(I)Z"⟩) ∈ lw_all := lw_g (lw_at lw_ms 27 rfl) rfl
theorem qs28 : (Cond.selects "RainWalk$Leg" ⟨"RainWalk$Leg", "byTop", "(I)J"⟩ ⟨"RainWalk$Leg", "byTop", "(I)J"⟩) ∈ lw_all := lw_g (lw_at lw_ms 28 rfl) rfl
theorem qs29 : (Cond.selects "RainWalk$Leg" ⟨"RainWalk$Leg", "byFront", "(I)J"⟩ ⟨"RainWalk$Leg", "byFront", "(I)J"⟩) ∈ lw_all := lw_g (lw_at lw_ms 29 rfl) rfl
theorem qs30 : (Cond.selects "RainWalk$Leg" ⟨"RainWalk$Leg", "byBack", "(I)J"⟩ ⟨"RainWalk$Leg", "byBack", "(I)J"⟩) ∈ lw_all := lw_g (lw_at lw_ms 30 rfl) rfl
theorem qs31 : (Cond.selects "RainWalk" ⟨"RainWalk", "bestSpeed", "(IIII)I"⟩ ⟨"RainWalk", "bestSpeed", "(IIII)I"⟩) ∈ lw_all := lw_g (lw_at lw_ms 31 rfl) rfl
theorem qs32 : (Cond.selects "RainWalk" ⟨"RainWalk", "worstSpeed", "(IIII)I"⟩ ⟨"RainWalk", "worstSpeed", "(IIII)I"⟩) ∈ lw_all := lw_g (lw_at lw_ms 32 rfl) rfl
theorem qs33 : (Cond.selects "RainWalk" ⟨"RainWalk", "wetAtBest", "(IIII)J"⟩ ⟨"RainWalk", "wetAtBest", "(IIII)J"⟩) ∈ lw_all := lw_g (lw_at lw_ms 33 rfl) rfl
theorem qs34 : (Cond.selects "RainWalk" ⟨"RainWalk", "pairWhy", "(IIIIII)I"⟩ ⟨"RainWalk", "pairWhy", "(IIIIII)I"⟩) ∈ lw_all := lw_g (lw_at lw_ms 34 rfl) rfl
theorem qs35 : (Cond.selects "RainWalk" ⟨"RainWalk", "together", "(IIIIII)J"⟩ ⟨"RainWalk", "together", "(IIIIII)J"⟩) ∈ lw_all := lw_g (lw_at lw_ms 35 rfl) rfl
theorem qs36 : (Cond.selects "RainWalk" ⟨"RainWalk", "wayWhy", "(IIIII)I"⟩ ⟨"RainWalk", "wayWhy", "(IIIII)I"⟩) ∈ lw_all := lw_g (lw_at lw_ms 36 rfl) rfl
theorem qs37 : (Cond.selects "RainWalk" ⟨"RainWalk", "isPlace", "(I)Z"⟩ ⟨"RainWalk", "isPlace", "(I)Z"⟩) ∈ lw_all := lw_g (lw_at lw_ms 37 rfl) rfl
theorem qs38 : (Cond.selects "RainWalk$Ways" ⟨"RainWalk$Ways", "layMeans", "(III)V"⟩ ⟨"RainWalk$Ways", "layMeans", "(III)V"⟩) ∈ lw_all := lw_g (lw_at lw_ms 38 rfl) rfl
theorem qs39 : (Cond.selects "RainWalk$Ways" ⟨"RainWalk$Ways", "best", "(II)J"⟩ ⟨"RainWalk$Ways", "best", "(II)J"⟩) ∈ lw_all := lw_g (lw_at lw_ms 39 rfl) rfl
theorem qs40 : (Cond.selects "RainWalk$Ways" ⟨"RainWalk$Ways", "byWaiting", "(II)J"⟩ ⟨"RainWalk$Ways", "byWaiting", "(II)J"⟩) ∈ lw_all := lw_g (lw_at lw_ms 40 rfl) rfl
theorem qs41 : (Cond.selects "RainWalk$Ways" ⟨"RainWalk$Ways", "byLeg", "(IIIII)J"⟩ ⟨"RainWalk$Ways", "byLeg", "(IIIII)J"⟩) ∈ lw_all := lw_g (lw_at lw_ms 41 rfl) rfl
theorem qs42 : (Cond.selects "RainWalk$Ways" ⟨"RainWalk$Ways", "next", "()I"⟩ ⟨"RainWalk$Ways", "next", "()I"⟩) ∈ lw_all := lw_g (lw_at lw_ms 42 rfl) rfl
theorem qs43 : (Cond.selects "RainWalk" ⟨"RainWalk", "isSeen", "(I)Z"⟩ ⟨"RainWalk", "isSeen", "(I)Z"⟩) ∈ lw_all := lw_g (lw_at lw_ms 43 rfl) rfl
theorem qs44 : (Cond.selects "RainWalk" ⟨"RainWalk", "fitOf", "(II)I"⟩ ⟨"RainWalk", "fitOf", "(II)I"⟩) ∈ lw_all := lw_g (lw_at lw_ms 44 rfl) rfl
theorem qs45 : (Cond.selects "RainWalk" ⟨"RainWalk", "doesFit", "(LRainWalk$Seen;LRainWalk$Walker;IIII)Z"⟩ ⟨"RainWalk", "doesFit", "(LRainWalk$Seen;LRainWalk$Walker;IIII)Z"⟩) ∈ lw_all := lw_g (lw_at lw_ms 45 rfl) rfl
theorem qs46 : (Cond.selects "RainWalk" ⟨"RainWalk", "hasDay", "()Z"⟩ ⟨"RainWalk", "hasDay", "()Z"⟩) ∈ lw_all := lw_g (lw_at lw_ms 46 rfl) rfl
theorem qs47 : (Cond.selects "RainWalk" ⟨"RainWalk", "note", "()V"⟩ ⟨"RainWalk", "note", "()V"⟩) ∈ lw_all := lw_g (lw_at lw_ms 47 rfl) rfl
theorem qs48 : (Cond.selects "RainWalk" ⟨"RainWalk", "rainHour", "(I)I"⟩ ⟨"RainWalk", "rainHour", "(I)I"⟩) ∈ lw_all := lw_g (lw_at lw_ms 48 rfl) rfl
theorem qs49 : (Cond.selects "RainWalk" ⟨"RainWalk", "done", "()Z"⟩ ⟨"RainWalk", "done", "()Z"⟩) ∈ lw_all := lw_g (lw_at lw_ms 49 rfl) rfl
theorem qs50 : (Cond.selects "RainWalk" ⟨"RainWalk", "yes", "(I)Z"⟩ ⟨"RainWalk", "yes", "(I)Z"⟩) ∈ lw_all := lw_g (lw_at lw_ms 50 rfl) rfl
theorem qs51 : (Cond.selects "RainWalkModel" ⟨"RainWalkModel", "refused", "(I)I"⟩ ⟨"RainWalkModel", "refused", "(I)I"⟩) ∈ lw_all := lw_g (lw_at lw_ms 51 rfl) rfl
theorem qs52 : (Cond.selects "RainWalkModel" ⟨"RainWalkModel", "goesOn", "()V"⟩ ⟨"RainWalkModel", "goesOn", "()V"⟩) ∈ lw_all := lw_g (lw_at lw_ms 52 rfl) rfl
theorem qs53 : (Cond.selects "RainWalkModel" ⟨"RainWalkModel", "byteAt", "(I)I"⟩ ⟨"RainWalkModel", "byteAt", "(I)I"⟩) ∈ lw_all := lw_g (lw_at lw_ms 53 rfl) rfl
theorem qs54 : (Cond.selects "RainWalkModel" ⟨"RainWalkModel", "readAll", "()V"⟩ ⟨"RainWalkModel", "readAll", "()V"⟩) ∈ lw_all := lw_g (lw_at lw_ms 54 rfl) rfl
theorem qs55 : (Cond.selects "RainWalkModel" ⟨"RainWalkModel", "readLine", "()V"⟩ ⟨"RainWalkModel", "readLine", "()V"⟩) ∈ lw_all := lw_g (lw_at lw_ms 55 rfl) rfl
theorem qs56 : (Cond.selects "RainWalkModel" ⟨"RainWalkModel", "isWord", "(Ljava/lang/String;)Z"⟩ ⟨"RainWalkModel", "isWord", "(Ljava/lang/String;)Z"⟩) ∈ lw_all := lw_g (lw_at lw_ms 56 rfl) rfl
theorem qs57 : (Cond.selects "RainWalkModel" ⟨"RainWalkModel", "readWorld", "()V"⟩ ⟨"RainWalkModel", "readWorld", "()V"⟩) ∈ lw_all := lw_g (lw_at lw_ms 57 rfl) rfl
theorem qs58 : (Cond.selects "RainWalkModel" ⟨"RainWalkModel", "flaw", "(I)V"⟩ ⟨"RainWalkModel", "flaw", "(I)V"⟩) ∈ lw_all := lw_g (lw_at lw_ms 58 rfl) rfl
theorem qs59 : (Cond.selects "RainWalkModel" ⟨"RainWalkModel", "readPart", "(Ljava/lang/String;II)I"⟩ ⟨"RainWalkModel", "readPart", "(Ljava/lang/String;II)I"⟩) ∈ lw_all := lw_g (lw_at lw_ms 59 rfl) rfl
theorem qs60 : (Cond.selects "RainWalkModel" ⟨"RainWalkModel", "needs", "(Ljava/lang/String;)V"⟩ ⟨"RainWalkModel", "needs", "(Ljava/lang/String;)V"⟩) ∈ lw_all := lw_g (lw_at lw_ms 60 rfl) rfl
theorem qs61 : (Cond.selects "RainWalkModel" ⟨"RainWalkModel", "readWhole", "(II)I"⟩ ⟨"RainWalkModel", "readWhole", "(II)I"⟩) ∈ lw_all := lw_g (lw_at lw_ms 61 rfl) rfl
theorem qs62 : (Cond.selects "RainWalkModel" ⟨"RainWalkModel", "readRain", "()V"⟩ ⟨"RainWalkModel", "readRain", "()V"⟩) ∈ lw_all := lw_g (lw_at lw_ms 62 rfl) rfl
theorem qs63 : (Cond.selects "RainWalkModel" ⟨"RainWalkModel", "begins", "(II)V"⟩ ⟨"RainWalkModel", "begins", "(II)V"⟩) ∈ lw_all := lw_g (lw_at lw_ms 63 rfl) rfl
theorem qs64 : (Cond.selects "RainWalkModel" ⟨"RainWalkModel", "readSide", "()I"⟩ ⟨"RainWalkModel", "readSide", "()I"⟩) ∈ lw_all := lw_g (lw_at lw_ms 64 rfl) rfl
theorem qs65 : (Cond.selects "RainWalkModel" ⟨"RainWalkModel", "readPlace", "()V"⟩ ⟨"RainWalkModel", "readPlace", "()V"⟩) ∈ lw_all := lw_g (lw_at lw_ms 65 rfl) rfl
theorem qs66 : (Cond.selects "RainWalkModel" ⟨"RainWalkModel", "readFresh", "()J"⟩ ⟨"RainWalkModel", "readFresh", "()J"⟩) ∈ lw_all := lw_g (lw_at lw_ms 66 rfl) rfl
theorem qs67 : (Cond.selects "RainWalkModel" ⟨"RainWalkModel", "isName", "()Z"⟩ ⟨"RainWalkModel", "isName", "()Z"⟩) ∈ lw_all := lw_g (lw_at lw_ms 67 rfl) rfl
theorem qs68 : (Cond.selects "RainWalkModel" ⟨"RainWalkModel", "eatsWord", "(Ljava/lang/String;)Z"⟩ ⟨"RainWalkModel", "eatsWord", "(Ljava/lang/String;)Z"⟩) ∈ lw_all := lw_g (lw_at lw_ms 68 rfl) rfl
theorem qs69 : (Cond.selects "RainWalkModel" ⟨"RainWalkModel", "names", "(JII)V"⟩ ⟨"RainWalkModel", "names", "(JII)V"⟩) ∈ lw_all := lw_g (lw_at lw_ms 69 rfl) rfl
theorem qs70 : (Cond.selects "RainWalkModel" ⟨"RainWalkModel", "readRoad", "()V"⟩ ⟨"RainWalkModel", "readRoad", "()V"⟩) ∈ lw_all := lw_g (lw_at lw_ms 70 rfl) rfl
theorem qs71 : (Cond.selects "RainWalkModel" ⟨"RainWalkModel", "known", "(I)I"⟩ ⟨"RainWalkModel", "known", "(I)I"⟩) ∈ lw_all := lw_g (lw_at lw_ms 71 rfl) rfl
theorem qs72 : (Cond.selects "RainWalkModel" ⟨"RainWalkModel", "readWalker", "()V"⟩ ⟨"RainWalkModel", "readWalker", "()V"⟩) ∈ lw_all := lw_g (lw_at lw_ms 72 rfl) rfl
theorem qs73 : (Cond.selects "RainWalkModel" ⟨"RainWalkModel", "readSeen", "()V"⟩ ⟨"RainWalkModel", "readSeen", "()V"⟩) ∈ lw_all := lw_g (lw_at lw_ms 73 rfl) rfl
theorem qs74 : (Cond.selects "RainWalkModel" ⟨"RainWalkModel", "eatsSign", "(I)Z"⟩ ⟨"RainWalkModel", "eatsSign", "(I)Z"⟩) ∈ lw_all := lw_g (lw_at lw_ms 74 rfl) rfl
theorem qs75 : (Cond.selects "RainWalkModel" ⟨"RainWalkModel", "good", "(I)I"⟩ ⟨"RainWalkModel", "good", "(I)I"⟩) ∈ lw_all := lw_g (lw_at lw_ms 75 rfl) rfl
theorem qs76 : (Cond.selects "RainWalkModel" ⟨"RainWalkModel", "refuses", "(IIIII)I"⟩ ⟨"RainWalkModel", "refuses", "(IIIII)I"⟩) ∈ lw_all := lw_g (lw_at lw_ms 76 rfl) rfl
theorem qs77 : (Cond.selects "RainWalkModel" ⟨"RainWalkModel", "isWalker", "(I)Z"⟩ ⟨"RainWalkModel", "isWalker", "(I)Z"⟩) ∈ lw_all := lw_g (lw_at lw_ms 77 rfl) rfl
theorem qs78 : (Cond.selects "RainWalkModel" ⟨"RainWalkModel", "isRoad", "(I)Z"⟩ ⟨"RainWalkModel", "isRoad", "(I)Z"⟩) ∈ lw_all := lw_g (lw_at lw_ms 78 rfl) rfl
theorem qs79 : (Cond.selects "RainWalkModel" ⟨"RainWalkModel", "isHour", "(I)Z"⟩ ⟨"RainWalkModel", "isHour", "(I)Z"⟩) ∈ lw_all := lw_g (lw_at lw_ms 79 rfl) rfl
theorem qs80 : (Cond.selects "RainWalkModel" ⟨"RainWalkModel", "isSpeed", "(II)Z"⟩ ⟨"RainWalkModel", "isSpeed", "(II)Z"⟩) ∈ lw_all := lw_g (lw_at lw_ms 80 rfl) rfl
theorem qs81 : (Cond.selects "RainWalkModel" ⟨"RainWalkModel", "partsOf", "(IIIIII)J"⟩ ⟨"RainWalkModel", "partsOf", "(IIIIII)J"⟩) ∈ lw_all := lw_g (lw_at lw_ms 81 rfl) rfl
theorem qs82 : (Cond.selects "RainWalkModel" ⟨"RainWalkModel", "inTime", "(IIIIIIII)I"⟩ ⟨"RainWalkModel", "inTime", "(IIIIIIII)I"⟩) ∈ lw_all := lw_g (lw_at lw_ms 82 rfl) rfl
theorem qs83 : (Cond.selects "RainWalkModel" ⟨"RainWalkModel", "isForward", "(IIIII)Z"⟩ ⟨"RainWalkModel", "isForward", "(IIIII)Z"⟩) ∈ lw_all := lw_g (lw_at lw_ms 83 rfl) rfl
theorem qs84 : (Cond.selects "RainWalkModel" ⟨"RainWalkModel", "told", "(JJZ)J"⟩ ⟨"RainWalkModel", "told", "(JJZ)J"⟩) ∈ lw_all := lw_g (lw_at lw_ms 84 rfl) rfl
theorem qs85 : (Cond.selects "RainWalkModel" ⟨"RainWalkModel", "wetOf", "(IIIII)J"⟩ ⟨"RainWalkModel", "wetOf", "(IIIII)J"⟩) ∈ lw_all := lw_g (lw_at lw_ms 85 rfl) rfl
theorem qs86 : (Cond.selects "RainWalkModel" ⟨"RainWalkModel", "lost", "(I)I"⟩ ⟨"RainWalkModel", "lost", "(I)I"⟩) ∈ lw_all := lw_g (lw_at lw_ms 86 rfl) rfl
theorem qs87 : (Cond.selects "RainWalkModel" ⟨"RainWalkModel", "bestOf", "(IIII)I"⟩ ⟨"RainWalkModel", "bestOf", "(IIII)I"⟩) ∈ lw_all := lw_g (lw_at lw_ms 87 rfl) rfl
theorem qs88 : (Cond.selects "RainWalkModel" ⟨"RainWalkModel", "wetAtBest", "(IIII)J"⟩ ⟨"RainWalkModel", "wetAtBest", "(IIII)J"⟩) ∈ lw_all := lw_g (lw_at lw_ms 88 rfl) rfl
theorem qs89 : (Cond.selects "RainWalkModel" ⟨"RainWalkModel", "refusesTwo", "(IIIIII)I"⟩ ⟨"RainWalkModel", "refusesTwo", "(IIIIII)I"⟩) ∈ lw_all := lw_g (lw_at lw_ms 89 rfl) rfl
theorem qs90 : (Cond.selects "RainWalkModel" ⟨"RainWalkModel", "together", "(IIIIII)J"⟩ ⟨"RainWalkModel", "together", "(IIIIII)J"⟩) ∈ lw_all := lw_g (lw_at lw_ms 90 rfl) rfl
theorem qs91 : (Cond.selects "RainWalkModel" ⟨"RainWalkModel", "refusesWay", "(IIIII)I"⟩ ⟨"RainWalkModel", "refusesWay", "(IIIII)I"⟩) ∈ lw_all := lw_g (lw_at lw_ms 91 rfl) rfl
theorem qs92 : (Cond.selects "RainWalkModel" ⟨"RainWalkModel", "isPlace", "(I)Z"⟩ ⟨"RainWalkModel", "isPlace", "(I)Z"⟩) ∈ lw_all := lw_g (lw_at lw_ms 92 rfl) rfl
theorem qs93 : (Cond.selects "RainWalkModel" ⟨"RainWalkModel", "laysWays", "(III)V"⟩ ⟨"RainWalkModel", "laysWays", "(III)V"⟩) ∈ lw_all := lw_g (lw_at lw_ms 93 rfl) rfl
theorem qs94 : (Cond.selects "RainWalkModel" ⟨"RainWalkModel", "tries", "(IIII)V"⟩ ⟨"RainWalkModel", "tries", "(IIII)V"⟩) ∈ lw_all := lw_g (lw_at lw_ms 94 rfl) rfl
theorem qs95 : (Cond.selects "RainWalkModel" ⟨"RainWalkModel", "meanOf", "(IIIII)J"⟩ ⟨"RainWalkModel", "meanOf", "(IIIII)J"⟩) ∈ lw_all := lw_g (lw_at lw_ms 95 rfl) rfl
theorem qs96 : (Cond.selects "RainWalkModel" ⟨"RainWalkModel", "hourOf", "(I)I"⟩ ⟨"RainWalkModel", "hourOf", "(I)I"⟩) ∈ lw_all := lw_g (lw_at lw_ms 96 rfl) rfl
theorem qs97 : (Cond.selects "RainWalkModel" ⟨"RainWalkModel", "takes", "(IIJI)V"⟩ ⟨"RainWalkModel", "takes", "(IIJI)V"⟩) ∈ lw_all := lw_g (lw_at lw_ms 97 rfl) rfl
theorem qs98 : (Cond.selects "RainWalkModel" ⟨"RainWalkModel", "canWait", "(I)Z"⟩ ⟨"RainWalkModel", "canWait", "(I)Z"⟩) ∈ lw_all := lw_g (lw_at lw_ms 98 rfl) rfl
theorem qs99 : (Cond.selects "RainWalkModel" ⟨"RainWalkModel", "waitsOf", "(III)J"⟩ ⟨"RainWalkModel", "waitsOf", "(III)J"⟩) ∈ lw_all := lw_g (lw_at lw_ms 99 rfl) rfl
theorem qs100 : (Cond.selects "RainWalkModel" ⟨"RainWalkModel", "drips", "(II)J"⟩ ⟨"RainWalkModel", "drips", "(II)J"⟩) ∈ lw_all := lw_g (lw_at lw_ms 100 rfl) rfl
theorem qs101 : (Cond.selects "RainWalkModel" ⟨"RainWalkModel", "stepOf", "(IIII)I"⟩ ⟨"RainWalkModel", "stepOf", "(IIII)I"⟩) ∈ lw_all := lw_g (lw_at lw_ms 101 rfl) rfl
theorem qs102 : (Cond.selects "RainWalkModel" ⟨"RainWalkModel", "isSeen", "(I)Z"⟩ ⟨"RainWalkModel", "isSeen", "(I)Z"⟩) ∈ lw_all := lw_g (lw_at lw_ms 102 rfl) rfl
theorem qs103 : (Cond.selects "RainWalkModel" ⟨"RainWalkModel", "fitOf", "(II)I"⟩ ⟨"RainWalkModel", "fitOf", "(II)I"⟩) ∈ lw_all := lw_g (lw_at lw_ms 103 rfl) rfl
theorem qs104 : (Cond.selects "RainWalkModel" ⟨"RainWalkModel", "isDay", "()Z"⟩ ⟨"RainWalkModel", "isDay", "()Z"⟩) ∈ lw_all := lw_g (lw_at lw_ms 104 rfl) rfl
theorem qs105 : (Cond.selects "RainWalkModel" ⟨"RainWalkModel", "keeps", "()V"⟩ ⟨"RainWalkModel", "keeps", "()V"⟩) ∈ lw_all := lw_g (lw_at lw_ms 105 rfl) rfl
theorem qs106 : (Cond.selects "RainWalkModel" ⟨"RainWalkModel", "rainsIn", "(I)Z"⟩ ⟨"RainWalkModel", "rainsIn", "(I)Z"⟩) ∈ lw_all := lw_g (lw_at lw_ms 106 rfl) rfl
theorem qs107 : (Cond.selects "RainWalkModel" ⟨"RainWalkModel", "denied", "(I)Z"⟩ ⟨"RainWalkModel", "denied", "(I)Z"⟩) ∈ lw_all := lw_g (lw_at lw_ms 107 rfl) rfl
theorem qs108 : (Cond.selects "RainWalkModel" ⟨"RainWalkModel", "granted", "()Z"⟩ ⟨"RainWalkModel", "granted", "()Z"⟩) ∈ lw_all := lw_g (lw_at lw_ms 108 rfl) rfl
theorem qs109 : (Cond.selects "RainWalkModel" ⟨"RainWalkModel", "gotInAll", "()J"⟩ ⟨"RainWalkModel", "gotInAll", "()J"⟩) ∈ lw_all := lw_g (lw_at lw_ms 109 rfl) rfl
theorem qs110 : (Cond.selects "RainWalkModel" ⟨"RainWalkModel", "holds", "()J"⟩ ⟨"RainWalkModel", "holds", "()J"⟩) ∈ lw_all := lw_g (lw_at lw_ms 110 rfl) rfl
-- ===== end of PART A; then your names; then what follows =====
