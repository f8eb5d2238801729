-- ===== PART A: goes FIRST, ahead of the names: the tables' words, and 'selects' of the private methods out of them =====
/-- a private method of a class that the tables say can be made, by its rows of tables_1 -/
def lw_okq (q : MethodName × Nat) : Prop := (q.1.cls ≠ "java/lang/invoke/MethodHandle" ∧ q.1.cls ≠ "java/lang/invoke/VarHandle") ∧ Cond.instantiable q.1.cls q.2 ∈ tables_1 ∧ Cond.privateMethod q.1 ∈ tables_1 ∧ Cond.instanceMethod q.1 ∈ tables_1
set_option maxRecDepth 100000
theorem lw_t1 {w : Cond} (h : w ∈ tables_1_1) : w ∈ tables_1 := List.mem_append_left _ h
theorem lw_t2 {w : Cond} (h : w ∈ tables_1_2) : w ∈ tables_1 := List.mem_append_right _ (List.mem_append_left _ h)
theorem lw_t3 {w : Cond} (h : w ∈ tables_1_3) : w ∈ tables_1 := List.mem_append_right _ (List.mem_append_right _ (List.mem_append_left _ h))
theorem lw_t4 {w : Cond} (h : w ∈ tables_1_4) : w ∈ tables_1 := List.mem_append_right _ (List.mem_append_right _ (List.mem_append_right _ (List.mem_append_left _ h)))
theorem lw_t5 {w : Cond} (h : w ∈ tables_1_5) : w ∈ tables_1 := List.mem_append_right _ (List.mem_append_right _ (List.mem_append_right _ (List.mem_append_right _ (List.mem_append_left _ h))))
theorem lw_t6 {w : Cond} (h : w ∈ tables_1_6) : w ∈ tables_1 := List.mem_append_right _ (List.mem_append_right _ (List.mem_append_right _ (List.mem_append_right _ (List.mem_append_right _ (List.mem_append_left _ h)))))
theorem lw_t7 {w : Cond} (h : w ∈ tables_1_7) : w ∈ tables_1 := List.mem_append_right _ (List.mem_append_right _ (List.mem_append_right _ (List.mem_append_right _ (List.mem_append_right _ (List.mem_append_right _ (List.mem_append_left _ h))))))
theorem lw_t8 {w : Cond} (h : w ∈ tables_1_8) : w ∈ tables_1 := List.mem_append_right _ (List.mem_append_right _ (List.mem_append_right _ (List.mem_append_right _ (List.mem_append_right _ (List.mem_append_right _ (List.mem_append_right _ (List.mem_append_left _ h)))))))
theorem lw_t9 {w : Cond} (h : w ∈ tables_1_9) : w ∈ tables_1 := List.mem_append_right _ (List.mem_append_right _ (List.mem_append_right _ (List.mem_append_right _ (List.mem_append_right _ (List.mem_append_right _ (List.mem_append_right _ (List.mem_append_right _ (List.mem_append_left _ h))))))))
theorem lw_t10 {w : Cond} (h : w ∈ tables_1_10) : w ∈ tables_1 := List.mem_append_right _ (List.mem_append_right _ (List.mem_append_right _ (List.mem_append_right _ (List.mem_append_right _ (List.mem_append_right _ (List.mem_append_right _ (List.mem_append_right _ (List.mem_append_right _ h))))))))
theorem lw_p0 : lw_okq (⟨"java/lang/Throwable", "fillInStackTrace", "(I)Ljava/lang/Throwable;"⟩, 6) := ⟨⟨by decide +kernel, by decide +kernel⟩, lw_t1 (List.mem_of_getElem? (i := 168) rfl), lw_t1 (List.mem_of_getElem? (i := 166) rfl), lw_t1 (List.mem_of_getElem? (i := 167) rfl)⟩
theorem lw_p1 : lw_okq (⟨"RoseThrow", "refuse", "(I)I"⟩, 28) := ⟨⟨by decide +kernel, by decide +kernel⟩, lw_t1 (List.mem_of_getElem? (i := 38) rfl), lw_t2 (List.mem_of_getElem? (i := 84) rfl), lw_t2 (List.mem_of_getElem? (i := 85) rfl)⟩
theorem lw_p2 : lw_okq (⟨"java/util/ArrayList", "grow", "(I)[Ljava/lang/Object;"⟩, 3) := ⟨⟨by decide +kernel, by decide +kernel⟩, lw_t1 (List.mem_of_getElem? (i := 52) rfl), lw_t2 (List.mem_of_getElem? (i := 151) rfl), lw_t2 (List.mem_of_getElem? (i := 152) rfl)⟩
theorem lw_p3 : lw_okq (⟨"RoseThrow", "done", "(I)I"⟩, 28) := ⟨⟨by decide +kernel, by decide +kernel⟩, lw_t1 (List.mem_of_getElem? (i := 38) rfl), lw_t2 (List.mem_of_getElem? (i := 169) rfl), lw_t2 (List.mem_of_getElem? (i := 170) rfl)⟩
theorem lw_p4 : lw_okq (⟨"RoseThrow", "settled", "(I)I"⟩, 28) := ⟨⟨by decide +kernel, by decide +kernel⟩, lw_t1 (List.mem_of_getElem? (i := 38) rfl), lw_t2 (List.mem_of_getElem? (i := 177) rfl), lw_t2 (List.mem_of_getElem? (i := 178) rfl)⟩
theorem lw_p5 : lw_okq (⟨"RoseThrow", "comesIn", "(IIII)I"⟩, 28) := ⟨⟨by decide +kernel, by decide +kernel⟩, lw_t1 (List.mem_of_getElem? (i := 38) rfl), lw_t2 (List.mem_of_getElem? (i := 185) rfl), lw_t2 (List.mem_of_getElem? (i := 186) rfl)⟩
theorem lw_p6 : lw_okq (⟨"RoseThrow", "whoIn", "([II)I"⟩, 28) := ⟨⟨by decide +kernel, by decide +kernel⟩, lw_t1 (List.mem_of_getElem? (i := 38) rfl), lw_t2 (List.mem_of_getElem? (i := 195) rfl), lw_t2 (List.mem_of_getElem? (i := 196) rfl)⟩
theorem lw_p7 : lw_okq (⟨"RoseThrow", "isBarred", "(IIII)Z"⟩, 28) := ⟨⟨by decide +kernel, by decide +kernel⟩, lw_t1 (List.mem_of_getElem? (i := 38) rfl), lw_t2 (List.mem_of_getElem? (i := 199) rfl), lw_t2 (List.mem_of_getElem? (i := 200) rfl)⟩
theorem lw_p8 : lw_okq (⟨"RoseThrow", "looksAt", "(III)V"⟩, 28) := ⟨⟨by decide +kernel, by decide +kernel⟩, lw_t1 (List.mem_of_getElem? (i := 38) rfl), lw_t2 (List.mem_of_getElem? (i := 203) rfl), lw_t2 (List.mem_of_getElem? (i := 204) rfl)⟩
theorem lw_p9 : lw_okq (⟨"RoseThrow", "nothing", "()V"⟩, 28) := ⟨⟨by decide +kernel, by decide +kernel⟩, lw_t1 (List.mem_of_getElem? (i := 38) rfl), lw_t2 (List.mem_of_getElem? (i := 207) rfl), lw_t2 (List.mem_of_getElem? (i := 208) rfl)⟩
theorem lw_p10 : lw_okq (⟨"RoseThrow", "term", "(I)I"⟩, 28) := ⟨⟨by decide +kernel, by decide +kernel⟩, lw_t1 (List.mem_of_getElem? (i := 38) rfl), lw_t2 (List.mem_of_getElem? (i := 212) rfl), lw_t2 (List.mem_of_getElem? (i := 213) rfl)⟩
theorem lw_p11 : lw_okq (⟨"RoseThrow", "says", "(I)J"⟩, 28) := ⟨⟨by decide +kernel, by decide +kernel⟩, lw_t1 (List.mem_of_getElem? (i := 38) rfl), lw_t2 (List.mem_of_getElem? (i := 216) rfl), lw_t2 (List.mem_of_getElem? (i := 217) rfl)⟩
theorem lw_p12 : lw_okq (⟨"RoseThrow", "isCatcher", "(I)Z"⟩, 28) := ⟨⟨by decide +kernel, by decide +kernel⟩, lw_t1 (List.mem_of_getElem? (i := 38) rfl), lw_t3 (List.mem_of_getElem? (i := 50) rfl), lw_t3 (List.mem_of_getElem? (i := 51) rfl)⟩
theorem lw_p13 : lw_okq (⟨"RoseThrow", "four", "(I)V"⟩, 28) := ⟨⟨by decide +kernel, by decide +kernel⟩, lw_t1 (List.mem_of_getElem? (i := 38) rfl), lw_t3 (List.mem_of_getElem? (i := 69) rfl), lw_t3 (List.mem_of_getElem? (i := 70) rfl)⟩
theorem lw_p14 : lw_okq (⟨"RoseThrow", "reads", "(LRoseThrow$Reader;)Z"⟩, 28) := ⟨⟨by decide +kernel, by decide +kernel⟩, lw_t1 (List.mem_of_getElem? (i := 38) rfl), lw_t3 (List.mem_of_getElem? (i := 127) rfl), lw_t3 (List.mem_of_getElem? (i := 128) rfl)⟩
theorem lw_p15 : lw_okq (⟨"java/util/ArrayList", "add", "(Ljava/lang/Object;[Ljava/lang/Object;I)V"⟩, 3) := ⟨⟨by decide +kernel, by decide +kernel⟩, lw_t1 (List.mem_of_getElem? (i := 52) rfl), lw_t5 (List.mem_of_getElem? (i := 3) rfl), lw_t5 (List.mem_of_getElem? (i := 4) rfl)⟩
def lw_privs_1 : List (MethodName × Nat) := [(⟨"java/lang/Throwable", "fillInStackTrace", "(I)Ljava/lang/Throwable;"⟩, 6), (⟨"RoseThrow", "refuse", "(I)I"⟩, 28), (⟨"java/util/ArrayList", "grow", "(I)[Ljava/lang/Object;"⟩, 3), (⟨"RoseThrow", "done", "(I)I"⟩, 28), (⟨"RoseThrow", "settled", "(I)I"⟩, 28), (⟨"RoseThrow", "comesIn", "(IIII)I"⟩, 28), (⟨"RoseThrow", "whoIn", "([II)I"⟩, 28), (⟨"RoseThrow", "isBarred", "(IIII)Z"⟩, 28), (⟨"RoseThrow", "looksAt", "(III)V"⟩, 28), (⟨"RoseThrow", "nothing", "()V"⟩, 28), (⟨"RoseThrow", "term", "(I)I"⟩, 28), (⟨"RoseThrow", "says", "(I)J"⟩, 28), (⟨"RoseThrow", "isCatcher", "(I)Z"⟩, 28), (⟨"RoseThrow", "four", "(I)V"⟩, 28), (⟨"RoseThrow", "reads", "(LRoseThrow$Reader;)Z"⟩, 28), (⟨"java/util/ArrayList", "add", "(Ljava/lang/Object;[Ljava/lang/Object;I)V"⟩, 3)]
theorem lw_r1 : ∀ q ∈ lw_privs_1, lw_okq q := List.forall_mem_cons.mpr ⟨lw_p0, List.forall_mem_cons.mpr ⟨lw_p1, List.forall_mem_cons.mpr ⟨lw_p2, List.forall_mem_cons.mpr ⟨lw_p3, List.forall_mem_cons.mpr ⟨lw_p4, List.forall_mem_cons.mpr ⟨lw_p5, List.forall_mem_cons.mpr ⟨lw_p6, List.forall_mem_cons.mpr ⟨lw_p7, List.forall_mem_cons.mpr ⟨lw_p8, List.forall_mem_cons.mpr ⟨lw_p9, List.forall_mem_cons.mpr ⟨lw_p10, List.forall_mem_cons.mpr ⟨lw_p11, List.forall_mem_cons.mpr ⟨lw_p12, List.forall_mem_cons.mpr ⟨lw_p13, List.forall_mem_cons.mpr ⟨lw_p14, List.forall_mem_cons.mpr ⟨lw_p15, fun _ h => absurd h List.not_mem_nil⟩⟩⟩⟩⟩⟩⟩⟩⟩⟩⟩⟩⟩⟩⟩⟩
theorem lw_p16 : lw_okq (⟨"java/util/ArrayList", "grow", "()[Ljava/lang/Object;"⟩, 3) := ⟨⟨by decide +kernel, by decide +kernel⟩, lw_t1 (List.mem_of_getElem? (i := 52) rfl), lw_t5 (List.mem_of_getElem? (i := 7) rfl), lw_t5 (List.mem_of_getElem? (i := 8) rfl)⟩
theorem lw_p17 : lw_okq (⟨"RoseThrow", "grip", "(II)I"⟩, 28) := ⟨⟨by decide +kernel, by decide +kernel⟩, lw_t1 (List.mem_of_getElem? (i := 38) rfl), lw_t5 (List.mem_of_getElem? (i := 100) rfl), lw_t5 (List.mem_of_getElem? (i := 101) rfl)⟩
theorem lw_p18 : lw_okq (⟨"RoseThrow", "wed", "(II)I"⟩, 28) := ⟨⟨by decide +kernel, by decide +kernel⟩, lw_t1 (List.mem_of_getElem? (i := 38) rfl), lw_t5 (List.mem_of_getElem? (i := 113) rfl), lw_t5 (List.mem_of_getElem? (i := 114) rfl)⟩
theorem lw_p19 : lw_okq (⟨"RoseThrow", "isBarred", "(II)Z"⟩, 28) := ⟨⟨by decide +kernel, by decide +kernel⟩, lw_t1 (List.mem_of_getElem? (i := 38) rfl), lw_t5 (List.mem_of_getElem? (i := 117) rfl), lw_t5 (List.mem_of_getElem? (i := 118) rfl)⟩
theorem lw_p20 : lw_okq (⟨"RoseThrow", "goesKept", "(II)I"⟩, 28) := ⟨⟨by decide +kernel, by decide +kernel⟩, lw_t1 (List.mem_of_getElem? (i := 38) rfl), lw_t5 (List.mem_of_getElem? (i := 125) rfl), lw_t5 (List.mem_of_getElem? (i := 126) rfl)⟩
theorem lw_p21 : lw_okq (⟨"RoseThrow", "canGo", "([III)Z"⟩, 28) := ⟨⟨by decide +kernel, by decide +kernel⟩, lw_t1 (List.mem_of_getElem? (i := 38) rfl), lw_t5 (List.mem_of_getElem? (i := 129) rfl), lw_t5 (List.mem_of_getElem? (i := 130) rfl)⟩
theorem lw_p22 : lw_okq (⟨"RoseThrow", "keeps", "(I)V"⟩, 28) := ⟨⟨by decide +kernel, by decide +kernel⟩, lw_t1 (List.mem_of_getElem? (i := 38) rfl), lw_t5 (List.mem_of_getElem? (i := 133) rfl), lw_t5 (List.mem_of_getElem? (i := 134) rfl)⟩
theorem lw_p23 : lw_okq (⟨"RoseThrow", "believesKept", "(II)I"⟩, 28) := ⟨⟨by decide +kernel, by decide +kernel⟩, lw_t1 (List.mem_of_getElem? (i := 38) rfl), lw_t5 (List.mem_of_getElem? (i := 142) rfl), lw_t5 (List.mem_of_getElem? (i := 143) rfl)⟩
theorem lw_p24 : lw_okq (⟨"RoseThrow", "rushesKept", "()I"⟩, 28) := ⟨⟨by decide +kernel, by decide +kernel⟩, lw_t1 (List.mem_of_getElem? (i := 38) rfl), lw_t5 (List.mem_of_getElem? (i := 150) rfl), lw_t5 (List.mem_of_getElem? (i := 151) rfl)⟩
theorem lw_p25 : lw_okq (⟨"RoseThrow", "steps", "(I)Z"⟩, 28) := ⟨⟨by decide +kernel, by decide +kernel⟩, lw_t1 (List.mem_of_getElem? (i := 38) rfl), lw_t5 (List.mem_of_getElem? (i := 154) rfl), lw_t5 (List.mem_of_getElem? (i := 155) rfl)⟩
theorem lw_p26 : lw_okq (⟨"RoseThrow", "looks", "()V"⟩, 28) := ⟨⟨by decide +kernel, by decide +kernel⟩, lw_t1 (List.mem_of_getElem? (i := 38) rfl), lw_t5 (List.mem_of_getElem? (i := 169) rfl), lw_t5 (List.mem_of_getElem? (i := 170) rfl)⟩
theorem lw_p27 : lw_okq (⟨"RoseThrow$Flight", "lampOn", "(II)I"⟩, 5) := ⟨⟨by decide +kernel, by decide +kernel⟩, lw_t1 (List.mem_of_getElem? (i := 205) rfl), lw_t5 (List.mem_of_getElem? (i := 177) rfl), lw_t5 (List.mem_of_getElem? (i := 178) rfl)⟩
theorem lw_p28 : lw_okq (⟨"RoseThrow$Flight", "comes", "(II)V"⟩, 5) := ⟨⟨by decide +kernel, by decide +kernel⟩, lw_t1 (List.mem_of_getElem? (i := 205) rfl), lw_t5 (List.mem_of_getElem? (i := 185) rfl), lw_t5 (List.mem_of_getElem? (i := 186) rfl)⟩
theorem lw_p29 : lw_okq (⟨"RoseThrow", "slip", "(IIII)I"⟩, 28) := ⟨⟨by decide +kernel, by decide +kernel⟩, lw_t1 (List.mem_of_getElem? (i := 38) rfl), lw_t5 (List.mem_of_getElem? (i := 189) rfl), lw_t5 (List.mem_of_getElem? (i := 190) rfl)⟩
theorem lw_p30 : lw_okq (⟨"RoseThrow", "chance", "(ILRoseThrow$Flight;[I)J"⟩, 28) := ⟨⟨by decide +kernel, by decide +kernel⟩, lw_t1 (List.mem_of_getElem? (i := 38) rfl), lw_t5 (List.mem_of_getElem? (i := 207) rfl), lw_t5 (List.mem_of_getElem? (i := 208) rfl)⟩
theorem lw_p31 : lw_okq (⟨"RoseThrow", "partOf", "(I[II)I"⟩, 28) := ⟨⟨by decide +kernel, by decide +kernel⟩, lw_t1 (List.mem_of_getElem? (i := 38) rfl), lw_t5 (List.mem_of_getElem? (i := 211) rfl), lw_t5 (List.mem_of_getElem? (i := 212) rfl)⟩
def lw_privs_2 : List (MethodName × Nat) := [(⟨"java/util/ArrayList", "grow", "()[Ljava/lang/Object;"⟩, 3), (⟨"RoseThrow", "grip", "(II)I"⟩, 28), (⟨"RoseThrow", "wed", "(II)I"⟩, 28), (⟨"RoseThrow", "isBarred", "(II)Z"⟩, 28), (⟨"RoseThrow", "goesKept", "(II)I"⟩, 28), (⟨"RoseThrow", "canGo", "([III)Z"⟩, 28), (⟨"RoseThrow", "keeps", "(I)V"⟩, 28), (⟨"RoseThrow", "believesKept", "(II)I"⟩, 28), (⟨"RoseThrow", "rushesKept", "()I"⟩, 28), (⟨"RoseThrow", "steps", "(I)Z"⟩, 28), (⟨"RoseThrow", "looks", "()V"⟩, 28), (⟨"RoseThrow$Flight", "lampOn", "(II)I"⟩, 5), (⟨"RoseThrow$Flight", "comes", "(II)V"⟩, 5), (⟨"RoseThrow", "slip", "(IIII)I"⟩, 28), (⟨"RoseThrow", "chance", "(ILRoseThrow$Flight;[I)J"⟩, 28), (⟨"RoseThrow", "partOf", "(I[II)I"⟩, 28)]
theorem lw_r2 : ∀ q ∈ lw_privs_2, lw_okq q := List.forall_mem_cons.mpr ⟨lw_p16, List.forall_mem_cons.mpr ⟨lw_p17, List.forall_mem_cons.mpr ⟨lw_p18, List.forall_mem_cons.mpr ⟨lw_p19, List.forall_mem_cons.mpr ⟨lw_p20, List.forall_mem_cons.mpr ⟨lw_p21, List.forall_mem_cons.mpr ⟨lw_p22, List.forall_mem_cons.mpr ⟨lw_p23, List.forall_mem_cons.mpr ⟨lw_p24, List.forall_mem_cons.mpr ⟨lw_p25, List.forall_mem_cons.mpr ⟨lw_p26, List.forall_mem_cons.mpr ⟨lw_p27, List.forall_mem_cons.mpr ⟨lw_p28, List.forall_mem_cons.mpr ⟨lw_p29, List.forall_mem_cons.mpr ⟨lw_p30, List.forall_mem_cons.mpr ⟨lw_p31, fun _ h => absurd h List.not_mem_nil⟩⟩⟩⟩⟩⟩⟩⟩⟩⟩⟩⟩⟩⟩⟩⟩
theorem lw_p32 : lw_okq (⟨"RoseThrow", "gripsOf", "(III)I"⟩, 28) := ⟨⟨by decide +kernel, by decide +kernel⟩, lw_t1 (List.mem_of_getElem? (i := 38) rfl), lw_t5 (List.mem_of_getElem? (i := 215) rfl), lw_t5 (List.mem_of_getElem? (i := 216) rfl)⟩
theorem lw_p33 : lw_okq (⟨"RoseThrow", "copies", "()V"⟩, 28) := ⟨⟨by decide +kernel, by decide +kernel⟩, lw_t1 (List.mem_of_getElem? (i := 38) rfl), lw_t5 (List.mem_of_getElem? (i := 234) rfl), lw_t5 (List.mem_of_getElem? (i := 235) rfl)⟩
theorem lw_p34 : lw_okq (⟨"RoseThrow", "bestCell", "(I)I"⟩, 28) := ⟨⟨by decide +kernel, by decide +kernel⟩, lw_t1 (List.mem_of_getElem? (i := 38) rfl), lw_t5 (List.mem_of_getElem? (i := 238) rfl), lw_t5 (List.mem_of_getElem? (i := 239) rfl)⟩
theorem lw_p35 : lw_okq (⟨"RoseThrow", "goesBest", "(I)Z"⟩, 28) := ⟨⟨by decide +kernel, by decide +kernel⟩, lw_t1 (List.mem_of_getElem? (i := 38) rfl), lw_t6 (List.mem_of_getElem? (i := 6) rfl), lw_t6 (List.mem_of_getElem? (i := 7) rfl)⟩
theorem lw_p36 : lw_okq (⟨"RoseThrow", "looksAtAll", "()V"⟩, 28) := ⟨⟨by decide +kernel, by decide +kernel⟩, lw_t1 (List.mem_of_getElem? (i := 38) rfl), lw_t6 (List.mem_of_getElem? (i := 14) rfl), lw_t6 (List.mem_of_getElem? (i := 15) rfl)⟩
theorem lw_p37 : lw_okq (⟨"RoseThrow", "none", "()V"⟩, 28) := ⟨⟨by decide +kernel, by decide +kernel⟩, lw_t1 (List.mem_of_getElem? (i := 38) rfl), lw_t6 (List.mem_of_getElem? (i := 18) rfl), lw_t6 (List.mem_of_getElem? (i := 19) rfl)⟩
theorem lw_p38 : lw_okq (⟨"RoseThrow", "isMore", "(JJ)Z"⟩, 28) := ⟨⟨by decide +kernel, by decide +kernel⟩, lw_t1 (List.mem_of_getElem? (i := 38) rfl), lw_t6 (List.mem_of_getElem? (i := 22) rfl), lw_t6 (List.mem_of_getElem? (i := 23) rfl)⟩
theorem lw_p39 : lw_okq (⟨"RoseThrow", "friendOf", "(II)J"⟩, 28) := ⟨⟨by decide +kernel, by decide +kernel⟩, lw_t1 (List.mem_of_getElem? (i := 38) rfl), lw_t6 (List.mem_of_getElem? (i := 26) rfl), lw_t6 (List.mem_of_getElem? (i := 27) rfl)⟩
theorem lw_p40 : lw_okq (⟨"RoseThrow", "hears", "(LRoseThrow$Flight;I)V"⟩, 28) := ⟨⟨by decide +kernel, by decide +kernel⟩, lw_t1 (List.mem_of_getElem? (i := 38) rfl), lw_t6 (List.mem_of_getElem? (i := 37) rfl), lw_t6 (List.mem_of_getElem? (i := 38) rfl)⟩
theorem lw_p41 : lw_okq (⟨"RoseThrow", "near", "(I)I"⟩, 28) := ⟨⟨by decide +kernel, by decide +kernel⟩, lw_t1 (List.mem_of_getElem? (i := 38) rfl), lw_t6 (List.mem_of_getElem? (i := 53) rfl), lw_t6 (List.mem_of_getElem? (i := 54) rfl)⟩
theorem lw_p42 : lw_okq (⟨"RoseThrow", "tellsOrder", "(II)V"⟩, 28) := ⟨⟨by decide +kernel, by decide +kernel⟩, lw_t1 (List.mem_of_getElem? (i := 38) rfl), lw_t6 (List.mem_of_getElem? (i := 111) rfl), lw_t6 (List.mem_of_getElem? (i := 112) rfl)⟩
theorem lw_p43 : lw_okq (⟨"RoseThrow", "runs", "(LRoseThrow$Order;)I"⟩, 28) := ⟨⟨by decide +kernel, by decide +kernel⟩, lw_t1 (List.mem_of_getElem? (i := 38) rfl), lw_t6 (List.mem_of_getElem? (i := 121) rfl), lw_t6 (List.mem_of_getElem? (i := 122) rfl)⟩
theorem lw_p44 : lw_okq (⟨"RoseThrow", "putsBack", "(I)V"⟩, 28) := ⟨⟨by decide +kernel, by decide +kernel⟩, lw_t1 (List.mem_of_getElem? (i := 38) rfl), lw_t6 (List.mem_of_getElem? (i := 132) rfl), lw_t6 (List.mem_of_getElem? (i := 133) rfl)⟩
theorem lw_p45 : lw_okq (⟨"RoseThrow", "draw", "(I)I"⟩, 28) := ⟨⟨by decide +kernel, by decide +kernel⟩, lw_t1 (List.mem_of_getElem? (i := 38) rfl), lw_t6 (List.mem_of_getElem? (i := 141) rfl), lw_t6 (List.mem_of_getElem? (i := 142) rfl)⟩
theorem lw_p46 : lw_okq (⟨"RoseThrow", "holder", "(I)I"⟩, 28) := ⟨⟨by decide +kernel, by decide +kernel⟩, lw_t1 (List.mem_of_getElem? (i := 38) rfl), lw_t6 (List.mem_of_getElem? (i := 148) rfl), lw_t6 (List.mem_of_getElem? (i := 149) rfl)⟩
theorem lw_p47 : lw_okq (⟨"RoseThrowModel", "tell", "(I)I"⟩, 67) := ⟨⟨by decide +kernel, by decide +kernel⟩, lw_t6 (List.mem_of_getElem? (i := 164) rfl), lw_t7 (List.mem_of_getElem? (i := 160) rfl), lw_t7 (List.mem_of_getElem? (i := 161) rfl)⟩
def lw_privs_3 : List (MethodName × Nat) := [(⟨"RoseThrow", "gripsOf", "(III)I"⟩, 28), (⟨"RoseThrow", "copies", "()V"⟩, 28), (⟨"RoseThrow", "bestCell", "(I)I"⟩, 28), (⟨"RoseThrow", "goesBest", "(I)Z"⟩, 28), (⟨"RoseThrow", "looksAtAll", "()V"⟩, 28), (⟨"RoseThrow", "none", "()V"⟩, 28), (⟨"RoseThrow", "isMore", "(JJ)Z"⟩, 28), (⟨"RoseThrow", "friendOf", "(II)J"⟩, 28), (⟨"RoseThrow", "hears", "(LRoseThrow$Flight;I)V"⟩, 28), (⟨"RoseThrow", "near", "(I)I"⟩, 28), (⟨"RoseThrow", "tellsOrder", "(II)V"⟩, 28), (⟨"RoseThrow", "runs", "(LRoseThrow$Order;)I"⟩, 28), (⟨"RoseThrow", "putsBack", "(I)V"⟩, 28), (⟨"RoseThrow", "draw", "(I)I"⟩, 28), (⟨"RoseThrow", "holder", "(I)I"⟩, 28), (⟨"RoseThrowModel", "tell", "(I)I"⟩, 67)]
theorem lw_r3 : ∀ q ∈ lw_privs_3, lw_okq q := List.forall_mem_cons.mpr ⟨lw_p32, List.forall_mem_cons.mpr ⟨lw_p33, List.forall_mem_cons.mpr ⟨lw_p34, List.forall_mem_cons.mpr ⟨lw_p35, List.forall_mem_cons.mpr ⟨lw_p36, List.forall_mem_cons.mpr ⟨lw_p37, List.forall_mem_cons.mpr ⟨lw_p38, List.forall_mem_cons.mpr ⟨lw_p39, List.forall_mem_cons.mpr ⟨lw_p40, List.forall_mem_cons.mpr ⟨lw_p41, List.forall_mem_cons.mpr ⟨lw_p42, List.forall_mem_cons.mpr ⟨lw_p43, List.forall_mem_cons.mpr ⟨lw_p44, List.forall_mem_cons.mpr ⟨lw_p45, List.forall_mem_cons.mpr ⟨lw_p46, List.forall_mem_cons.mpr ⟨lw_p47, fun _ h => absurd h List.not_mem_nil⟩⟩⟩⟩⟩⟩⟩⟩⟩⟩⟩⟩⟩⟩⟩⟩
theorem lw_p48 : lw_okq (⟨"RoseThrowModel", "putBack", "(I)V"⟩, 67) := ⟨⟨by decide +kernel, by decide +kernel⟩, lw_t6 (List.mem_of_getElem? (i := 164) rfl), lw_t7 (List.mem_of_getElem? (i := 164) rfl), lw_t7 (List.mem_of_getElem? (i := 165) rfl)⟩
theorem lw_p49 : lw_okq (⟨"RoseThrowModel", "setCell", "(II)V"⟩, 67) := ⟨⟨by decide +kernel, by decide +kernel⟩, lw_t6 (List.mem_of_getElem? (i := 164) rfl), lw_t7 (List.mem_of_getElem? (i := 168) rfl), lw_t7 (List.mem_of_getElem? (i := 169) rfl)⟩
theorem lw_p50 : lw_okq (⟨"RoseThrowModel", "catcher1", "(IIII)I"⟩, 67) := ⟨⟨by decide +kernel, by decide +kernel⟩, lw_t6 (List.mem_of_getElem? (i := 164) rfl), lw_t7 (List.mem_of_getElem? (i := 187) rfl), lw_t7 (List.mem_of_getElem? (i := 188) rfl)⟩
theorem lw_p51 : lw_okq (⟨"RoseThrowModel", "isFree", "(I)Z"⟩, 67) := ⟨⟨by decide +kernel, by decide +kernel⟩, lw_t6 (List.mem_of_getElem? (i := 164) rfl), lw_t7 (List.mem_of_getElem? (i := 198) rfl), lw_t7 (List.mem_of_getElem? (i := 199) rfl)⟩
theorem lw_p52 : lw_okq (⟨"RoseThrowModel", "ofCatcher", "(II)I"⟩, 67) := ⟨⟨by decide +kernel, by decide +kernel⟩, lw_t6 (List.mem_of_getElem? (i := 164) rfl), lw_t7 (List.mem_of_getElem? (i := 202) rfl), lw_t7 (List.mem_of_getElem? (i := 203) rfl)⟩
theorem lw_p53 : lw_okq (⟨"RoseThrowModel", "isBarredBy", "(IIII)Z"⟩, 67) := ⟨⟨by decide +kernel, by decide +kernel⟩, lw_t6 (List.mem_of_getElem? (i := 164) rfl), lw_t7 (List.mem_of_getElem? (i := 206) rfl), lw_t7 (List.mem_of_getElem? (i := 207) rfl)⟩
theorem lw_p54 : lw_okq (⟨"RoseThrowModel", "setCatcher", "(III)V"⟩, 67) := ⟨⟨by decide +kernel, by decide +kernel⟩, lw_t6 (List.mem_of_getElem? (i := 164) rfl), lw_t7 (List.mem_of_getElem? (i := 210) rfl), lw_t7 (List.mem_of_getElem? (i := 211) rfl)⟩
theorem lw_p55 : lw_okq (⟨"RoseThrowModel", "clearSet", "()V"⟩, 67) := ⟨⟨by decide +kernel, by decide +kernel⟩, lw_t6 (List.mem_of_getElem? (i := 164) rfl), lw_t7 (List.mem_of_getElem? (i := 214) rfl), lw_t7 (List.mem_of_getElem? (i := 215) rfl)⟩
theorem lw_p56 : lw_okq (⟨"RoseThrowModel", "term", "(I)I"⟩, 67) := ⟨⟨by decide +kernel, by decide +kernel⟩, lw_t6 (List.mem_of_getElem? (i := 164) rfl), lw_t7 (List.mem_of_getElem? (i := 219) rfl), lw_t7 (List.mem_of_getElem? (i := 220) rfl)⟩
theorem lw_p57 : lw_okq (⟨"RoseThrowModel", "tells", "(IJ)J"⟩, 67) := ⟨⟨by decide +kernel, by decide +kernel⟩, lw_t6 (List.mem_of_getElem? (i := 164) rfl), lw_t7 (List.mem_of_getElem? (i := 223) rfl), lw_t7 (List.mem_of_getElem? (i := 224) rfl)⟩
theorem lw_p58 : lw_okq (⟨"RoseThrowModel", "isSo", "(I)Z"⟩, 67) := ⟨⟨by decide +kernel, by decide +kernel⟩, lw_t6 (List.mem_of_getElem? (i := 164) rfl), lw_t7 (List.mem_of_getElem? (i := 227) rfl), lw_t7 (List.mem_of_getElem? (i := 228) rfl)⟩
theorem lw_p59 : lw_okq (⟨"RoseThrowModel", "reckonAll", "(II)V"⟩, 67) := ⟨⟨by decide +kernel, by decide +kernel⟩, lw_t6 (List.mem_of_getElem? (i := 164) rfl), lw_t7 (List.mem_of_getElem? (i := 231) rfl), lw_t7 (List.mem_of_getElem? (i := 232) rfl)⟩
theorem lw_p60 : lw_okq (⟨"RoseThrowModel", "isCatcher", "(I)Z"⟩, 67) := ⟨⟨by decide +kernel, by decide +kernel⟩, lw_t6 (List.mem_of_getElem? (i := 164) rfl), lw_t7 (List.mem_of_getElem? (i := 235) rfl), lw_t7 (List.mem_of_getElem? (i := 236) rfl)⟩
theorem lw_p61 : lw_okq (⟨"RoseThrowModel", "reckon", "(IJJ)J"⟩, 67) := ⟨⟨by decide +kernel, by decide +kernel⟩, lw_t6 (List.mem_of_getElem? (i := 164) rfl), lw_t7 (List.mem_of_getElem? (i := 239) rfl), lw_t8 (List.mem_of_getElem? (i := 0) rfl)⟩
theorem lw_p62 : lw_okq (⟨"RoseThrowModel", "settled", "(I)I"⟩, 67) := ⟨⟨by decide +kernel, by decide +kernel⟩, lw_t6 (List.mem_of_getElem? (i := 164) rfl), lw_t8 (List.mem_of_getElem? (i := 5) rfl), lw_t8 (List.mem_of_getElem? (i := 6) rfl)⟩
theorem lw_p63 : lw_okq (⟨"RoseThrowModel", "set1", "(II)I"⟩, 67) := ⟨⟨by decide +kernel, by decide +kernel⟩, lw_t6 (List.mem_of_getElem? (i := 164) rfl), lw_t8 (List.mem_of_getElem? (i := 13) rfl), lw_t8 (List.mem_of_getElem? (i := 14) rfl)⟩
def lw_privs_4 : List (MethodName × Nat) := [(⟨"RoseThrowModel", "putBack", "(I)V"⟩, 67), (⟨"RoseThrowModel", "setCell", "(II)V"⟩, 67), (⟨"RoseThrowModel", "catcher1", "(IIII)I"⟩, 67), (⟨"RoseThrowModel", "isFree", "(I)Z"⟩, 67), (⟨"RoseThrowModel", "ofCatcher", "(II)I"⟩, 67), (⟨"RoseThrowModel", "isBarredBy", "(IIII)Z"⟩, 67), (⟨"RoseThrowModel", "setCatcher", "(III)V"⟩, 67), (⟨"RoseThrowModel", "clearSet", "()V"⟩, 67), (⟨"RoseThrowModel", "term", "(I)I"⟩, 67), (⟨"RoseThrowModel", "tells", "(IJ)J"⟩, 67), (⟨"RoseThrowModel", "isSo", "(I)Z"⟩, 67), (⟨"RoseThrowModel", "reckonAll", "(II)V"⟩, 67), (⟨"RoseThrowModel", "isCatcher", "(I)Z"⟩, 67), (⟨"RoseThrowModel", "reckon", "(IJJ)J"⟩, 67), (⟨"RoseThrowModel", "settled", "(I)I"⟩, 67), (⟨"RoseThrowModel", "set1", "(II)I"⟩, 67)]
theorem lw_r4 : ∀ q ∈ lw_privs_4, lw_okq q := List.forall_mem_cons.mpr ⟨lw_p48, List.forall_mem_cons.mpr ⟨lw_p49, List.forall_mem_cons.mpr ⟨lw_p50, List.forall_mem_cons.mpr ⟨lw_p51, List.forall_mem_cons.mpr ⟨lw_p52, List.forall_mem_cons.mpr ⟨lw_p53, List.forall_mem_cons.mpr ⟨lw_p54, List.forall_mem_cons.mpr ⟨lw_p55, List.forall_mem_cons.mpr ⟨lw_p56, List.forall_mem_cons.mpr ⟨lw_p57, List.forall_mem_cons.mpr ⟨lw_p58, List.forall_mem_cons.mpr ⟨lw_p59, List.forall_mem_cons.mpr ⟨lw_p60, List.forall_mem_cons.mpr ⟨lw_p61, List.forall_mem_cons.mpr ⟨lw_p62, List.forall_mem_cons.mpr ⟨lw_p63, fun _ h => absurd h List.not_mem_nil⟩⟩⟩⟩⟩⟩⟩⟩⟩⟩⟩⟩⟩⟩⟩⟩
theorem lw_p64 : lw_okq (⟨"RoseThrowModel", "four", "(I)V"⟩, 67) := ⟨⟨by decide +kernel, by decide +kernel⟩, lw_t6 (List.mem_of_getElem? (i := 164) rfl), lw_t8 (List.mem_of_getElem? (i := 44) rfl), lw_t8 (List.mem_of_getElem? (i := 45) rfl)⟩
theorem lw_p65 : lw_okq (⟨"RoseThrowModel", "beginText", "(Z)V"⟩, 67) := ⟨⟨by decide +kernel, by decide +kernel⟩, lw_t6 (List.mem_of_getElem? (i := 164) rfl), lw_t8 (List.mem_of_getElem? (i := 60) rfl), lw_t8 (List.mem_of_getElem? (i := 61) rfl)⟩
theorem lw_p66 : lw_okq (⟨"RoseThrowModel", "begin", "()V"⟩, 67) := ⟨⟨by decide +kernel, by decide +kernel⟩, lw_t6 (List.mem_of_getElem? (i := 164) rfl), lw_t8 (List.mem_of_getElem? (i := 64) rfl), lw_t8 (List.mem_of_getElem? (i := 65) rfl)⟩
theorem lw_p67 : lw_okq (⟨"RoseThrowModel", "next", "()V"⟩, 67) := ⟨⟨by decide +kernel, by decide +kernel⟩, lw_t6 (List.mem_of_getElem? (i := 164) rfl), lw_t8 (List.mem_of_getElem? (i := 68) rfl), lw_t8 (List.mem_of_getElem? (i := 69) rfl)⟩
theorem lw_p68 : lw_okq (⟨"RoseThrowModel", "readLaw", "()V"⟩, 67) := ⟨⟨by decide +kernel, by decide +kernel⟩, lw_t6 (List.mem_of_getElem? (i := 164) rfl), lw_t8 (List.mem_of_getElem? (i := 83) rfl), lw_t8 (List.mem_of_getElem? (i := 84) rfl)⟩
theorem lw_p69 : lw_okq (⟨"RoseThrowModel", "isWord", "(J)Z"⟩, 67) := ⟨⟨by decide +kernel, by decide +kernel⟩, lw_t6 (List.mem_of_getElem? (i := 164) rfl), lw_t8 (List.mem_of_getElem? (i := 87) rfl), lw_t8 (List.mem_of_getElem? (i := 88) rfl)⟩
theorem lw_p70 : lw_okq (⟨"RoseThrowModel", "must", "(Z)V"⟩, 67) := ⟨⟨by decide +kernel, by decide +kernel⟩, lw_t6 (List.mem_of_getElem? (i := 164) rfl), lw_t8 (List.mem_of_getElem? (i := 91) rfl), lw_t8 (List.mem_of_getElem? (i := 92) rfl)⟩
theorem lw_p71 : lw_okq (⟨"RoseThrowModel", "readExpression", "(Z)V"⟩, 67) := ⟨⟨by decide +kernel, by decide +kernel⟩, lw_t6 (List.mem_of_getElem? (i := 164) rfl), lw_t8 (List.mem_of_getElem? (i := 95) rfl), lw_t8 (List.mem_of_getElem? (i := 96) rfl)⟩
theorem lw_p72 : lw_okq (⟨"RoseThrowModel", "readPlain", "()I"⟩, 67) := ⟨⟨by decide +kernel, by decide +kernel⟩, lw_t6 (List.mem_of_getElem? (i := 164) rfl), lw_t8 (List.mem_of_getElem? (i := 99) rfl), lw_t8 (List.mem_of_getElem? (i := 100) rfl)⟩
theorem lw_p73 : lw_okq (⟨"RoseThrowModel", "push", "(II)V"⟩, 67) := ⟨⟨by decide +kernel, by decide +kernel⟩, lw_t6 (List.mem_of_getElem? (i := 164) rfl), lw_t8 (List.mem_of_getElem? (i := 104) rfl), lw_t8 (List.mem_of_getElem? (i := 105) rfl)⟩
theorem lw_p74 : lw_okq (⟨"RoseThrowModel", "isSign", "(I)Z"⟩, 67) := ⟨⟨by decide +kernel, by decide +kernel⟩, lw_t6 (List.mem_of_getElem? (i := 164) rfl), lw_t8 (List.mem_of_getElem? (i := 108) rfl), lw_t8 (List.mem_of_getElem? (i := 109) rfl)⟩
theorem lw_p75 : lw_okq (⟨"RoseThrowModel", "openBracket", "(I)V"⟩, 67) := ⟨⟨by decide +kernel, by decide +kernel⟩, lw_t6 (List.mem_of_getElem? (i := 164) rfl), lw_t8 (List.mem_of_getElem? (i := 112) rfl), lw_t8 (List.mem_of_getElem? (i := 113) rfl)⟩
theorem lw_p76 : lw_okq (⟨"RoseThrowModel", "readPart", "()I"⟩, 67) := ⟨⟨by decide +kernel, by decide +kernel⟩, lw_t6 (List.mem_of_getElem? (i := 164) rfl), lw_t8 (List.mem_of_getElem? (i := 116) rfl), lw_t8 (List.mem_of_getElem? (i := 117) rfl)⟩
theorem lw_p77 : lw_okq (⟨"RoseThrowModel", "orderPartAt", "()I"⟩, 67) := ⟨⟨by decide +kernel, by decide +kernel⟩, lw_t6 (List.mem_of_getElem? (i := 164) rfl), lw_t8 (List.mem_of_getElem? (i := 120) rfl), lw_t8 (List.mem_of_getElem? (i := 121) rfl)⟩
theorem lw_p78 : lw_okq (⟨"RoseThrowModel", "partAt", "()I"⟩, 67) := ⟨⟨by decide +kernel, by decide +kernel⟩, lw_t6 (List.mem_of_getElem? (i := 164) rfl), lw_t8 (List.mem_of_getElem? (i := 124) rfl), lw_t8 (List.mem_of_getElem? (i := 125) rfl)⟩
theorem lw_p79 : lw_okq (⟨"RoseThrowModel", "leaf", "(ZII)V"⟩, 67) := ⟨⟨by decide +kernel, by decide +kernel⟩, lw_t6 (List.mem_of_getElem? (i := 164) rfl), lw_t8 (List.mem_of_getElem? (i := 129) rfl), lw_t8 (List.mem_of_getElem? (i := 130) rfl)⟩
def lw_privs_5 : List (MethodName × Nat) := [(⟨"RoseThrowModel", "four", "(I)V"⟩, 67), (⟨"RoseThrowModel", "beginText", "(Z)V"⟩, 67), (⟨"RoseThrowModel", "begin", "()V"⟩, 67), (⟨"RoseThrowModel", "next", "()V"⟩, 67), (⟨"RoseThrowModel", "readLaw", "()V"⟩, 67), (⟨"RoseThrowModel", "isWord", "(J)Z"⟩, 67), (⟨"RoseThrowModel", "must", "(Z)V"⟩, 67), (⟨"RoseThrowModel", "readExpression", "(Z)V"⟩, 67), (⟨"RoseThrowModel", "readPlain", "()I"⟩, 67), (⟨"RoseThrowModel", "push", "(II)V"⟩, 67), (⟨"RoseThrowModel", "isSign", "(I)Z"⟩, 67), (⟨"RoseThrowModel", "openBracket", "(I)V"⟩, 67), (⟨"RoseThrowModel", "readPart", "()I"⟩, 67), (⟨"RoseThrowModel", "orderPartAt", "()I"⟩, 67), (⟨"RoseThrowModel", "partAt", "()I"⟩, 67), (⟨"RoseThrowModel", "leaf", "(ZII)V"⟩, 67)]
theorem lw_r5 : ∀ q ∈ lw_privs_5, lw_okq q := List.forall_mem_cons.mpr ⟨lw_p64, List.forall_mem_cons.mpr ⟨lw_p65, List.forall_mem_cons.mpr ⟨lw_p66, List.forall_mem_cons.mpr ⟨lw_p67, List.forall_mem_cons.mpr ⟨lw_p68, List.forall_mem_cons.mpr ⟨lw_p69, List.forall_mem_cons.mpr ⟨lw_p70, List.forall_mem_cons.mpr ⟨lw_p71, List.forall_mem_cons.mpr ⟨lw_p72, List.forall_mem_cons.mpr ⟨lw_p73, List.forall_mem_cons.mpr ⟨lw_p74, List.forall_mem_cons.mpr ⟨lw_p75, List.forall_mem_cons.mpr ⟨lw_p76, List.forall_mem_cons.mpr ⟨lw_p77, List.forall_mem_cons.mpr ⟨lw_p78, List.forall_mem_cons.mpr ⟨lw_p79, fun _ h => absurd h List.not_mem_nil⟩⟩⟩⟩⟩⟩⟩⟩⟩⟩⟩⟩⟩⟩⟩⟩
theorem lw_p80 : lw_okq (⟨"RoseThrowModel", "emit", "(II)V"⟩, 67) := ⟨⟨by decide +kernel, by decide +kernel⟩, lw_t6 (List.mem_of_getElem? (i := 164) rfl), lw_t8 (List.mem_of_getElem? (i := 133) rfl), lw_t8 (List.mem_of_getElem? (i := 134) rfl)⟩
theorem lw_p81 : lw_okq (⟨"RoseThrowModel", "number", "(JJ)I"⟩, 67) := ⟨⟨by decide +kernel, by decide +kernel⟩, lw_t6 (List.mem_of_getElem? (i := 164) rfl), lw_t8 (List.mem_of_getElem? (i := 137) rfl), lw_t8 (List.mem_of_getElem? (i := 138) rfl)⟩
theorem lw_p82 : lw_okq (⟨"RoseThrowModel", "behindSum", "(Z)I"⟩, 67) := ⟨⟨by decide +kernel, by decide +kernel⟩, lw_t6 (List.mem_of_getElem? (i := 164) rfl), lw_t8 (List.mem_of_getElem? (i := 141) rfl), lw_t8 (List.mem_of_getElem? (i := 142) rfl)⟩
theorem lw_p83 : lw_okq (⟨"RoseThrowModel", "settle", "(I)V"⟩, 67) := ⟨⟨by decide +kernel, by decide +kernel⟩, lw_t6 (List.mem_of_getElem? (i := 164) rfl), lw_t8 (List.mem_of_getElem? (i := 148) rfl), lw_t8 (List.mem_of_getElem? (i := 149) rfl)⟩
theorem lw_p84 : lw_okq (⟨"RoseThrowModel", "inner", "()I"⟩, 67) := ⟨⟨by decide +kernel, by decide +kernel⟩, lw_t6 (List.mem_of_getElem? (i := 164) rfl), lw_t8 (List.mem_of_getElem? (i := 152) rfl), lw_t8 (List.mem_of_getElem? (i := 153) rfl)⟩
theorem lw_p85 : lw_okq (⟨"RoseThrowModel", "isCompared", "()Z"⟩, 67) := ⟨⟨by decide +kernel, by decide +kernel⟩, lw_t6 (List.mem_of_getElem? (i := 164) rfl), lw_t8 (List.mem_of_getElem? (i := 156) rfl), lw_t8 (List.mem_of_getElem? (i := 157) rfl)⟩
theorem lw_p86 : lw_okq (⟨"RoseThrowModel", "behindTest", "()I"⟩, 67) := ⟨⟨by decide +kernel, by decide +kernel⟩, lw_t6 (List.mem_of_getElem? (i := 164) rfl), lw_t8 (List.mem_of_getElem? (i := 162) rfl), lw_t8 (List.mem_of_getElem? (i := 163) rfl)⟩
theorem lw_p87 : lw_okq (⟨"RoseThrowModel", "endText", "()V"⟩, 67) := ⟨⟨by decide +kernel, by decide +kernel⟩, lw_t6 (List.mem_of_getElem? (i := 164) rfl), lw_t8 (List.mem_of_getElem? (i := 169) rfl), lw_t8 (List.mem_of_getElem? (i := 170) rfl)⟩
theorem lw_p88 : lw_okq (⟨"RoseThrowModel", "gripOf", "(II)I"⟩, 67) := ⟨⟨by decide +kernel, by decide +kernel⟩, lw_t6 (List.mem_of_getElem? (i := 164) rfl), lw_t8 (List.mem_of_getElem? (i := 181) rfl), lw_t8 (List.mem_of_getElem? (i := 182) rfl)⟩
theorem lw_p89 : lw_okq (⟨"RoseThrowModel", "wedOf", "(II)I"⟩, 67) := ⟨⟨by decide +kernel, by decide +kernel⟩, lw_t6 (List.mem_of_getElem? (i := 164) rfl), lw_t8 (List.mem_of_getElem? (i := 188) rfl), lw_t8 (List.mem_of_getElem? (i := 189) rfl)⟩
theorem lw_p90 : lw_okq (⟨"RoseThrowModel", "isBarred", "(II)Z"⟩, 67) := ⟨⟨by decide +kernel, by decide +kernel⟩, lw_t6 (List.mem_of_getElem? (i := 164) rfl), lw_t8 (List.mem_of_getElem? (i := 192) rfl), lw_t8 (List.mem_of_getElem? (i := 193) rfl)⟩
theorem lw_p91 : lw_okq (⟨"RoseThrowModel", "aimNow", "()V"⟩, 67) := ⟨⟨by decide +kernel, by decide +kernel⟩, lw_t6 (List.mem_of_getElem? (i := 164) rfl), lw_t8 (List.mem_of_getElem? (i := 200) rfl), lw_t8 (List.mem_of_getElem? (i := 201) rfl)⟩
theorem lw_p92 : lw_okq (⟨"RoseThrowModel", "aim", "(II)V"⟩, 67) := ⟨⟨by decide +kernel, by decide +kernel⟩, lw_t6 (List.mem_of_getElem? (i := 164) rfl), lw_t8 (List.mem_of_getElem? (i := 204) rfl), lw_t8 (List.mem_of_getElem? (i := 205) rfl)⟩
theorem lw_p93 : lw_okq (⟨"RoseThrowModel", "isLit", "(II)Z"⟩, 67) := ⟨⟨by decide +kernel, by decide +kernel⟩, lw_t6 (List.mem_of_getElem? (i := 164) rfl), lw_t8 (List.mem_of_getElem? (i := 208) rfl), lw_t8 (List.mem_of_getElem? (i := 209) rfl)⟩
theorem lw_p94 : lw_okq (⟨"RoseThrowModel", "cellAt", "(II)I"⟩, 67) := ⟨⟨by decide +kernel, by decide +kernel⟩, lw_t6 (List.mem_of_getElem? (i := 164) rfl), lw_t8 (List.mem_of_getElem? (i := 212) rfl), lw_t8 (List.mem_of_getElem? (i := 213) rfl)⟩
theorem lw_p95 : lw_okq (⟨"RoseThrowModel", "slipWeighs", "(IIII)I"⟩, 67) := ⟨⟨by decide +kernel, by decide +kernel⟩, lw_t6 (List.mem_of_getElem? (i := 164) rfl), lw_t8 (List.mem_of_getElem? (i := 216) rfl), lw_t8 (List.mem_of_getElem? (i := 217) rfl)⟩
def lw_privs_6 : List (MethodName × Nat) := [(⟨"RoseThrowModel", "emit", "(II)V"⟩, 67), (⟨"RoseThrowModel", "number", "(JJ)I"⟩, 67), (⟨"RoseThrowModel", "behindSum", "(Z)I"⟩, 67), (⟨"RoseThrowModel", "settle", "(I)V"⟩, 67), (⟨"RoseThrowModel", "inner", "()I"⟩, 67), (⟨"RoseThrowModel", "isCompared", "()Z"⟩, 67), (⟨"RoseThrowModel", "behindTest", "()I"⟩, 67), (⟨"RoseThrowModel", "endText", "()V"⟩, 67), (⟨"RoseThrowModel", "gripOf", "(II)I"⟩, 67), (⟨"RoseThrowModel", "wedOf", "(II)I"⟩, 67), (⟨"RoseThrowModel", "isBarred", "(II)Z"⟩, 67), (⟨"RoseThrowModel", "aimNow", "()V"⟩, 67), (⟨"RoseThrowModel", "aim", "(II)V"⟩, 67), (⟨"RoseThrowModel", "isLit", "(II)Z"⟩, 67), (⟨"RoseThrowModel", "cellAt", "(II)I"⟩, 67), (⟨"RoseThrowModel", "slipWeighs", "(IIII)I"⟩, 67)]
theorem lw_r6 : ∀ q ∈ lw_privs_6, lw_okq q := List.forall_mem_cons.mpr ⟨lw_p80, List.forall_mem_cons.mpr ⟨lw_p81, List.forall_mem_cons.mpr ⟨lw_p82, List.forall_mem_cons.mpr ⟨lw_p83, List.forall_mem_cons.mpr ⟨lw_p84, List.forall_mem_cons.mpr ⟨lw_p85, List.forall_mem_cons.mpr ⟨lw_p86, List.forall_mem_cons.mpr ⟨lw_p87, List.forall_mem_cons.mpr ⟨lw_p88, List.forall_mem_cons.mpr ⟨lw_p89, List.forall_mem_cons.mpr ⟨lw_p90, List.forall_mem_cons.mpr ⟨lw_p91, List.forall_mem_cons.mpr ⟨lw_p92, List.forall_mem_cons.mpr ⟨lw_p93, List.forall_mem_cons.mpr ⟨lw_p94, List.forall_mem_cons.mpr ⟨lw_p95, fun _ h => absurd h List.not_mem_nil⟩⟩⟩⟩⟩⟩⟩⟩⟩⟩⟩⟩⟩⟩⟩⟩
theorem lw_p96 : lw_okq (⟨"RoseThrowModel", "shorten", "(JJ)V"⟩, 67) := ⟨⟨by decide +kernel, by decide +kernel⟩, lw_t6 (List.mem_of_getElem? (i := 164) rfl), lw_t8 (List.mem_of_getElem? (i := 220) rfl), lw_t8 (List.mem_of_getElem? (i := 221) rfl)⟩
theorem lw_p97 : lw_okq (⟨"RoseThrowModel", "findAll", "()V"⟩, 67) := ⟨⟨by decide +kernel, by decide +kernel⟩, lw_t6 (List.mem_of_getElem? (i := 164) rfl), lw_t8 (List.mem_of_getElem? (i := 228) rfl), lw_t8 (List.mem_of_getElem? (i := 229) rfl)⟩
theorem lw_p98 : lw_okq (⟨"RoseThrowModel", "findParts", "(I)V"⟩, 67) := ⟨⟨by decide +kernel, by decide +kernel⟩, lw_t6 (List.mem_of_getElem? (i := 164) rfl), lw_t8 (List.mem_of_getElem? (i := 232) rfl), lw_t8 (List.mem_of_getElem? (i := 233) rfl)⟩
theorem lw_p99 : lw_okq (⟨"RoseThrowModel", "findHolders", "(I)V"⟩, 67) := ⟨⟨by decide +kernel, by decide +kernel⟩, lw_t6 (List.mem_of_getElem? (i := 164) rfl), lw_t8 (List.mem_of_getElem? (i := 236) rfl), lw_t8 (List.mem_of_getElem? (i := 237) rfl)⟩
theorem lw_p100 : lw_okq (⟨"RoseThrowModel", "findStand", "(I)V"⟩, 67) := ⟨⟨by decide +kernel, by decide +kernel⟩, lw_t6 (List.mem_of_getElem? (i := 164) rfl), lw_t9 (List.mem_of_getElem? (i := 10) rfl), lw_t9 (List.mem_of_getElem? (i := 11) rfl)⟩
theorem lw_p101 : lw_okq (⟨"RoseThrowModel", "canStand", "(II)Z"⟩, 67) := ⟨⟨by decide +kernel, by decide +kernel⟩, lw_t6 (List.mem_of_getElem? (i := 164) rfl), lw_t9 (List.mem_of_getElem? (i := 14) rfl), lw_t9 (List.mem_of_getElem? (i := 15) rfl)⟩
theorem lw_p102 : lw_okq (⟨"RoseThrowModel", "partsAt", "(II)I"⟩, 67) := ⟨⟨by decide +kernel, by decide +kernel⟩, lw_t6 (List.mem_of_getElem? (i := 164) rfl), lw_t9 (List.mem_of_getElem? (i := 18) rfl), lw_t9 (List.mem_of_getElem? (i := 19) rfl)⟩
theorem lw_p103 : lw_okq (⟨"RoseThrowModel", "keepCells", "(I)V"⟩, 67) := ⟨⟨by decide +kernel, by decide +kernel⟩, lw_t6 (List.mem_of_getElem? (i := 164) rfl), lw_t9 (List.mem_of_getElem? (i := 26) rfl), lw_t9 (List.mem_of_getElem? (i := 27) rfl)⟩
theorem lw_p104 : lw_okq (⟨"RoseThrowModel", "goRound", "()Z"⟩, 67) := ⟨⟨by decide +kernel, by decide +kernel⟩, lw_t6 (List.mem_of_getElem? (i := 164) rfl), lw_t9 (List.mem_of_getElem? (i := 30) rfl), lw_t9 (List.mem_of_getElem? (i := 31) rfl)⟩
theorem lw_p105 : lw_okq (⟨"RoseThrowModel", "beginBest", "()V"⟩, 67) := ⟨⟨by decide +kernel, by decide +kernel⟩, lw_t6 (List.mem_of_getElem? (i := 164) rfl), lw_t9 (List.mem_of_getElem? (i := 38) rfl), lw_t9 (List.mem_of_getElem? (i := 39) rfl)⟩
theorem lw_p106 : lw_okq (⟨"RoseThrowModel", "aimAt", "(I)V"⟩, 67) := ⟨⟨by decide +kernel, by decide +kernel⟩, lw_t6 (List.mem_of_getElem? (i := 164) rfl), lw_t9 (List.mem_of_getElem? (i := 42) rfl), lw_t9 (List.mem_of_getElem? (i := 43) rfl)⟩
theorem lw_p107 : lw_okq (⟨"RoseThrowModel", "weigh", "(IIJJ)V"⟩, 67) := ⟨⟨by decide +kernel, by decide +kernel⟩, lw_t6 (List.mem_of_getElem? (i := 164) rfl), lw_t9 (List.mem_of_getElem? (i := 46) rfl), lw_t9 (List.mem_of_getElem? (i := 47) rfl)⟩
theorem lw_p108 : lw_okq (⟨"RoseThrowModel", "tellThrow", "(II)J"⟩, 67) := ⟨⟨by decide +kernel, by decide +kernel⟩, lw_t6 (List.mem_of_getElem? (i := 164) rfl), lw_t9 (List.mem_of_getElem? (i := 50) rfl), lw_t9 (List.mem_of_getElem? (i := 51) rfl)⟩
theorem lw_p109 : lw_okq (⟨"RoseThrowModel", "stepAll", "(I)V"⟩, 67) := ⟨⟨by decide +kernel, by decide +kernel⟩, lw_t6 (List.mem_of_getElem? (i := 164) rfl), lw_t9 (List.mem_of_getElem? (i := 58) rfl), lw_t9 (List.mem_of_getElem? (i := 59) rfl)⟩
theorem lw_p110 : lw_okq (⟨"RoseThrowModel", "weightNear", "(I)I"⟩, 67) := ⟨⟨by decide +kernel, by decide +kernel⟩, lw_t6 (List.mem_of_getElem? (i := 164) rfl), lw_t9 (List.mem_of_getElem? (i := 70) rfl), lw_t9 (List.mem_of_getElem? (i := 71) rfl)⟩
theorem lw_p111 : lw_okq (⟨"RoseThrowModel", "goNow", "(II)I"⟩, 67) := ⟨⟨by decide +kernel, by decide +kernel⟩, lw_t6 (List.mem_of_getElem? (i := 164) rfl), lw_t9 (List.mem_of_getElem? (i := 108) rfl), lw_t9 (List.mem_of_getElem? (i := 109) rfl)⟩
def lw_privs_7 : List (MethodName × Nat) := [(⟨"RoseThrowModel", "shorten", "(JJ)V"⟩, 67), (⟨"RoseThrowModel", "findAll", "()V"⟩, 67), (⟨"RoseThrowModel", "findParts", "(I)V"⟩, 67), (⟨"RoseThrowModel", "findHolders", "(I)V"⟩, 67), (⟨"RoseThrowModel", "findStand", "(I)V"⟩, 67), (⟨"RoseThrowModel", "canStand", "(II)Z"⟩, 67), (⟨"RoseThrowModel", "partsAt", "(II)I"⟩, 67), (⟨"RoseThrowModel", "keepCells", "(I)V"⟩, 67), (⟨"RoseThrowModel", "goRound", "()Z"⟩, 67), (⟨"RoseThrowModel", "beginBest", "()V"⟩, 67), (⟨"RoseThrowModel", "aimAt", "(I)V"⟩, 67), (⟨"RoseThrowModel", "weigh", "(IIJJ)V"⟩, 67), (⟨"RoseThrowModel", "tellThrow", "(II)J"⟩, 67), (⟨"RoseThrowModel", "stepAll", "(I)V"⟩, 67), (⟨"RoseThrowModel", "weightNear", "(I)I"⟩, 67), (⟨"RoseThrowModel", "goNow", "(II)I"⟩, 67)]
theorem lw_r7 : ∀ q ∈ lw_privs_7, lw_okq q := List.forall_mem_cons.mpr ⟨lw_p96, List.forall_mem_cons.mpr ⟨lw_p97, List.forall_mem_cons.mpr ⟨lw_p98, List.forall_mem_cons.mpr ⟨lw_p99, List.forall_mem_cons.mpr ⟨lw_p100, List.forall_mem_cons.mpr ⟨lw_p101, List.forall_mem_cons.mpr ⟨lw_p102, List.forall_mem_cons.mpr ⟨lw_p103, List.forall_mem_cons.mpr ⟨lw_p104, List.forall_mem_cons.mpr ⟨lw_p105, List.forall_mem_cons.mpr ⟨lw_p106, List.forall_mem_cons.mpr ⟨lw_p107, List.forall_mem_cons.mpr ⟨lw_p108, List.forall_mem_cons.mpr ⟨lw_p109, List.forall_mem_cons.mpr ⟨lw_p110, List.forall_mem_cons.mpr ⟨lw_p111, fun _ h => absurd h List.not_mem_nil⟩⟩⟩⟩⟩⟩⟩⟩⟩⟩⟩⟩⟩⟩⟩⟩
theorem lw_p112 : lw_okq (⟨"RoseThrowModel", "remember", "(I)V"⟩, 67) := ⟨⟨by decide +kernel, by decide +kernel⟩, lw_t6 (List.mem_of_getElem? (i := 164) rfl), lw_t9 (List.mem_of_getElem? (i := 112) rfl), lw_t9 (List.mem_of_getElem? (i := 113) rfl)⟩
theorem lw_p113 : lw_okq (⟨"RoseThrowModel", "cannotBelieve", "(II)I"⟩, 67) := ⟨⟨by decide +kernel, by decide +kernel⟩, lw_t6 (List.mem_of_getElem? (i := 164) rfl), lw_t9 (List.mem_of_getElem? (i := 120) rfl), lw_t9 (List.mem_of_getElem? (i := 121) rfl)⟩
theorem lw_p114 : lw_okq (⟨"RoseThrowModel", "rushNow", "()I"⟩, 67) := ⟨⟨by decide +kernel, by decide +kernel⟩, lw_t6 (List.mem_of_getElem? (i := 164) rfl), lw_t9 (List.mem_of_getElem? (i := 128) rfl), lw_t9 (List.mem_of_getElem? (i := 129) rfl)⟩
theorem lw_p115 : lw_okq (⟨"RoseThrowModel", "steps", "(II)Z"⟩, 67) := ⟨⟨by decide +kernel, by decide +kernel⟩, lw_t6 (List.mem_of_getElem? (i := 164) rfl), lw_t9 (List.mem_of_getElem? (i := 132) rfl), lw_t9 (List.mem_of_getElem? (i := 133) rfl)⟩
theorem lw_p116 : lw_okq (⟨"RoseThrowModel", "readOrder", "()V"⟩, 67) := ⟨⟨by decide +kernel, by decide +kernel⟩, lw_t6 (List.mem_of_getElem? (i := 164) rfl), lw_t9 (List.mem_of_getElem? (i := 140) rfl), lw_t9 (List.mem_of_getElem? (i := 141) rfl)⟩
theorem lw_p117 : lw_okq (⟨"RoseThrowModel", "readSum", "(I)V"⟩, 67) := ⟨⟨by decide +kernel, by decide +kernel⟩, lw_t6 (List.mem_of_getElem? (i := 164) rfl), lw_t9 (List.mem_of_getElem? (i := 147) rfl), lw_t9 (List.mem_of_getElem? (i := 148) rfl)⟩
theorem lw_p118 : lw_okq (⟨"RoseThrowModel", "run", "(I)I"⟩, 67) := ⟨⟨by decide +kernel, by decide +kernel⟩, lw_t6 (List.mem_of_getElem? (i := 164) rfl), lw_t9 (List.mem_of_getElem? (i := 153) rfl), lw_t9 (List.mem_of_getElem? (i := 154) rfl)⟩
theorem lw_p119 : lw_okq (⟨"RoseThrowModel", "sumOf", "(I)J"⟩, 67) := ⟨⟨by decide +kernel, by decide +kernel⟩, lw_t6 (List.mem_of_getElem? (i := 164) rfl), lw_t9 (List.mem_of_getElem? (i := 157) rfl), lw_t9 (List.mem_of_getElem? (i := 158) rfl)⟩
theorem lw_p120 : lw_okq (⟨"RoseThrowModel", "giveBack", "(I)V"⟩, 67) := ⟨⟨by decide +kernel, by decide +kernel⟩, lw_t6 (List.mem_of_getElem? (i := 164) rfl), lw_t9 (List.mem_of_getElem? (i := 161) rfl), lw_t9 (List.mem_of_getElem? (i := 162) rfl)⟩
theorem lw_p121 : lw_okq (⟨"RoseThrowModel", "drawCell", "()I"⟩, 67) := ⟨⟨by decide +kernel, by decide +kernel⟩, lw_t6 (List.mem_of_getElem? (i := 164) rfl), lw_t9 (List.mem_of_getElem? (i := 174) rfl), lw_t9 (List.mem_of_getElem? (i := 175) rfl)⟩
theorem lw_p122 : lw_okq (⟨"RoseThrowModel", "draw", "(I)I"⟩, 67) := ⟨⟨by decide +kernel, by decide +kernel⟩, lw_t6 (List.mem_of_getElem? (i := 164) rfl), lw_t9 (List.mem_of_getElem? (i := 178) rfl), lw_t9 (List.mem_of_getElem? (i := 179) rfl)⟩
theorem lw_p123 : lw_okq (⟨"RoseThrowModel", "drawHolder", "()I"⟩, 67) := ⟨⟨by decide +kernel, by decide +kernel⟩, lw_t6 (List.mem_of_getElem? (i := 164) rfl), lw_t9 (List.mem_of_getElem? (i := 185) rfl), lw_t9 (List.mem_of_getElem? (i := 186) rfl)⟩
theorem lw_p124 : lw_okq (⟨"RoseThrowModel", "wedNow", "(II)I"⟩, 67) := ⟨⟨by decide +kernel, by decide +kernel⟩, lw_t6 (List.mem_of_getElem? (i := 164) rfl), lw_t9 (List.mem_of_getElem? (i := 189) rfl), lw_t9 (List.mem_of_getElem? (i := 190) rfl)⟩
def lw_privs_8 : List (MethodName × Nat) := [(⟨"RoseThrowModel", "remember", "(I)V"⟩, 67), (⟨"RoseThrowModel", "cannotBelieve", "(II)I"⟩, 67), (⟨"RoseThrowModel", "rushNow", "()I"⟩, 67), (⟨"RoseThrowModel", "steps", "(II)Z"⟩, 67), (⟨"RoseThrowModel", "readOrder", "()V"⟩, 67), (⟨"RoseThrowModel", "readSum", "(I)V"⟩, 67), (⟨"RoseThrowModel", "run", "(I)I"⟩, 67), (⟨"RoseThrowModel", "sumOf", "(I)J"⟩, 67), (⟨"RoseThrowModel", "giveBack", "(I)V"⟩, 67), (⟨"RoseThrowModel", "drawCell", "()I"⟩, 67), (⟨"RoseThrowModel", "draw", "(I)I"⟩, 67), (⟨"RoseThrowModel", "drawHolder", "()I"⟩, 67), (⟨"RoseThrowModel", "wedNow", "(II)I"⟩, 67)]
theorem lw_r8 : ∀ q ∈ lw_privs_8, lw_okq q := List.forall_mem_cons.mpr ⟨lw_p112, List.forall_mem_cons.mpr ⟨lw_p113, List.forall_mem_cons.mpr ⟨lw_p114, List.forall_mem_cons.mpr ⟨lw_p115, List.forall_mem_cons.mpr ⟨lw_p116, List.forall_mem_cons.mpr ⟨lw_p117, List.forall_mem_cons.mpr ⟨lw_p118, List.forall_mem_cons.mpr ⟨lw_p119, List.forall_mem_cons.mpr ⟨lw_p120, List.forall_mem_cons.mpr ⟨lw_p121, List.forall_mem_cons.mpr ⟨lw_p122, List.forall_mem_cons.mpr ⟨lw_p123, List.forall_mem_cons.mpr ⟨lw_p124, fun _ h => absurd h List.not_mem_nil⟩⟩⟩⟩⟩⟩⟩⟩⟩⟩⟩⟩⟩
def lw_privs : List (MethodName × Nat) := lw_privs_1 ++ (lw_privs_2 ++ (lw_privs_3 ++ (lw_privs_4 ++ (lw_privs_5 ++ (lw_privs_6 ++ (lw_privs_7 ++ (lw_privs_8)))))))
def lw_tbl : List Cond := k2_sels lw_privs ++ tables_1
theorem lw_privs_ok : ∀ q ∈ lw_privs, lw_okq q := by
  show ∀ q ∈ lw_privs_1 ++ (lw_privs_2 ++ (lw_privs_3 ++ (lw_privs_4 ++ (lw_privs_5 ++ (lw_privs_6 ++ (lw_privs_7 ++ (lw_privs_8))))))), lw_okq q
  exact List.forall_mem_append.mpr ⟨lw_r1, List.forall_mem_append.mpr ⟨lw_r2, List.forall_mem_append.mpr ⟨lw_r3, List.forall_mem_append.mpr ⟨lw_r4, List.forall_mem_append.mpr ⟨lw_r5, List.forall_mem_append.mpr ⟨lw_r6, List.forall_mem_append.mpr ⟨lw_r7, lw_r8⟩⟩⟩⟩⟩⟩⟩
-- ===== ONE list of words for every method: the tables' words that hold all through a run =====
def lw_all : List Cond := lw_tbl.filter goodWord
/-- a word of the tables by its place: claim/WORDS.tsv -/
theorem lw_w {w : Cond} (i : Nat) (h : lw_tbl[i]? = some w) (g : goodWord w = true) : w ∈ lw_all := List.mem_filter.mpr ⟨List.mem_of_getElem? h, g⟩
theorem lw_all_tbl {w : Cond} (h : w ∈ lw_all) : w ∈ lw_tbl := (List.mem_filter.mp h).1
theorem lw_self : GoodIn lw_all lw_all := fun w h => ⟨h, good_of_word (List.mem_filter.mp h).2⟩
/-- a class's field words, by their places -/
theorem lw_in (ws : List Cond) (ps : List Nat) (hp : ws = ps.filterMap (fun i => lw_tbl[i]?)) (hg : ws.all goodWord = true) : ∀ w ∈ ws, w ∈ lw_all := by
  intro w h
  have h1 := List.all_eq_true.mp hg w h
  rw [hp] at h
  obtain ⟨i, -, hi⟩ := List.mem_filterMap.mp h
  exact lw_w i hi h1
/-- the words of a contract for the method y with code b, L locals, answer r -/
abbrev ws_ (y : MethodName) (b : ByteArray) (L : Nat) (r : Option FieldType) : List Cond := Cond.code y b L r :: lw_all
theorem lw_meth {y : MethodName} {b : ByteArray} {L : Nat} {r : Option FieldType} (h : Cond.code y b L r ∈ lw_all) : GoodIn lw_all (ws_ y b L r) := by
  intro w hw
  rcases List.mem_cons.mp hw with e | e
  · rw [e]
    exact lw_self _ h
  · exact lw_self _ e
theorem lw_app {a c : List Cond} (ha : ∀ w ∈ a, w ∈ lw_all) (hc : GoodIn lw_all c) : GoodIn lw_all (a ++ c) := by
  intro w hw
  rcases List.mem_append.mp hw with e | e
  · exact lw_self w (ha w e)
  · exact hc w e
/-- what a call through an object asks: cwV n hts (lw_V ..) -/
theorem lw_V {own : String} {idx : Nat} {C : String} {y : MethodName} {b : ByteArray} {L : Nat} {r : Option FieldType} (h1 : Cond.methodLink own idx y ∈ lw_all) (h2 : Cond.instanceMethod y ∈ lw_all) (h3 : Cond.selects C y y ∈ lw_all) (h4 : Cond.initialized C ∈ lw_all) (h5 : Cond.code y b L r ∈ lw_all) : GoodIn lw_all (wsV own idx C y (ws_ y b L r)) := by
  refine lw_app ?_ (lw_meth h5)
  intro w hw
  simp only [List.mem_cons, List.not_mem_nil, or_false] at hw
  rcases hw with e | e | e | e
  · rw [e]; exact h1
  · rw [e]; exact h2
  · rw [e]; exact h3
  · rw [e]; exact h4
/-- what a static call asks: va_cwS n hts (lw_S ..) -/
theorem lw_S {own : String} {idx : Nat} {y : MethodName} {b : ByteArray} {L : Nat} {r : Option FieldType} (h1 : Cond.methodLink own idx y ∈ lw_all) (h2 : Cond.static y ∈ lw_all) (h3 : Cond.initialized y.cls ∈ lw_all) (h4 : Cond.code y b L r ∈ lw_all) : GoodIn lw_all (va_wsS own idx y (ws_ y b L r)) := by
  refine lw_app ?_ (lw_meth h4)
  intro w hw
  simp only [List.mem_cons, List.not_mem_nil, or_false] at hw
  rcases hw with e | e | e
  · rw [e]; exact h1
  · rw [e]; exact h2
  · rw [e]; exact h3
/-- the words of a contract for a method WITH HANDLERS (hh: its table) -/
abbrev wsW_ (y : MethodName) (b : ByteArray) (L : Nat) (r : Option FieldType) (hh : List (Nat × Nat × Nat × Nat)) : List Cond := Cond.codeWith y b L r hh :: lw_all
theorem lw_methW {y : MethodName} {b : ByteArray} {L : Nat} {r : Option FieldType} {hh : List (Nat × Nat × Nat × Nat)} (h : Cond.codeWith y b L r hh ∈ lw_all) : GoodIn lw_all (wsW_ y b L r hh) := by
  intro w hw
  rcases List.mem_cons.mp hw with e | e
  · rw [e]
    exact lw_self _ h
  · exact lw_self _ e
/-- any list of words by their places (lw_in), good -/
theorem lw_good {ws : List Cond} (h : ∀ w ∈ ws, w ∈ lw_all) : GoodIn lw_all ws := fun w hw => lw_self w (h w hw)
/-- what a call of a method with handlers asks: vx_cwVW n hts (lw_VW ..), vx_cwSW n hts (lw_SW ..) -/
theorem lw_VW {own : String} {idx : Nat} {C : String} {y : MethodName} {b : ByteArray} {L : Nat} {r : Option FieldType} {hh : List (Nat × Nat × Nat × Nat)} (h1 : Cond.methodLink own idx y ∈ lw_all) (h2 : Cond.instanceMethod y ∈ lw_all) (h3 : Cond.selects C y y ∈ lw_all) (h4 : Cond.initialized C ∈ lw_all) (h5 : Cond.codeWith y b L r hh ∈ lw_all) : GoodIn lw_all (wsV own idx C y (wsW_ y b L r hh)) := by
  refine lw_app ?_ (lw_methW h5)
  intro w hw
  simp only [List.mem_cons, List.not_mem_nil, or_false] at hw
  rcases hw with e | e | e | e
  · rw [e]; exact h1
  · rw [e]; exact h2
  · rw [e]; exact h3
  · rw [e]; exact h4
theorem lw_SW {own : String} {idx : Nat} {y : MethodName} {b : ByteArray} {L : Nat} {r : Option FieldType} {hh : List (Nat × Nat × Nat × Nat)} (h1 : Cond.methodLink own idx y ∈ lw_all) (h2 : Cond.static y ∈ lw_all) (h3 : Cond.initialized y.cls ∈ lw_all) (h4 : Cond.codeWith y b L r hh ∈ lw_all) : GoodIn lw_all (va_wsS own idx y (wsW_ y b L r hh)) := by
  refine lw_app ?_ (lw_methW h4)
  intro w hw
  simp only [List.mem_cons, List.not_mem_nil, or_false] at hw
  rcases hw with e | e | e
  · rw [e]; exact h1
  · rw [e]; exact h2
  · rw [e]; exact h3
/-- a word by its place in its run of the tables -/
theorem lw_at {r : List Cond} (hr : ∀ w ∈ r, w ∈ lw_tbl) {w : Cond} (i : Nat) (h : r[i]? = some w) : w ∈ lw_tbl := hr w (List.mem_of_getElem? h)
theorem lw_g {w : Cond} (h : w ∈ lw_tbl) (g : goodWord w = true) : w ∈ lw_all := List.mem_filter.mpr ⟨h, g⟩
theorem lw_ms : ∀ w ∈ k2_sels lw_privs, w ∈ lw_tbl := fun w h => show w ∈ k2_sels lw_privs ++ tables_1 from List.mem_append_left _ h
theorem lw_m1 : ∀ w ∈ tables_1_1, w ∈ lw_tbl := fun w h => show w ∈ k2_sels lw_privs ++ tables_1 from List.mem_append_right (k2_sels lw_privs) (show w ∈ tables_1 from List.mem_append_left _ h)
theorem lw_m2 : ∀ w ∈ tables_1_2, w ∈ lw_tbl := fun w h => show w ∈ k2_sels lw_privs ++ tables_1 from List.mem_append_right (k2_sels lw_privs) (show w ∈ tables_1 from List.mem_append_right _ (List.mem_append_left _ h))
theorem lw_m3 : ∀ w ∈ tables_1_3, w ∈ lw_tbl := fun w h => show w ∈ k2_sels lw_privs ++ tables_1 from List.mem_append_right (k2_sels lw_privs) (show w ∈ tables_1 from List.mem_append_right _ (List.mem_append_right _ (List.mem_append_left _ h)))
theorem lw_m4 : ∀ w ∈ tables_1_4, w ∈ lw_tbl := fun w h => show w ∈ k2_sels lw_privs ++ tables_1 from List.mem_append_right (k2_sels lw_privs) (show w ∈ tables_1 from List.mem_append_right _ (List.mem_append_right _ (List.mem_append_right _ (List.mem_append_left _ h))))
theorem lw_m5 : ∀ w ∈ tables_1_5, w ∈ lw_tbl := fun w h => show w ∈ k2_sels lw_privs ++ tables_1 from List.mem_append_right (k2_sels lw_privs) (show w ∈ tables_1 from List.mem_append_right _ (List.mem_append_right _ (List.mem_append_right _ (List.mem_append_right _ (List.mem_append_left _ h)))))
theorem lw_m6 : ∀ w ∈ tables_1_6, w ∈ lw_tbl := fun w h => show w ∈ k2_sels lw_privs ++ tables_1 from List.mem_append_right (k2_sels lw_privs) (show w ∈ tables_1 from List.mem_append_right _ (List.mem_append_right _ (List.mem_append_right _ (List.mem_append_right _ (List.mem_append_right _ (List.mem_append_left _ h))))))
theorem lw_m7 : ∀ w ∈ tables_1_7, w ∈ lw_tbl := fun w h => show w ∈ k2_sels lw_privs ++ tables_1 from List.mem_append_right (k2_sels lw_privs) (show w ∈ tables_1 from List.mem_append_right _ (List.mem_append_right _ (List.mem_append_right _ (List.mem_append_right _ (List.mem_append_right _ (List.mem_append_right _ (List.mem_append_left _ h)))))))
theorem lw_m8 : ∀ w ∈ tables_1_8, w ∈ lw_tbl := fun w h => show w ∈ k2_sels lw_privs ++ tables_1 from List.mem_append_right (k2_sels lw_privs) (show w ∈ tables_1 from List.mem_append_right _ (List.mem_append_right _ (List.mem_append_right _ (List.mem_append_right _ (List.mem_append_right _ (List.mem_append_right _ (List.mem_append_right _ (List.mem_append_left _ h))))))))
theorem lw_m9 : ∀ w ∈ tables_1_9, w ∈ lw_tbl := fun w h => show w ∈ k2_sels lw_privs ++ tables_1 from List.mem_append_right (k2_sels lw_privs) (show w ∈ tables_1 from List.mem_append_right _ (List.mem_append_right _ (List.mem_append_right _ (List.mem_append_right _ (List.mem_append_right _ (List.mem_append_right _ (List.mem_append_right _ (List.mem_append_right _ (List.mem_append_left _ h)))))))))
theorem lw_m10 : ∀ w ∈ tables_1_10, w ∈ lw_tbl := fun w h => show w ∈ k2_sels lw_privs ++ tables_1 from List.mem_append_right (k2_sels lw_privs) (show w ∈ tables_1 from List.mem_append_right _ (List.mem_append_right _ (List.mem_append_right _ (List.mem_append_right _ (List.mem_append_right _ (List.mem_append_right _ (List.mem_append_right _ (List.mem_append_right _ (List.mem_append_right _ h)))))))))
theorem qs0 : (Cond.selects "java/lang/Throwable" ⟨"java/lang/Throwable", "fillInStackTrace", "(I)Ljava/lang/Throwable;"⟩ ⟨"java/lang/Throwable", "fillInStackTrace", "(I)Ljava/lang/Throwable;"⟩) ∈ lw_all := lw_g (lw_at lw_ms 0 rfl) rfl
theorem qs1 : (Cond.selects "RoseThrow" ⟨"RoseThrow", "refuse", "(I)I"⟩ ⟨"RoseThrow", "refuse", "(I)I"⟩) ∈ lw_all := lw_g (lw_at lw_ms 1 rfl) rfl
theorem qs2 : (Cond.selects "java/util/ArrayList" ⟨"java/util/ArrayList", "grow", "(I)[Ljava/lang/Object;"⟩ ⟨"java/util/ArrayList", "grow", "(I)[Ljava/lang/Object;"⟩) ∈ lw_all := lw_g (lw_at lw_ms 2 rfl) rfl
theorem qs3 : (Cond.selects "RoseThrow" ⟨"RoseThrow", "done", "(I)I"⟩ ⟨"RoseThrow", "done", "(I)I"⟩) ∈ lw_all := lw_g (lw_at lw_ms 3 rfl) rfl
theorem qs4 : (Cond.selects "RoseThrow" ⟨"RoseThrow", "settled", "(I)I"⟩ ⟨"RoseThrow", "settled", "(I)I"⟩) ∈ lw_all := lw_g (lw_at lw_ms 4 rfl) rfl
theorem qs5 : (Cond.selects "RoseThrow" ⟨"RoseThrow", "comesIn", "(IIII)I"⟩ ⟨"RoseThrow", "comesIn", "(IIII)I"⟩) ∈ lw_all := lw_g (lw_at lw_ms 5 rfl) rfl
theorem qs6 : (Cond.selects "RoseThrow" ⟨"RoseThrow", "whoIn", "([II)I"⟩ ⟨"RoseThrow", "whoIn", "([II)I"⟩) ∈ lw_all := lw_g (lw_at lw_ms 6 rfl) rfl
theorem qs7 : (Cond.selects "RoseThrow" ⟨"RoseThrow", "isBarred", "(IIII)Z"⟩ ⟨"RoseThrow", "isBarred", "(IIII)Z"⟩) ∈ lw_all := lw_g (lw_at lw_ms 7 rfl) rfl
theorem qs8 : (Cond.selects "RoseThrow" ⟨"RoseThrow", "looksAt", "(III)V"⟩ ⟨"RoseThrow", "looksAt", "(III)V"⟩) ∈ lw_all := lw_g (lw_at lw_ms 8 rfl) rfl
theorem qs9 : (Cond.selects "RoseThrow" ⟨"RoseThrow", "nothing", "()V"⟩ ⟨"RoseThrow", "nothing", "()V"⟩) ∈ lw_all := lw_g (lw_at lw_ms 9 rfl) rfl
theorem qs10 : (Cond.selects "RoseThrow" ⟨"RoseThrow", "term", "(I)I"⟩ ⟨"RoseThrow", "term", "(I)I"⟩) ∈ lw_all := lw_g (lw_at lw_ms 10 rfl) rfl
theorem qs11 : (Cond.selects "RoseThrow" ⟨"RoseThrow", "says", "(I)J"⟩ ⟨"RoseThrow", "says", "(I)J"⟩) ∈ lw_all := lw_g (lw_at lw_ms 11 rfl) rfl
theorem qs12 : (Cond.selects "RoseThrow" ⟨"RoseThrow", "isCatcher", "(I)Z"⟩ ⟨"RoseThrow", "isCatcher", "(I)Z"⟩) ∈ lw_all := lw_g (lw_at lw_ms 12 rfl) rfl
theorem qs13 : (Cond.selects "RoseThrow" ⟨"RoseThrow", "four", "(I)V"⟩ ⟨"RoseThrow", "four", "(I)V"⟩) ∈ lw_all := lw_g (lw_at lw_ms 13 rfl) rfl
theorem qs14 : (Cond.selects "RoseThrow" ⟨"RoseThrow", "reads", "(LRoseThrow$Reader;)Z"⟩ ⟨"RoseThrow", "reads", "(LRoseThrow$Reader;)Z"⟩) ∈ lw_all := lw_g (lw_at lw_ms 14 rfl) rfl
theorem qs15 : (Cond.selects "java/util/ArrayList" ⟨"java/util/ArrayList", "add", "(Ljava/lang/Object;[Ljava/lang/Object;I)V"⟩ ⟨"java/util/ArrayList", "add", "(Ljava/lang/Object;[Ljava/lang/Object;I)V"⟩) ∈ lw_all := lw_g (lw_at lw_ms 15 rfl) rfl
theorem qs16 : (Cond.selects "java/util/ArrayList" ⟨"java/util/ArrayList", "grow", "()[Ljava/lang/Object;"⟩ ⟨"java/util/ArrayList", "grow", "()[Ljava/lang/Object;"⟩) ∈ lw_all := lw_g (lw_at lw_ms 16 rfl) rfl
theorem qs17 : (Cond.selects "RoseThrow" ⟨"RoseThrow", "grip", "(II)I"⟩ ⟨"RoseThrow", "grip", "(II)I"⟩) ∈ lw_all := lw_g (lw_at lw_ms 17 rfl) rfl
theorem qs18 : (Cond.selects "RoseThrow" ⟨"RoseThrow", "wed", "(II)I"⟩ ⟨"RoseThrow", "wed", "(II)I"⟩) ∈ lw_all := lw_g (lw_at lw_ms 18 rfl) rfl
theorem qs19 : (Cond.selects "RoseThrow" ⟨"RoseThrow", "isBarred", "(II)Z"⟩ ⟨"RoseThrow", "isBarred", "(II)Z"⟩) ∈ lw_all := lw_g (lw_at lw_ms 19 rfl) rfl
theorem qs20 : (Cond.selects "RoseThrow" ⟨"RoseThrow", "goesKept", "(II)I"⟩ ⟨"RoseThrow", "goesKept", "(II)I"⟩) ∈ lw_all := lw_g (lw_at lw_ms 20 rfl) rfl
theorem qs21 : (Cond.selects "RoseThrow" ⟨"RoseThrow", "canGo", "([III)Z"⟩ ⟨"RoseThrow", "canGo", "([III)Z"⟩) ∈ lw_all := lw_g (lw_at lw_ms 21 rfl) rfl
theorem qs22 : (Cond.selects "RoseThrow" ⟨"RoseThrow", "keeps", "(I)V"⟩ ⟨"RoseThrow", "keeps", "(I)V"⟩) ∈ lw_all := lw_g (lw_at lw_ms 22 rfl) rfl
theorem qs23 : (Cond.selects "RoseThrow" ⟨"RoseThrow", "believesKept", "(II)I"⟩ ⟨"RoseThrow", "believesKept", "(II)I"⟩) ∈ lw_all := lw_g (lw_at lw_ms 23 rfl) rfl
theorem qs24 : (Cond.selects "RoseThrow" ⟨"RoseThrow", "rushesKept", "()I"⟩ ⟨"RoseThrow", "rushesKept", "()I"⟩) ∈ lw_all := lw_g (lw_at lw_ms 24 rfl) rfl
theorem qs25 : (Cond.selects "RoseThrow" ⟨"RoseThrow", "steps", "(I)Z"⟩ ⟨"RoseThrow", "steps", "(I)Z"⟩) ∈ lw_all := lw_g (lw_at lw_ms 25 rfl) rfl
theorem qs26 : (Cond.selects "RoseThrow" ⟨"RoseThrow", "looks", "()V"⟩ ⟨"RoseThrow", "looks", "()V"⟩) ∈ lw_all := lw_g (lw_at lw_ms 26 rfl) rfl
theorem qs27 : (Cond.selects "RoseThrow$Flight" ⟨"RoseThrow$Flight", "lampOn", "(II)I"⟩ ⟨"RoseThrow$Flight", "lampOn", "(II)I"⟩) ∈ lw_all := lw_g (lw_at lw_ms 27 rfl) rfl
theorem qs28 : (Cond.selects "RoseThrow$Flight" ⟨"RoseThrow$Flight", "comes", "(II)V"⟩ ⟨"RoseThrow$Flight", "comes", "(II)V"⟩) ∈ lw_all := lw_g (lw_at lw_ms 28 rfl) rfl
theorem qs29 : (Cond.selects "RoseThrow" ⟨"RoseThrow", "slip", "(IIII)I"⟩ ⟨"RoseThrow", "slip", "(IIII)I"⟩) ∈ lw_all := lw_g (lw_at lw_ms 29 rfl) rfl
theorem qs30 : (Cond.selects "RoseThrow" ⟨"RoseThrow", "chance", "(ILRoseThrow$Flight;[I)J"⟩ ⟨"RoseThrow", "chance", "(ILRoseThrow$Flight;[I)J"⟩) ∈ lw_all := lw_g (lw_at lw_ms 30 rfl) rfl
theorem qs31 : (Cond.selects "RoseThrow" ⟨"RoseThrow", "partOf", "(I[II)I"⟩ ⟨"RoseThrow", "partOf", "(I[II)I"⟩) ∈ lw_all := lw_g (lw_at lw_ms 31 rfl) rfl
theorem qs32 : (Cond.selects "RoseThrow" ⟨"RoseThrow", "gripsOf", "(III)I"⟩ ⟨"RoseThrow", "gripsOf", "(III)I"⟩) ∈ lw_all := lw_g (lw_at lw_ms 32 rfl) rfl
theorem qs33 : (Cond.selects "RoseThrow" ⟨"RoseThrow", "copies", "()V"⟩ ⟨"RoseThrow", "copies", "()V"⟩) ∈ lw_all := lw_g (lw_at lw_ms 33 rfl) rfl
theorem qs34 : (Cond.selects "RoseThrow" ⟨"RoseThrow", "bestCell", "(I)I"⟩ ⟨"RoseThrow", "bestCell", "(I)I"⟩) ∈ lw_all := lw_g (lw_at lw_ms 34 rfl) rfl
theorem qs35 : (Cond.selects "RoseThrow" ⟨"RoseThrow", "goesBest", "(I)Z"⟩ ⟨"RoseThrow", "goesBest", "(I)Z"⟩) ∈ lw_all := lw_g (lw_at lw_ms 35 rfl) rfl
theorem qs36 : (Cond.selects "RoseThrow" ⟨"RoseThrow", "looksAtAll", "()V"⟩ ⟨"RoseThrow", "looksAtAll", "()V"⟩) ∈ lw_all := lw_g (lw_at lw_ms 36 rfl) rfl
theorem qs37 : (Cond.selects "RoseThrow" ⟨"RoseThrow", "none", "()V"⟩ ⟨"RoseThrow", "none", "()V"⟩) ∈ lw_all := lw_g (lw_at lw_ms 37 rfl) rfl
theorem qs38 : (Cond.selects "RoseThrow" ⟨"RoseThrow", "isMore", "(JJ)Z"⟩ ⟨"RoseThrow", "isMore", "(JJ)Z"⟩) ∈ lw_all := lw_g (lw_at lw_ms 38 rfl) rfl
theorem qs39 : (Cond.selects "RoseThrow" ⟨"RoseThrow", "friendOf", "(II)J"⟩ ⟨"RoseThrow", "friendOf", "(II)J"⟩) ∈ lw_all := lw_g (lw_at lw_ms 39 rfl) rfl
theorem qs40 : (Cond.selects "RoseThrow" ⟨"RoseThrow", "hears", "(LRoseThrow$Flight;I)V"⟩ ⟨"RoseThrow", "hears", "(LRoseThrow$Flight;I)V"⟩) ∈ lw_all := lw_g (lw_at lw_ms 40 rfl) rfl
theorem qs41 : (Cond.selects "RoseThrow" ⟨"RoseThrow", "near", "(I)I"⟩ ⟨"RoseThrow", "near", "(I)I"⟩) ∈ lw_all := lw_g (lw_at lw_ms 41 rfl) rfl
theorem qs42 : (Cond.selects "RoseThrow" ⟨"RoseThrow", "tellsOrder", "(II)V"⟩ ⟨"RoseThrow", "tellsOrder", "(II)V"⟩) ∈ lw_all := lw_g (lw_at lw_ms 42 rfl) rfl
theorem qs43 : (Cond.selects "RoseThrow" ⟨"RoseThrow", "runs", "(LRoseThrow$Order;)I"⟩ ⟨"RoseThrow", "runs", "(LRoseThrow$Order;)I"⟩) ∈ lw_all := lw_g (lw_at lw_ms 43 rfl) rfl
theorem qs44 : (Cond.selects "RoseThrow" ⟨"RoseThrow", "putsBack", "(I)V"⟩ ⟨"RoseThrow", "putsBack", "(I)V"⟩) ∈ lw_all := lw_g (lw_at lw_ms 44 rfl) rfl
theorem qs45 : (Cond.selects "RoseThrow" ⟨"RoseThrow", "draw", "(I)I"⟩ ⟨"RoseThrow", "draw", "(I)I"⟩) ∈ lw_all := lw_g (lw_at lw_ms 45 rfl) rfl
theorem qs46 : (Cond.selects "RoseThrow" ⟨"RoseThrow", "holder", "(I)I"⟩ ⟨"RoseThrow", "holder", "(I)I"⟩) ∈ lw_all := lw_g (lw_at lw_ms 46 rfl) rfl
theorem qs47 : (Cond.selects "RoseThrowModel" ⟨"RoseThrowModel", "tell", "(I)I"⟩ ⟨"RoseThrowModel", "tell", "(I)I"⟩) ∈ lw_all := lw_g (lw_at lw_ms 47 rfl) rfl
theorem qs48 : (Cond.selects "RoseThrowModel" ⟨"RoseThrowModel", "putBack", "(I)V"⟩ ⟨"RoseThrowModel", "putBack", "(I)V"⟩) ∈ lw_all := lw_g (lw_at lw_ms 48 rfl) rfl
theorem qs49 : (Cond.selects "RoseThrowModel" ⟨"RoseThrowModel", "setCell", "(II)V"⟩ ⟨"RoseThrowModel", "setCell", "(II)V"⟩) ∈ lw_all := lw_g (lw_at lw_ms 49 rfl) rfl
theorem qs50 : (Cond.selects "RoseThrowModel" ⟨"RoseThrowModel", "catcher1", "(IIII)I"⟩ ⟨"RoseThrowModel", "catcher1", "(IIII)I"⟩) ∈ lw_all := lw_g (lw_at lw_ms 50 rfl) rfl
theorem qs51 : (Cond.selects "RoseThrowModel" ⟨"RoseThrowModel", "isFree", "(I)Z"⟩ ⟨"RoseThrowModel", "isFree", "(I)Z"⟩) ∈ lw_all := lw_g (lw_at lw_ms 51 rfl) rfl
theorem qs52 : (Cond.selects "RoseThrowModel" ⟨"RoseThrowModel", "ofCatcher", "(II)I"⟩ ⟨"RoseThrowModel", "ofCatcher", "(II)I"⟩) ∈ lw_all := lw_g (lw_at lw_ms 52 rfl) rfl
theorem qs53 : (Cond.selects "RoseThrowModel" ⟨"RoseThrowModel", "isBarredBy", "(IIII)Z"⟩ ⟨"RoseThrowModel", "isBarredBy", "(IIII)Z"⟩) ∈ lw_all := lw_g (lw_at lw_ms 53 rfl) rfl
theorem qs54 : (Cond.selects "RoseThrowModel" ⟨"RoseThrowModel", "setCatcher", "(III)V"⟩ ⟨"RoseThrowModel", "setCatcher", "(III)V"⟩) ∈ lw_all := lw_g (lw_at lw_ms 54 rfl) rfl
theorem qs55 : (Cond.selects "RoseThrowModel" ⟨"RoseThrowModel", "clearSet", "()V"⟩ ⟨"RoseThrowModel", "clearSet", "()V"⟩) ∈ lw_all := lw_g (lw_at lw_ms 55 rfl) rfl
theorem qs56 : (Cond.selects "RoseThrowModel" ⟨"RoseThrowModel", "term", "(I)I"⟩ ⟨"RoseThrowModel", "term", "(I)I"⟩) ∈ lw_all := lw_g (lw_at lw_ms 56 rfl) rfl
theorem qs57 : (Cond.selects "RoseThrowModel" ⟨"RoseThrowModel", "tells", "(IJ)J"⟩ ⟨"RoseThrowModel", "tells", "(IJ)J"⟩) ∈ lw_all := lw_g (lw_at lw_ms 57 rfl) rfl
theorem qs58 : (Cond.selects "RoseThrowModel" ⟨"RoseThrowModel", "isSo", "(I)Z"⟩ ⟨"RoseThrowModel", "isSo", "(I)Z"⟩) ∈ lw_all := lw_g (lw_at lw_ms 58 rfl) rfl
theorem qs59 : (Cond.selects "RoseThrowModel" ⟨"RoseThrowModel", "reckonAll", "(II)V"⟩ ⟨"RoseThrowModel", "reckonAll", "(II)V"⟩) ∈ lw_all := lw_g (lw_at lw_ms 59 rfl) rfl
theorem qs60 : (Cond.selects "RoseThrowModel" ⟨"RoseThrowModel", "isCatcher", "(I)Z"⟩ ⟨"RoseThrowModel", "isCatcher", "(I)Z"⟩) ∈ lw_all := lw_g (lw_at lw_ms 60 rfl) rfl
theorem qs61 : (Cond.selects "RoseThrowModel" ⟨"RoseThrowModel", "reckon", "(IJJ)J"⟩ ⟨"RoseThrowModel", "reckon", "(IJJ)J"⟩) ∈ lw_all := lw_g (lw_at lw_ms 61 rfl) rfl
theorem qs62 : (Cond.selects "RoseThrowModel" ⟨"RoseThrowModel", "settled", "(I)I"⟩ ⟨"RoseThrowModel", "settled", "(I)I"⟩) ∈ lw_all := lw_g (lw_at lw_ms 62 rfl) rfl
theorem qs63 : (Cond.selects "RoseThrowModel" ⟨"RoseThrowModel", "set1", "(II)I"⟩ ⟨"RoseThrowModel", "set1", "(II)I"⟩) ∈ lw_all := lw_g (lw_at lw_ms 63 rfl) rfl
theorem qs64 : (Cond.selects "RoseThrowModel" ⟨"RoseThrowModel", "four", "(I)V"⟩ ⟨"RoseThrowModel", "four", "(I)V"⟩) ∈ lw_all := lw_g (lw_at lw_ms 64 rfl) rfl
theorem qs65 : (Cond.selects "RoseThrowModel" ⟨"RoseThrowModel", "beginText", "(Z)V"⟩ ⟨"RoseThrowModel", "beginText", "(Z)V"⟩) ∈ lw_all := lw_g (lw_at lw_ms 65 rfl) rfl
theorem qs66 : (Cond.selects "RoseThrowModel" ⟨"RoseThrowModel", "begin", "()V"⟩ ⟨"RoseThrowModel", "begin", "()V"⟩) ∈ lw_all := lw_g (lw_at lw_ms 66 rfl) rfl
theorem qs67 : (Cond.selects "RoseThrowModel" ⟨"RoseThrowModel", "next", "()V"⟩ ⟨"RoseThrowModel", "next", "()V"⟩) ∈ lw_all := lw_g (lw_at lw_ms 67 rfl) rfl
theorem qs68 : (Cond.selects "RoseThrowModel" ⟨"RoseThrowModel", "readLaw", "()V"⟩ ⟨"RoseThrowModel", "readLaw", "()V"⟩) ∈ lw_all := lw_g (lw_at lw_ms 68 rfl) rfl
theorem qs69 : (Cond.selects "RoseThrowModel" ⟨"RoseThrowModel", "isWord", "(J)Z"⟩ ⟨"RoseThrowModel", "isWord", "(J)Z"⟩) ∈ lw_all := lw_g (lw_at lw_ms 69 rfl) rfl
theorem qs70 : (Cond.selects "RoseThrowModel" ⟨"RoseThrowModel", "must", "(Z)V"⟩ ⟨"RoseThrowModel", "must", "(Z)V"⟩) ∈ lw_all := lw_g (lw_at lw_ms 70 rfl) rfl
theorem qs71 : (Cond.selects "RoseThrowModel" ⟨"RoseThrowModel", "readExpression", "(Z)V"⟩ ⟨"RoseThrowModel", "readExpression", "(Z)V"⟩) ∈ lw_all := lw_g (lw_at lw_ms 71 rfl) rfl
theorem qs72 : (Cond.selects "RoseThrowModel" ⟨"RoseThrowModel", "readPlain", "()I"⟩ ⟨"RoseThrowModel", "readPlain", "()I"⟩) ∈ lw_all := lw_g (lw_at lw_ms 72 rfl) rfl
theorem qs73 : (Cond.selects "RoseThrowModel" ⟨"RoseThrowModel", "push", "(II)V"⟩ ⟨"RoseThrowModel", "push", "(II)V"⟩) ∈ lw_all := lw_g (lw_at lw_ms 73 rfl) rfl
theorem qs74 : (Cond.selects "RoseThrowModel" ⟨"RoseThrowModel", "isSign", "(I)Z"⟩ ⟨"RoseThrowModel", "isSign", "(I)Z"⟩) ∈ lw_all := lw_g (lw_at lw_ms 74 rfl) rfl
theorem qs75 : (Cond.selects "RoseThrowModel" ⟨"RoseThrowModel", "openBracket", "(I)V"⟩ ⟨"RoseThrowModel", "openBracket", "(I)V"⟩) ∈ lw_all := lw_g (lw_at lw_ms 75 rfl) rfl
theorem qs76 : (Cond.selects "RoseThrowModel" ⟨"RoseThrowModel", "readPart", "()I"⟩ ⟨"RoseThrowModel", "readPart", "()I"⟩) ∈ lw_all := lw_g (lw_at lw_ms 76 rfl) rfl
theorem qs77 : (Cond.selects "RoseThrowModel" ⟨"RoseThrowModel", "orderPartAt", "()I"⟩ ⟨"RoseThrowModel", "orderPartAt", "()I"⟩) ∈ lw_all := lw_g (lw_at lw_ms 77 rfl) rfl
theorem qs78 : (Cond.selects "RoseThrowModel" ⟨"RoseThrowModel", "partAt", "()I"⟩ ⟨"RoseThrowModel", "partAt", "()I"⟩) ∈ lw_all := lw_g (lw_at lw_ms 78 rfl) rfl
theorem qs79 : (Cond.selects "RoseThrowModel" ⟨"RoseThrowModel", "leaf", "(ZII)V"⟩ ⟨"RoseThrowModel", "leaf", "(ZII)V"⟩) ∈ lw_all := lw_g (lw_at lw_ms 79 rfl) rfl
theorem qs80 : (Cond.selects "RoseThrowModel" ⟨"RoseThrowModel", "emit", "(II)V"⟩ ⟨"RoseThrowModel", "emit", "(II)V"⟩) ∈ lw_all := lw_g (lw_at lw_ms 80 rfl) rfl
theorem qs81 : (Cond.selects "RoseThrowModel" ⟨"RoseThrowModel", "number", "(JJ)I"⟩ ⟨"RoseThrowModel", "number", "(JJ)I"⟩) ∈ lw_all := lw_g (lw_at lw_ms 81 rfl) rfl
theorem qs82 : (Cond.selects "RoseThrowModel" ⟨"RoseThrowModel", "behindSum", "(Z)I"⟩ ⟨"RoseThrowModel", "behindSum", "(Z)I"⟩) ∈ lw_all := lw_g (lw_at lw_ms 82 rfl) rfl
theorem qs83 : (Cond.selects "RoseThrowModel" ⟨"RoseThrowModel", "settle", "(I)V"⟩ ⟨"RoseThrowModel", "settle", "(I)V"⟩) ∈ lw_all := lw_g (lw_at lw_ms 83 rfl) rfl
theorem qs84 : (Cond.selects "RoseThrowModel" ⟨"RoseThrowModel", "inner", "()I"⟩ ⟨"RoseThrowModel", "inner", "()I"⟩) ∈ lw_all := lw_g (lw_at lw_ms 84 rfl) rfl
theorem qs85 : (Cond.selects "RoseThrowModel" ⟨"RoseThrowModel", "isCompared", "()Z"⟩ ⟨"RoseThrowModel", "isCompared", "()Z"⟩) ∈ lw_all := lw_g (lw_at lw_ms 85 rfl) rfl
theorem qs86 : (Cond.selects "RoseThrowModel" ⟨"RoseThrowModel", "behindTest", "()I"⟩ ⟨"RoseThrowModel", "behindTest", "()I"⟩) ∈ lw_all := lw_g (lw_at lw_ms 86 rfl) rfl
theorem qs87 : (Cond.selects "RoseThrowModel" ⟨"RoseThrowModel", "endText", "()V"⟩ ⟨"RoseThrowModel", "endText", "()V"⟩) ∈ lw_all := lw_g (lw_at lw_ms 87 rfl) rfl
theorem qs88 : (Cond.selects "RoseThrowModel" ⟨"RoseThrowModel", "gripOf", "(II)I"⟩ ⟨"RoseThrowModel", "gripOf", "(II)I"⟩) ∈ lw_all := lw_g (lw_at lw_ms 88 rfl) rfl
theorem qs89 : (Cond.selects "RoseThrowModel" ⟨"RoseThrowModel", "wedOf", "(II)I"⟩ ⟨"RoseThrowModel", "wedOf", "(II)I"⟩) ∈ lw_all := lw_g (lw_at lw_ms 89 rfl) rfl
theorem qs90 : (Cond.selects "RoseThrowModel" ⟨"RoseThrowModel", "isBarred", "(II)Z"⟩ ⟨"RoseThrowModel", "isBarred", "(II)Z"⟩) ∈ lw_all := lw_g (lw_at lw_ms 90 rfl) rfl
theorem qs91 : (Cond.selects "RoseThrowModel" ⟨"RoseThrowModel", "aimNow", "()V"⟩ ⟨"RoseThrowModel", "aimNow", "()V"⟩) ∈ lw_all := lw_g (lw_at lw_ms 91 rfl) rfl
theorem qs92 : (Cond.selects "RoseThrowModel" ⟨"RoseThrowModel", "aim", "(II)V"⟩ ⟨"RoseThrowModel", "aim", "(II)V"⟩) ∈ lw_all := lw_g (lw_at lw_ms 92 rfl) rfl
theorem qs93 : (Cond.selects "RoseThrowModel" ⟨"RoseThrowModel", "isLit", "(II)Z"⟩ ⟨"RoseThrowModel", "isLit", "(II)Z"⟩) ∈ lw_all := lw_g (lw_at lw_ms 93 rfl) rfl
theorem qs94 : (Cond.selects "RoseThrowModel" ⟨"RoseThrowModel", "cellAt", "(II)I"⟩ ⟨"RoseThrowModel", "cellAt", "(II)I"⟩) ∈ lw_all := lw_g (lw_at lw_ms 94 rfl) rfl
theorem qs95 : (Cond.selects "RoseThrowModel" ⟨"RoseThrowModel", "slipWeighs", "(IIII)I"⟩ ⟨"RoseThrowModel", "slipWeighs", "(IIII)I"⟩) ∈ lw_all := lw_g (lw_at lw_ms 95 rfl) rfl
theorem qs96 : (Cond.selects "RoseThrowModel" ⟨"RoseThrowModel", "shorten", "(JJ)V"⟩ ⟨"RoseThrowModel", "shorten", "(JJ)V"⟩) ∈ lw_all := lw_g (lw_at lw_ms 96 rfl) rfl
theorem qs97 : (Cond.selects "RoseThrowModel" ⟨"RoseThrowModel", "findAll", "()V"⟩ ⟨"RoseThrowModel", "findAll", "()V"⟩) ∈ lw_all := lw_g (lw_at lw_ms 97 rfl) rfl
theorem qs98 : (Cond.selects "RoseThrowModel" ⟨"RoseThrowModel", "findParts", "(I)V"⟩ ⟨"RoseThrowModel", "findParts", "(I)V"⟩) ∈ lw_all := lw_g (lw_at lw_ms 98 rfl) rfl
theorem qs99 : (Cond.selects "RoseThrowModel" ⟨"RoseThrowModel", "findHolders", "(I)V"⟩ ⟨"RoseThrowModel", "findHolders", "(I)V"⟩) ∈ lw_all := lw_g (lw_at lw_ms 99 rfl) rfl
theorem qs100 : (Cond.selects "RoseThrowModel" ⟨"RoseThrowModel", "findStand", "(I)V"⟩ ⟨"RoseThrowModel", "findStand", "(I)V"⟩) ∈ lw_all := lw_g (lw_at lw_ms 100 rfl) rfl
theorem qs101 : (Cond.selects "RoseThrowModel" ⟨"RoseThrowModel", "canStand", "(II)Z"⟩ ⟨"RoseThrowModel", "canStand", "(II)Z"⟩) ∈ lw_all := lw_g (lw_at lw_ms 101 rfl) rfl
theorem qs102 : (Cond.selects "RoseThrowModel" ⟨"RoseThrowModel", "partsAt", "(II)I"⟩ ⟨"RoseThrowModel", "partsAt", "(II)I"⟩) ∈ lw_all := lw_g (lw_at lw_ms 102 rfl) rfl
theorem qs103 : (Cond.selects "RoseThrowModel" ⟨"RoseThrowModel", "keepCells", "(I)V"⟩ ⟨"RoseThrowModel", "keepCells", "(I)V"⟩) ∈ lw_all := lw_g (lw_at lw_ms 103 rfl) rfl
theorem qs104 : (Cond.selects "RoseThrowModel" ⟨"RoseThrowModel", "goRound", "()Z"⟩ ⟨"RoseThrowModel", "goRound", "()Z"⟩) ∈ lw_all := lw_g (lw_at lw_ms 104 rfl) rfl
theorem qs105 : (Cond.selects "RoseThrowModel" ⟨"RoseThrowModel", "beginBest", "()V"⟩ ⟨"RoseThrowModel", "beginBest", "()V"⟩) ∈ lw_all := lw_g (lw_at lw_ms 105 rfl) rfl
theorem qs106 : (Cond.selects "RoseThrowModel" ⟨"RoseThrowModel", "aimAt", "(I)V"⟩ ⟨"RoseThrowModel", "aimAt", "(I)V"⟩) ∈ lw_all := lw_g (lw_at lw_ms 106 rfl) rfl
theorem qs107 : (Cond.selects "RoseThrowModel" ⟨"RoseThrowModel", "weigh", "(IIJJ)V"⟩ ⟨"RoseThrowModel", "weigh", "(IIJJ)V"⟩) ∈ lw_all := lw_g (lw_at lw_ms 107 rfl) rfl
theorem qs108 : (Cond.selects "RoseThrowModel" ⟨"RoseThrowModel", "tellThrow", "(II)J"⟩ ⟨"RoseThrowModel", "tellThrow", "(II)J"⟩) ∈ lw_all := lw_g (lw_at lw_ms 108 rfl) rfl
theorem qs109 : (Cond.selects "RoseThrowModel" ⟨"RoseThrowModel", "stepAll", "(I)V"⟩ ⟨"RoseThrowModel", "stepAll", "(I)V"⟩) ∈ lw_all := lw_g (lw_at lw_ms 109 rfl) rfl
theorem qs110 : (Cond.selects "RoseThrowModel" ⟨"RoseThrowModel", "weightNear", "(I)I"⟩ ⟨"RoseThrowModel", "weightNear", "(I)I"⟩) ∈ lw_all := lw_g (lw_at lw_ms 110 rfl) rfl
theorem qs111 : (Cond.selects "RoseThrowModel" ⟨"RoseThrowModel", "goNow", "(II)I"⟩ ⟨"RoseThrowModel", "goNow", "(II)I"⟩) ∈ lw_all := lw_g (lw_at lw_ms 111 rfl) rfl
theorem qs112 : (Cond.selects "RoseThrowModel" ⟨"RoseThrowModel", "remember", "(I)V"⟩ ⟨"RoseThrowModel", "remember", "(I)V"⟩) ∈ lw_all := lw_g (lw_at lw_ms 112 rfl) rfl
theorem qs113 : (Cond.selects "RoseThrowModel" ⟨"RoseThrowModel", "cannotBelieve", "(II)I"⟩ ⟨"RoseThrowModel", "cannotBelieve", "(II)I"⟩) ∈ lw_all := lw_g (lw_at lw_ms 113 rfl) rfl
theorem qs114 : (Cond.selects "RoseThrowModel" ⟨"RoseThrowModel", "rushNow", "()I"⟩ ⟨"RoseThrowModel", "rushNow", "()I"⟩) ∈ lw_all := lw_g (lw_at lw_ms 114 rfl) rfl
theorem qs115 : (Cond.selects "RoseThrowModel" ⟨"RoseThrowModel", "steps", "(II)Z"⟩ ⟨"RoseThrowModel", "steps", "(II)Z"⟩) ∈ lw_all := lw_g (lw_at lw_ms 115 rfl) rfl
theorem qs116 : (Cond.selects "RoseThrowModel" ⟨"RoseThrowModel", "readOrder", "()V"⟩ ⟨"RoseThrowModel", "readOrder", "()V"⟩) ∈ lw_all := lw_g (lw_at lw_ms 116 rfl) rfl
theorem qs117 : (Cond.selects "RoseThrowModel" ⟨"RoseThrowModel", "readSum", "(I)V"⟩ ⟨"RoseThrowModel", "readSum", "(I)V"⟩) ∈ lw_all := lw_g (lw_at lw_ms 117 rfl) rfl
theorem qs118 : (Cond.selects "RoseThrowModel" ⟨"RoseThrowModel", "run", "(I)I"⟩ ⟨"RoseThrowModel", "run", "(I)I"⟩) ∈ lw_all := lw_g (lw_at lw_ms 118 rfl) rfl
theorem qs119 : (Cond.selects "RoseThrowModel" ⟨"RoseThrowModel", "sumOf", "(I)J"⟩ ⟨"RoseThrowModel", "sumOf", "(I)J"⟩) ∈ lw_all := lw_g (lw_at lw_ms 119 rfl) rfl
theorem qs120 : (Cond.selects "RoseThrowModel" ⟨"RoseThrowModel", "giveBack", "(I)V"⟩ ⟨"RoseThrowModel", "giveBack", "(I)V"⟩) ∈ lw_all := lw_g (lw_at lw_ms 120 rfl) rfl
theorem qs121 : (Cond.selects "RoseThrowModel" ⟨"RoseThrowModel", "drawCell", "()I"⟩ ⟨"RoseThrowModel", "drawCell", "()I"⟩) ∈ lw_all := lw_g (lw_at lw_ms 121 rfl) rfl
theorem qs122 : (Cond.selects "RoseThrowModel" ⟨"RoseThrowModel", "draw", "(I)I"⟩ ⟨"RoseThrowModel", "draw", "(I)I"⟩) ∈ lw_all := lw_g (lw_at lw_ms 122 rfl) rfl
theorem qs123 : (Cond.selects "RoseThrowModel" ⟨"RoseThrowModel", "drawHolder", "()I"⟩ ⟨"RoseThrowModel", "drawHolder", "()I"⟩) ∈ lw_all := lw_g (lw_at lw_ms 123 rfl) rfl
theorem qs124 : (Cond.selects "RoseThrowModel" ⟨"RoseThrowModel", "wedNow", "(II)I"⟩ ⟨"RoseThrowModel", "wedNow", "(II)I"⟩) ∈ lw_all := lw_g (lw_at lw_ms 124 rfl) rfl
