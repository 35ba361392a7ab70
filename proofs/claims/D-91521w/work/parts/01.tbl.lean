-- ===== PART A: goes FIRST, ahead of the names: the tables' words, and 'selects' of the private methods out of them =====
/-- a private method of a class that the tables say can be made, by its rows of tables_1 -/
def lw_okq (q : MethodName × Nat) : Prop := (q.1.cls ≠ "java/lang/invoke/MethodHandle" ∧ q.1.cls ≠ "java/lang/invoke/VarHandle") ∧ Cond.instantiable q.1.cls q.2 ∈ tables_1 ∧ Cond.privateMethod q.1 ∈ tables_1 ∧ Cond.instanceMethod q.1 ∈ tables_1
set_option maxRecDepth 100000
theorem lw_t1 {w : Cond} (h : w ∈ tables_1_1) : w ∈ tables_1 := List.mem_append_left _ h
theorem lw_t2 {w : Cond} (h : w ∈ tables_1_2) : w ∈ tables_1 := List.mem_append_right _ (List.mem_append_left _ h)
theorem lw_t3 {w : Cond} (h : w ∈ tables_1_3) : w ∈ tables_1 := List.mem_append_right _ (List.mem_append_right _ (List.mem_append_left _ h))
theorem lw_t4 {w : Cond} (h : w ∈ tables_1_4) : w ∈ tables_1 := List.mem_append_right _ (List.mem_append_right _ (List.mem_append_right _ (List.mem_append_left _ h)))
theorem lw_t5 {w : Cond} (h : w ∈ tables_1_5) : w ∈ tables_1 := List.mem_append_right _ (List.mem_append_right _ (List.mem_append_right _ (List.mem_append_right _ (List.mem_append_left _ h))))
theorem lw_t6 {w : Cond} (h : w ∈ tables_1_6) : w ∈ tables_1 := List.mem_append_right _ (List.mem_append_right _ (List.mem_append_right _ (List.mem_append_right _ (List.mem_append_right _ (List.mem_append_left _ h)))))
theorem lw_t7 {w : Cond} (h : w ∈ tables_1_7) : w ∈ tables_1 := List.mem_append_right _ (List.mem_append_right _ (List.mem_append_right _ (List.mem_append_right _ (List.mem_append_right _ (List.mem_append_right _ (List.mem_append_left _ h))))))
theorem lw_t8 {w : Cond} (h : w ∈ tables_1_8) : w ∈ tables_1 := List.mem_append_right _ (List.mem_append_right _ (List.mem_append_right _ (List.mem_append_right _ (List.mem_append_right _ (List.mem_append_right _ (List.mem_append_right _ (List.mem_append_left _ h)))))))
theorem lw_t9 {w : Cond} (h : w ∈ tables_1_9) : w ∈ tables_1 := List.mem_append_right _ (List.mem_append_right _ (List.mem_append_right _ (List.mem_append_right _ (List.mem_append_right _ (List.mem_append_right _ (List.mem_append_right _ (List.mem_append_right _ (List.mem_append_left _ h))))))))
theorem lw_t10 {w : Cond} (h : w ∈ tables_1_10) : w ∈ tables_1 := List.mem_append_right _ (List.mem_append_right _ (List.mem_append_right _ (List.mem_append_right _ (List.mem_append_right _ (List.mem_append_right _ (List.mem_append_right _ (List.mem_append_right _ (List.mem_append_right _ h))))))))
theorem lw_p0 : lw_okq (⟨"java/lang/Throwable", "fillInStackTrace", "(I)Ljava/lang/Throwable;"⟩, 6) := ⟨⟨by decide +kernel, by decide +kernel⟩, lw_t1 (List.mem_of_getElem? (i := 85) rfl), lw_t1 (List.mem_of_getElem? (i := 83) rfl), lw_t1 (List.mem_of_getElem? (i := 84) rfl)⟩
theorem lw_p1 : lw_okq (⟨"BelowWorth", "isFirm", "(I)Z"⟩, 56) := ⟨⟨by decide +kernel, by decide +kernel⟩, lw_t1 (List.mem_of_getElem? (i := 33) rfl), lw_t3 (List.mem_of_getElem? (i := 41) rfl), lw_t3 (List.mem_of_getElem? (i := 42) rfl)⟩
theorem lw_p2 : lw_okq (⟨"BelowWorth", "costIn", "(IIII)I"⟩, 56) := ⟨⟨by decide +kernel, by decide +kernel⟩, lw_t1 (List.mem_of_getElem? (i := 33) rfl), lw_t3 (List.mem_of_getElem? (i := 82) rfl), lw_t3 (List.mem_of_getElem? (i := 83) rfl)⟩
theorem lw_p3 : lw_okq (⟨"BelowWorth", "isSale", "(I)Z"⟩, 56) := ⟨⟨by decide +kernel, by decide +kernel⟩, lw_t1 (List.mem_of_getElem? (i := 33) rfl), lw_t3 (List.mem_of_getElem? (i := 157) rfl), lw_t3 (List.mem_of_getElem? (i := 158) rfl)⟩
theorem lw_p4 : lw_okq (⟨"BelowWorth", "four", "(I)V"⟩, 56) := ⟨⟨by decide +kernel, by decide +kernel⟩, lw_t1 (List.mem_of_getElem? (i := 33) rfl), lw_t3 (List.mem_of_getElem? (i := 198) rfl), lw_t3 (List.mem_of_getElem? (i := 199) rfl)⟩
theorem lw_p5 : lw_okq (⟨"BelowWorth$Text", "see", "()I"⟩, 7) := ⟨⟨by decide +kernel, by decide +kernel⟩, lw_t3 (List.mem_of_getElem? (i := 210) rfl), lw_t4 (List.mem_of_getElem? (i := 4) rfl), lw_t4 (List.mem_of_getElem? (i := 5) rfl)⟩
theorem lw_p6 : lw_okq (⟨"BelowWorth$Text", "clause", "(I)V"⟩, 7) := ⟨⟨by decide +kernel, by decide +kernel⟩, lw_t3 (List.mem_of_getElem? (i := 210) rfl), lw_t4 (List.mem_of_getElem? (i := 8) rfl), lw_t4 (List.mem_of_getElem? (i := 9) rfl)⟩
theorem lw_p7 : lw_okq (⟨"BelowWorth$Text", "plainHere", "()I"⟩, 7) := ⟨⟨by decide +kernel, by decide +kernel⟩, lw_t3 (List.mem_of_getElem? (i := 210) rfl), lw_t4 (List.mem_of_getElem? (i := 12) rfl), lw_t4 (List.mem_of_getElem? (i := 13) rfl)⟩
theorem lw_p8 : lw_okq (⟨"BelowWorth$Text", "isWord", "(Ljava/lang/String;)Z"⟩, 7) := ⟨⟨by decide +kernel, by decide +kernel⟩, lw_t3 (List.mem_of_getElem? (i := 210) rfl), lw_t4 (List.mem_of_getElem? (i := 16) rfl), lw_t4 (List.mem_of_getElem? (i := 17) rfl)⟩
theorem lw_p9 : lw_okq (⟨"BelowWorth$Text", "demand", "(ZII)V"⟩, 7) := ⟨⟨by decide +kernel, by decide +kernel⟩, lw_t3 (List.mem_of_getElem? (i := 210) rfl), lw_t4 (List.mem_of_getElem? (i := 73) rfl), lw_t4 (List.mem_of_getElem? (i := 74) rfl)⟩
theorem lw_p10 : lw_okq (⟨"BelowWorth$Text", "tested", "()V"⟩, 7) := ⟨⟨by decide +kernel, by decide +kernel⟩, lw_t3 (List.mem_of_getElem? (i := 210) rfl), lw_t4 (List.mem_of_getElem? (i := 77) rfl), lw_t4 (List.mem_of_getElem? (i := 78) rfl)⟩
theorem lw_p11 : lw_okq (⟨"BelowWorth$Text", "takesWord", "(Ljava/lang/String;)Z"⟩, 7) := ⟨⟨by decide +kernel, by decide +kernel⟩, lw_t3 (List.mem_of_getElem? (i := 210) rfl), lw_t4 (List.mem_of_getElem? (i := 81) rfl), lw_t4 (List.mem_of_getElem? (i := 82) rfl)⟩
theorem lw_p12 : lw_okq (⟨"BelowWorth$Text", "number", "(I)I"⟩, 7) := ⟨⟨by decide +kernel, by decide +kernel⟩, lw_t3 (List.mem_of_getElem? (i := 210) rfl), lw_t4 (List.mem_of_getElem? (i := 85) rfl), lw_t4 (List.mem_of_getElem? (i := 86) rfl)⟩
theorem lw_p13 : lw_okq (⟨"BelowWorth$Text", "isDigit", "(I)Z"⟩, 7) := ⟨⟨by decide +kernel, by decide +kernel⟩, lw_t3 (List.mem_of_getElem? (i := 210) rfl), lw_t4 (List.mem_of_getElem? (i := 89) rfl), lw_t4 (List.mem_of_getElem? (i := 90) rfl)⟩
theorem lw_p14 : lw_okq (⟨"BelowWorth$Text", "test", "()LBelowWorth$Test;"⟩, 7) := ⟨⟨by decide +kernel, by decide +kernel⟩, lw_t3 (List.mem_of_getElem? (i := 210) rfl), lw_t4 (List.mem_of_getElem? (i := 94) rfl), lw_t4 (List.mem_of_getElem? (i := 95) rfl)⟩
theorem lw_p15 : lw_okq (⟨"BelowWorth$Text", "part", "()LBelowWorth$Test;"⟩, 7) := ⟨⟨by decide +kernel, by decide +kernel⟩, lw_t3 (List.mem_of_getElem? (i := 210) rfl), lw_t4 (List.mem_of_getElem? (i := 98) rfl), lw_t4 (List.mem_of_getElem? (i := 99) rfl)⟩
def lw_privs_1 : List (MethodName × Nat) := [(⟨"java/lang/Throwable", "fillInStackTrace", "(I)Ljava/lang/Throwable;"⟩, 6), (⟨"BelowWorth", "isFirm", "(I)Z"⟩, 56), (⟨"BelowWorth", "costIn", "(IIII)I"⟩, 56), (⟨"BelowWorth", "isSale", "(I)Z"⟩, 56), (⟨"BelowWorth", "four", "(I)V"⟩, 56), (⟨"BelowWorth$Text", "see", "()I"⟩, 7), (⟨"BelowWorth$Text", "clause", "(I)V"⟩, 7), (⟨"BelowWorth$Text", "plainHere", "()I"⟩, 7), (⟨"BelowWorth$Text", "isWord", "(Ljava/lang/String;)Z"⟩, 7), (⟨"BelowWorth$Text", "demand", "(ZII)V"⟩, 7), (⟨"BelowWorth$Text", "tested", "()V"⟩, 7), (⟨"BelowWorth$Text", "takesWord", "(Ljava/lang/String;)Z"⟩, 7), (⟨"BelowWorth$Text", "number", "(I)I"⟩, 7), (⟨"BelowWorth$Text", "isDigit", "(I)Z"⟩, 7), (⟨"BelowWorth$Text", "test", "()LBelowWorth$Test;"⟩, 7), (⟨"BelowWorth$Text", "part", "()LBelowWorth$Test;"⟩, 7)]
theorem lw_r1 : ∀ q ∈ lw_privs_1, lw_okq q := List.forall_mem_cons.mpr ⟨lw_p0, List.forall_mem_cons.mpr ⟨lw_p1, List.forall_mem_cons.mpr ⟨lw_p2, List.forall_mem_cons.mpr ⟨lw_p3, List.forall_mem_cons.mpr ⟨lw_p4, List.forall_mem_cons.mpr ⟨lw_p5, List.forall_mem_cons.mpr ⟨lw_p6, List.forall_mem_cons.mpr ⟨lw_p7, List.forall_mem_cons.mpr ⟨lw_p8, List.forall_mem_cons.mpr ⟨lw_p9, List.forall_mem_cons.mpr ⟨lw_p10, List.forall_mem_cons.mpr ⟨lw_p11, List.forall_mem_cons.mpr ⟨lw_p12, List.forall_mem_cons.mpr ⟨lw_p13, List.forall_mem_cons.mpr ⟨lw_p14, List.forall_mem_cons.mpr ⟨lw_p15, fun _ h => absurd h List.not_mem_nil⟩⟩⟩⟩⟩⟩⟩⟩⟩⟩⟩⟩⟩⟩⟩⟩
theorem lw_p16 : lw_okq (⟨"BelowWorth$Text", "fact", "()LBelowWorth$Test;"⟩, 7) := ⟨⟨by decide +kernel, by decide +kernel⟩, lw_t3 (List.mem_of_getElem? (i := 210) rfl), lw_t4 (List.mem_of_getElem? (i := 102) rfl), lw_t4 (List.mem_of_getElem? (i := 103) rfl)⟩
theorem lw_p17 : lw_okq (⟨"BelowWorth$Text", "opens", "(I)V"⟩, 7) := ⟨⟨by decide +kernel, by decide +kernel⟩, lw_t3 (List.mem_of_getElem? (i := 210) rfl), lw_t4 (List.mem_of_getElem? (i := 107) rfl), lw_t4 (List.mem_of_getElem? (i := 108) rfl)⟩
theorem lw_p18 : lw_okq (⟨"BelowWorth$Text", "wants", "(I)V"⟩, 7) := ⟨⟨by decide +kernel, by decide +kernel⟩, lw_t3 (List.mem_of_getElem? (i := 210) rfl), lw_t4 (List.mem_of_getElem? (i := 124) rfl), lw_t4 (List.mem_of_getElem? (i := 125) rfl)⟩
theorem lw_p19 : lw_okq (⟨"BelowWorth$Text", "takes", "(I)Z"⟩, 7) := ⟨⟨by decide +kernel, by decide +kernel⟩, lw_t3 (List.mem_of_getElem? (i := 210) rfl), lw_t4 (List.mem_of_getElem? (i := 128) rfl), lw_t4 (List.mem_of_getElem? (i := 129) rfl)⟩
theorem lw_p20 : lw_okq (⟨"BelowWorth$Text", "sum", "()LBelowWorth$Value;"⟩, 7) := ⟨⟨by decide +kernel, by decide +kernel⟩, lw_t3 (List.mem_of_getElem? (i := 210) rfl), lw_t4 (List.mem_of_getElem? (i := 132) rfl), lw_t4 (List.mem_of_getElem? (i := 133) rfl)⟩
theorem lw_p21 : lw_okq (⟨"BelowWorth$Text", "term", "()LBelowWorth$Value;"⟩, 7) := ⟨⟨by decide +kernel, by decide +kernel⟩, lw_t3 (List.mem_of_getElem? (i := 210) rfl), lw_t4 (List.mem_of_getElem? (i := 136) rfl), lw_t4 (List.mem_of_getElem? (i := 137) rfl)⟩
theorem lw_p22 : lw_okq (⟨"BelowWorth$Text", "value", "()LBelowWorth$Value;"⟩, 7) := ⟨⟨by decide +kernel, by decide +kernel⟩, lw_t3 (List.mem_of_getElem? (i := 210) rfl), lw_t4 (List.mem_of_getElem? (i := 140) rfl), lw_t4 (List.mem_of_getElem? (i := 141) rfl)⟩
theorem lw_p23 : lw_okq (⟨"BelowWorth$Text", "makes", "(I)V"⟩, 7) := ⟨⟨by decide +kernel, by decide +kernel⟩, lw_t3 (List.mem_of_getElem? (i := 210) rfl), lw_t4 (List.mem_of_getElem? (i := 145) rfl), lw_t4 (List.mem_of_getElem? (i := 146) rfl)⟩
theorem lw_p24 : lw_okq (⟨"BelowWorth$Text", "sign", "()I"⟩, 7) := ⟨⟨by decide +kernel, by decide +kernel⟩, lw_t3 (List.mem_of_getElem? (i := 210) rfl), lw_t4 (List.mem_of_getElem? (i := 188) rfl), lw_t4 (List.mem_of_getElem? (i := 189) rfl)⟩
theorem lw_p25 : lw_okq (⟨"BelowWorth$Text", "onceTold", "(II)V"⟩, 7) := ⟨⟨by decide +kernel, by decide +kernel⟩, lw_t3 (List.mem_of_getElem? (i := 210) rfl), lw_t4 (List.mem_of_getElem? (i := 230) rfl), lw_t4 (List.mem_of_getElem? (i := 231) rfl)⟩
theorem lw_p26 : lw_okq (⟨"BelowWorth", "actOn", "(I)LBelowWorth$Act;"⟩, 56) := ⟨⟨by decide +kernel, by decide +kernel⟩, lw_t1 (List.mem_of_getElem? (i := 33) rfl), lw_t5 (List.mem_of_getElem? (i := 0) rfl), lw_t5 (List.mem_of_getElem? (i := 1) rfl)⟩
theorem lw_p27 : lw_okq (⟨"BelowWorth", "inForce", "(I)I"⟩, 56) := ⟨⟨by decide +kernel, by decide +kernel⟩, lw_t1 (List.mem_of_getElem? (i := 33) rfl), lw_t5 (List.mem_of_getElem? (i := 4) rfl), lw_t5 (List.mem_of_getElem? (i := 5) rfl)⟩
theorem lw_p28 : lw_okq (⟨"BelowWorth$Look", "netOf", "(I)I"⟩, 12) := ⟨⟨by decide +kernel, by decide +kernel⟩, lw_t1 (List.mem_of_getElem? (i := 183) rfl), lw_t5 (List.mem_of_getElem? (i := 22) rfl), lw_t5 (List.mem_of_getElem? (i := 23) rfl)⟩
theorem lw_p29 : lw_okq (⟨"BelowWorth$Case", "ofSale", "(I)J"⟩, 7) := ⟨⟨by decide +kernel, by decide +kernel⟩, lw_t1 (List.mem_of_getElem? (i := 192) rfl), lw_t5 (List.mem_of_getElem? (i := 59) rfl), lw_t5 (List.mem_of_getElem? (i := 60) rfl)⟩
theorem lw_p30 : lw_okq (⟨"BelowWorth$Case", "ofFirm", "(I)J"⟩, 7) := ⟨⟨by decide +kernel, by decide +kernel⟩, lw_t1 (List.mem_of_getElem? (i := 192) rfl), lw_t5 (List.mem_of_getElem? (i := 64) rfl), lw_t5 (List.mem_of_getElem? (i := 65) rfl)⟩
theorem lw_p31 : lw_okq (⟨"BelowWorth", "lacksOf", "(II)I"⟩, 56) := ⟨⟨by decide +kernel, by decide +kernel⟩, lw_t1 (List.mem_of_getElem? (i := 33) rfl), lw_t5 (List.mem_of_getElem? (i := 68) rfl), lw_t5 (List.mem_of_getElem? (i := 69) rfl)⟩
def lw_privs_2 : List (MethodName × Nat) := [(⟨"BelowWorth$Text", "fact", "()LBelowWorth$Test;"⟩, 7), (⟨"BelowWorth$Text", "opens", "(I)V"⟩, 7), (⟨"BelowWorth$Text", "wants", "(I)V"⟩, 7), (⟨"BelowWorth$Text", "takes", "(I)Z"⟩, 7), (⟨"BelowWorth$Text", "sum", "()LBelowWorth$Value;"⟩, 7), (⟨"BelowWorth$Text", "term", "()LBelowWorth$Value;"⟩, 7), (⟨"BelowWorth$Text", "value", "()LBelowWorth$Value;"⟩, 7), (⟨"BelowWorth$Text", "makes", "(I)V"⟩, 7), (⟨"BelowWorth$Text", "sign", "()I"⟩, 7), (⟨"BelowWorth$Text", "onceTold", "(II)V"⟩, 7), (⟨"BelowWorth", "actOn", "(I)LBelowWorth$Act;"⟩, 56), (⟨"BelowWorth", "inForce", "(I)I"⟩, 56), (⟨"BelowWorth$Look", "netOf", "(I)I"⟩, 12), (⟨"BelowWorth$Case", "ofSale", "(I)J"⟩, 7), (⟨"BelowWorth$Case", "ofFirm", "(I)J"⟩, 7), (⟨"BelowWorth", "lacksOf", "(II)I"⟩, 56)]
theorem lw_r2 : ∀ q ∈ lw_privs_2, lw_okq q := List.forall_mem_cons.mpr ⟨lw_p16, List.forall_mem_cons.mpr ⟨lw_p17, List.forall_mem_cons.mpr ⟨lw_p18, List.forall_mem_cons.mpr ⟨lw_p19, List.forall_mem_cons.mpr ⟨lw_p20, List.forall_mem_cons.mpr ⟨lw_p21, List.forall_mem_cons.mpr ⟨lw_p22, List.forall_mem_cons.mpr ⟨lw_p23, List.forall_mem_cons.mpr ⟨lw_p24, List.forall_mem_cons.mpr ⟨lw_p25, List.forall_mem_cons.mpr ⟨lw_p26, List.forall_mem_cons.mpr ⟨lw_p27, List.forall_mem_cons.mpr ⟨lw_p28, List.forall_mem_cons.mpr ⟨lw_p29, List.forall_mem_cons.mpr ⟨lw_p30, List.forall_mem_cons.mpr ⟨lw_p31, fun _ h => absurd h List.not_mem_nil⟩⟩⟩⟩⟩⟩⟩⟩⟩⟩⟩⟩⟩⟩⟩⟩
theorem lw_p32 : lw_okq (⟨"BelowWorth", "salesHere", "(II)I"⟩, 56) := ⟨⟨by decide +kernel, by decide +kernel⟩, lw_t1 (List.mem_of_getElem? (i := 33) rfl), lw_t5 (List.mem_of_getElem? (i := 77) rfl), lw_t5 (List.mem_of_getElem? (i := 78) rfl)⟩
theorem lw_p33 : lw_okq (⟨"BelowWorth$Look", "finds", "(II)Z"⟩, 12) := ⟨⟨by decide +kernel, by decide +kernel⟩, lw_t1 (List.mem_of_getElem? (i := 183) rfl), lw_t5 (List.mem_of_getElem? (i := 111) rfl), lw_t5 (List.mem_of_getElem? (i := 112) rfl)⟩
theorem lw_p34 : lw_okq (⟨"BelowWorth", "isSpan", "(IIII)Z"⟩, 56) := ⟨⟨by decide +kernel, by decide +kernel⟩, lw_t1 (List.mem_of_getElem? (i := 33) rfl), lw_t5 (List.mem_of_getElem? (i := 126) rfl), lw_t5 (List.mem_of_getElem? (i := 127) rfl)⟩
theorem lw_p35 : lw_okq (⟨"BelowWorth", "margins", "(IIII)V"⟩, 56) := ⟨⟨by decide +kernel, by decide +kernel⟩, lw_t1 (List.mem_of_getElem? (i := 33) rfl), lw_t5 (List.mem_of_getElem? (i := 131) rfl), lw_t5 (List.mem_of_getElem? (i := 132) rfl)⟩
theorem lw_p36 : lw_okq (⟨"BelowWorth", "adds", "(JJJ)V"⟩, 56) := ⟨⟨by decide +kernel, by decide +kernel⟩, lw_t1 (List.mem_of_getElem? (i := 33) rfl), lw_t5 (List.mem_of_getElem? (i := 140) rfl), lw_t5 (List.mem_of_getElem? (i := 141) rfl)⟩
theorem lw_p37 : lw_okq (⟨"BelowWorth$Matcher", "gathers", "(III)V"⟩, 8) := ⟨⟨by decide +kernel, by decide +kernel⟩, lw_t2 (List.mem_of_getElem? (i := 26) rfl), lw_t5 (List.mem_of_getElem? (i := 166) rfl), lw_t5 (List.mem_of_getElem? (i := 167) rfl)⟩
theorem lw_p38 : lw_okq (⟨"BelowWorth$Matcher", "may", "(III)Z"⟩, 8) := ⟨⟨by decide +kernel, by decide +kernel⟩, lw_t2 (List.mem_of_getElem? (i := 26) rfl), lw_t5 (List.mem_of_getElem? (i := 173) rfl), lw_t5 (List.mem_of_getElem? (i := 174) rfl)⟩
theorem lw_p39 : lw_okq (⟨"BelowWorth$Matcher", "grades", "(II)I"⟩, 8) := ⟨⟨by decide +kernel, by decide +kernel⟩, lw_t2 (List.mem_of_getElem? (i := 26) rfl), lw_t5 (List.mem_of_getElem? (i := 177) rfl), lw_t5 (List.mem_of_getElem? (i := 178) rfl)⟩
theorem lw_p40 : lw_okq (⟨"BelowWorth$Matcher", "months", "(II)I"⟩, 8) := ⟨⟨by decide +kernel, by decide +kernel⟩, lw_t2 (List.mem_of_getElem? (i := 26) rfl), lw_t5 (List.mem_of_getElem? (i := 181) rfl), lw_t5 (List.mem_of_getElem? (i := 182) rfl)⟩
theorem lw_p41 : lw_okq (⟨"BelowWorth$Matcher", "worth", "(II)J"⟩, 8) := ⟨⟨by decide +kernel, by decide +kernel⟩, lw_t2 (List.mem_of_getElem? (i := 26) rfl), lw_t5 (List.mem_of_getElem? (i := 188) rfl), lw_t5 (List.mem_of_getElem? (i := 189) rfl)⟩
theorem lw_p42 : lw_okq (⟨"BelowWorth$Matcher", "less", "(II)J"⟩, 8) := ⟨⟨by decide +kernel, by decide +kernel⟩, lw_t2 (List.mem_of_getElem? (i := 26) rfl), lw_t5 (List.mem_of_getElem? (i := 194) rfl), lw_t5 (List.mem_of_getElem? (i := 195) rfl)⟩
theorem lw_p43 : lw_okq (⟨"BelowWorth", "leaves", "(IIIII)Z"⟩, 56) := ⟨⟨by decide +kernel, by decide +kernel⟩, lw_t1 (List.mem_of_getElem? (i := 33) rfl), lw_t6 (List.mem_of_getElem? (i := 8) rfl), lw_t6 (List.mem_of_getElem? (i := 9) rfl)⟩
theorem lw_p44 : lw_okq (⟨"BelowWorth", "agrees", "(II)Z"⟩, 56) := ⟨⟨by decide +kernel, by decide +kernel⟩, lw_t1 (List.mem_of_getElem? (i := 33) rfl), lw_t6 (List.mem_of_getElem? (i := 12) rfl), lw_t6 (List.mem_of_getElem? (i := 13) rfl)⟩
theorem lw_p45 : lw_okq (⟨"BelowWorth", "spreads", "(I[J)[J"⟩, 56) := ⟨⟨by decide +kernel, by decide +kernel⟩, lw_t1 (List.mem_of_getElem? (i := 33) rfl), lw_t6 (List.mem_of_getElem? (i := 36) rfl), lw_t6 (List.mem_of_getElem? (i := 37) rfl)⟩
theorem lw_p46 : lw_okq (⟨"BelowWorth", "goes", "(IIIJ)V"⟩, 56) := ⟨⟨by decide +kernel, by decide +kernel⟩, lw_t1 (List.mem_of_getElem? (i := 33) rfl), lw_t6 (List.mem_of_getElem? (i := 45) rfl), lw_t6 (List.mem_of_getElem? (i := 46) rfl)⟩
theorem lw_p47 : lw_okq (⟨"BelowWorth", "breaks", "(II)Z"⟩, 56) := ⟨⟨by decide +kernel, by decide +kernel⟩, lw_t1 (List.mem_of_getElem? (i := 33) rfl), lw_t6 (List.mem_of_getElem? (i := 64) rfl), lw_t6 (List.mem_of_getElem? (i := 65) rfl)⟩
def lw_privs_3 : List (MethodName × Nat) := [(⟨"BelowWorth", "salesHere", "(II)I"⟩, 56), (⟨"BelowWorth$Look", "finds", "(II)Z"⟩, 12), (⟨"BelowWorth", "isSpan", "(IIII)Z"⟩, 56), (⟨"BelowWorth", "margins", "(IIII)V"⟩, 56), (⟨"BelowWorth", "adds", "(JJJ)V"⟩, 56), (⟨"BelowWorth$Matcher", "gathers", "(III)V"⟩, 8), (⟨"BelowWorth$Matcher", "may", "(III)Z"⟩, 8), (⟨"BelowWorth$Matcher", "grades", "(II)I"⟩, 8), (⟨"BelowWorth$Matcher", "months", "(II)I"⟩, 8), (⟨"BelowWorth$Matcher", "worth", "(II)J"⟩, 8), (⟨"BelowWorth$Matcher", "less", "(II)J"⟩, 8), (⟨"BelowWorth", "leaves", "(IIIII)Z"⟩, 56), (⟨"BelowWorth", "agrees", "(II)Z"⟩, 56), (⟨"BelowWorth", "spreads", "(I[J)[J"⟩, 56), (⟨"BelowWorth", "goes", "(IIIJ)V"⟩, 56), (⟨"BelowWorth", "breaks", "(II)Z"⟩, 56)]
theorem lw_r3 : ∀ q ∈ lw_privs_3, lw_okq q := List.forall_mem_cons.mpr ⟨lw_p32, List.forall_mem_cons.mpr ⟨lw_p33, List.forall_mem_cons.mpr ⟨lw_p34, List.forall_mem_cons.mpr ⟨lw_p35, List.forall_mem_cons.mpr ⟨lw_p36, List.forall_mem_cons.mpr ⟨lw_p37, List.forall_mem_cons.mpr ⟨lw_p38, List.forall_mem_cons.mpr ⟨lw_p39, List.forall_mem_cons.mpr ⟨lw_p40, List.forall_mem_cons.mpr ⟨lw_p41, List.forall_mem_cons.mpr ⟨lw_p42, List.forall_mem_cons.mpr ⟨lw_p43, List.forall_mem_cons.mpr ⟨lw_p44, List.forall_mem_cons.mpr ⟨lw_p45, List.forall_mem_cons.mpr ⟨lw_p46, List.forall_mem_cons.mpr ⟨lw_p47, fun _ h => absurd h List.not_mem_nil⟩⟩⟩⟩⟩⟩⟩⟩⟩⟩⟩⟩⟩⟩⟩⟩
theorem lw_p48 : lw_okq (⟨"BelowWorth", "isAgainst", "(II)Z"⟩, 56) := ⟨⟨by decide +kernel, by decide +kernel⟩, lw_t1 (List.mem_of_getElem? (i := 33) rfl), lw_t6 (List.mem_of_getElem? (i := 72) rfl), lw_t6 (List.mem_of_getElem? (i := 73) rfl)⟩
theorem lw_p49 : lw_okq (⟨"BelowWorth", "marginNow", "(Z)I"⟩, 56) := ⟨⟨by decide +kernel, by decide +kernel⟩, lw_t1 (List.mem_of_getElem? (i := 33) rfl), lw_t6 (List.mem_of_getElem? (i := 85) rfl), lw_t6 (List.mem_of_getElem? (i := 86) rfl)⟩
theorem lw_p50 : lw_okq (⟨"BelowWorth", "rateOf", "(III)I"⟩, 56) := ⟨⟨by decide +kernel, by decide +kernel⟩, lw_t1 (List.mem_of_getElem? (i := 33) rfl), lw_t6 (List.mem_of_getElem? (i := 122) rfl), lw_t6 (List.mem_of_getElem? (i := 123) rfl)⟩
theorem lw_p51 : lw_okq (⟨"BelowWorth", "ofFirm", "(III)LBelowWorth$Rate;"⟩, 56) := ⟨⟨by decide +kernel, by decide +kernel⟩, lw_t1 (List.mem_of_getElem? (i := 33) rfl), lw_t6 (List.mem_of_getElem? (i := 126) rfl), lw_t6 (List.mem_of_getElem? (i := 127) rfl)⟩
theorem lw_p52 : lw_okq (⟨"BelowWorth", "entryOf", "(I)LBelowWorth$Entry;"⟩, 56) := ⟨⟨by decide +kernel, by decide +kernel⟩, lw_t1 (List.mem_of_getElem? (i := 33) rfl), lw_t6 (List.mem_of_getElem? (i := 174) rfl), lw_t6 (List.mem_of_getElem? (i := 175) rfl)⟩
theorem lw_p53 : lw_okq (⟨"BelowWorthModel", "isFirm", "(I)Z"⟩, 107) := ⟨⟨by decide +kernel, by decide +kernel⟩, lw_t6 (List.mem_of_getElem? (i := 188) rfl), lw_t8 (List.mem_of_getElem? (i := 57) rfl), lw_t8 (List.mem_of_getElem? (i := 58) rfl)⟩
theorem lw_p54 : lw_okq (⟨"BelowWorthModel", "costOf", "(IIII)I"⟩, 107) := ⟨⟨by decide +kernel, by decide +kernel⟩, lw_t6 (List.mem_of_getElem? (i := 188) rfl), lw_t8 (List.mem_of_getElem? (i := 71) rfl), lw_t8 (List.mem_of_getElem? (i := 72) rfl)⟩
theorem lw_p55 : lw_okq (⟨"BelowWorthModel", "isSale", "(I)Z"⟩, 107) := ⟨⟨by decide +kernel, by decide +kernel⟩, lw_t6 (List.mem_of_getElem? (i := 188) rfl), lw_t8 (List.mem_of_getElem? (i := 84) rfl), lw_t8 (List.mem_of_getElem? (i := 85) rfl)⟩
theorem lw_p56 : lw_okq (⟨"BelowWorthModel", "put", "(I)V"⟩, 107) := ⟨⟨by decide +kernel, by decide +kernel⟩, lw_t6 (List.mem_of_getElem? (i := 188) rfl), lw_t8 (List.mem_of_getElem? (i := 96) rfl), lw_t8 (List.mem_of_getElem? (i := 97) rfl)⟩
theorem lw_p57 : lw_okq (⟨"BelowWorthModel", "clause", "()V"⟩, 107) := ⟨⟨by decide +kernel, by decide +kernel⟩, lw_t6 (List.mem_of_getElem? (i := 188) rfl), lw_t8 (List.mem_of_getElem? (i := 108) rfl), lw_t8 (List.mem_of_getElem? (i := 109) rfl)⟩
theorem lw_p58 : lw_okq (⟨"BelowWorthModel", "begins", "()I"⟩, 107) := ⟨⟨by decide +kernel, by decide +kernel⟩, lw_t6 (List.mem_of_getElem? (i := 188) rfl), lw_t8 (List.mem_of_getElem? (i := 112) rfl), lw_t8 (List.mem_of_getElem? (i := 113) rfl)⟩
theorem lw_p59 : lw_okq (⟨"BelowWorthModel", "blanks", "()V"⟩, 107) := ⟨⟨by decide +kernel, by decide +kernel⟩, lw_t6 (List.mem_of_getElem? (i := 188) rfl), lw_t8 (List.mem_of_getElem? (i := 116) rfl), lw_t8 (List.mem_of_getElem? (i := 117) rfl)⟩
theorem lw_p60 : lw_okq (⟨"BelowWorthModel", "wordEnd", "()I"⟩, 107) := ⟨⟨by decide +kernel, by decide +kernel⟩, lw_t6 (List.mem_of_getElem? (i := 188) rfl), lw_t8 (List.mem_of_getElem? (i := 120) rfl), lw_t8 (List.mem_of_getElem? (i := 121) rfl)⟩
theorem lw_p61 : lw_okq (⟨"BelowWorthModel", "is", "(Ljava/lang/String;I)Z"⟩, 107) := ⟨⟨by decide +kernel, by decide +kernel⟩, lw_t6 (List.mem_of_getElem? (i := 188) rfl), lw_t8 (List.mem_of_getElem? (i := 136) rfl), lw_t8 (List.mem_of_getElem? (i := 137) rfl)⟩
theorem lw_p62 : lw_okq (⟨"BelowWorthModel", "fails", "(II)V"⟩, 107) := ⟨⟨by decide +kernel, by decide +kernel⟩, lw_t6 (List.mem_of_getElem? (i := 188) rfl), lw_t8 (List.mem_of_getElem? (i := 142) rfl), lw_t8 (List.mem_of_getElem? (i := 143) rfl)⟩
theorem lw_p63 : lw_okq (⟨"BelowWorthModel", "sign", "()I"⟩, 107) := ⟨⟨by decide +kernel, by decide +kernel⟩, lw_t6 (List.mem_of_getElem? (i := 188) rfl), lw_t8 (List.mem_of_getElem? (i := 146) rfl), lw_t8 (List.mem_of_getElem? (i := 147) rfl)⟩
def lw_privs_4 : List (MethodName × Nat) := [(⟨"BelowWorth", "isAgainst", "(II)Z"⟩, 56), (⟨"BelowWorth", "marginNow", "(Z)I"⟩, 56), (⟨"BelowWorth", "rateOf", "(III)I"⟩, 56), (⟨"BelowWorth", "ofFirm", "(III)LBelowWorth$Rate;"⟩, 56), (⟨"BelowWorth", "entryOf", "(I)LBelowWorth$Entry;"⟩, 56), (⟨"BelowWorthModel", "isFirm", "(I)Z"⟩, 107), (⟨"BelowWorthModel", "costOf", "(IIII)I"⟩, 107), (⟨"BelowWorthModel", "isSale", "(I)Z"⟩, 107), (⟨"BelowWorthModel", "put", "(I)V"⟩, 107), (⟨"BelowWorthModel", "clause", "()V"⟩, 107), (⟨"BelowWorthModel", "begins", "()I"⟩, 107), (⟨"BelowWorthModel", "blanks", "()V"⟩, 107), (⟨"BelowWorthModel", "wordEnd", "()I"⟩, 107), (⟨"BelowWorthModel", "is", "(Ljava/lang/String;I)Z"⟩, 107), (⟨"BelowWorthModel", "fails", "(II)V"⟩, 107), (⟨"BelowWorthModel", "sign", "()I"⟩, 107)]
theorem lw_r4 : ∀ q ∈ lw_privs_4, lw_okq q := List.forall_mem_cons.mpr ⟨lw_p48, List.forall_mem_cons.mpr ⟨lw_p49, List.forall_mem_cons.mpr ⟨lw_p50, List.forall_mem_cons.mpr ⟨lw_p51, List.forall_mem_cons.mpr ⟨lw_p52, List.forall_mem_cons.mpr ⟨lw_p53, List.forall_mem_cons.mpr ⟨lw_p54, List.forall_mem_cons.mpr ⟨lw_p55, List.forall_mem_cons.mpr ⟨lw_p56, List.forall_mem_cons.mpr ⟨lw_p57, List.forall_mem_cons.mpr ⟨lw_p58, List.forall_mem_cons.mpr ⟨lw_p59, List.forall_mem_cons.mpr ⟨lw_p60, List.forall_mem_cons.mpr ⟨lw_p61, List.forall_mem_cons.mpr ⟨lw_p62, List.forall_mem_cons.mpr ⟨lw_p63, fun _ h => absurd h List.not_mem_nil⟩⟩⟩⟩⟩⟩⟩⟩⟩⟩⟩⟩⟩⟩⟩⟩
theorem lw_p64 : lw_okq (⟨"BelowWorthModel", "number", "(I)I"⟩, 107) := ⟨⟨by decide +kernel, by decide +kernel⟩, lw_t6 (List.mem_of_getElem? (i := 188) rfl), lw_t8 (List.mem_of_getElem? (i := 156) rfl), lw_t8 (List.mem_of_getElem? (i := 157) rfl)⟩
theorem lw_p65 : lw_okq (⟨"BelowWorthModel", "hasTest", "(I)Z"⟩, 107) := ⟨⟨by decide +kernel, by decide +kernel⟩, lw_t6 (List.mem_of_getElem? (i := 188) rfl), lw_t8 (List.mem_of_getElem? (i := 160) rfl), lw_t8 (List.mem_of_getElem? (i := 161) rfl)⟩
theorem lw_p66 : lw_okq (⟨"BelowWorthModel", "wantsFact", "()I"⟩, 107) := ⟨⟨by decide +kernel, by decide +kernel⟩, lw_t6 (List.mem_of_getElem? (i := 188) rfl), lw_t8 (List.mem_of_getElem? (i := 165) rfl), lw_t8 (List.mem_of_getElem? (i := 166) rfl)⟩
theorem lw_p67 : lw_okq (⟨"BelowWorthModel", "deeper", "(I)V"⟩, 107) := ⟨⟨by decide +kernel, by decide +kernel⟩, lw_t6 (List.mem_of_getElem? (i := 188) rfl), lw_t8 (List.mem_of_getElem? (i := 170) rfl), lw_t8 (List.mem_of_getElem? (i := 171) rfl)⟩
theorem lw_p68 : lw_okq (⟨"BelowWorthModel", "opens", "(I)V"⟩, 107) := ⟨⟨by decide +kernel, by decide +kernel⟩, lw_t6 (List.mem_of_getElem? (i := 188) rfl), lw_t8 (List.mem_of_getElem? (i := 174) rfl), lw_t8 (List.mem_of_getElem? (i := 175) rfl)⟩
theorem lw_p69 : lw_okq (⟨"BelowWorthModel", "value", "()Z"⟩, 107) := ⟨⟨by decide +kernel, by decide +kernel⟩, lw_t6 (List.mem_of_getElem? (i := 188) rfl), lw_t8 (List.mem_of_getElem? (i := 178) rfl), lw_t8 (List.mem_of_getElem? (i := 179) rfl)⟩
theorem lw_p70 : lw_okq (⟨"BelowWorthModel", "counts", "(I)V"⟩, 107) := ⟨⟨by decide +kernel, by decide +kernel⟩, lw_t6 (List.mem_of_getElem? (i := 188) rfl), lw_t8 (List.mem_of_getElem? (i := 182) rfl), lw_t8 (List.mem_of_getElem? (i := 183) rfl)⟩
theorem lw_p71 : lw_okq (⟨"BelowWorthModel", "emits", "(II)V"⟩, 107) := ⟨⟨by decide +kernel, by decide +kernel⟩, lw_t6 (List.mem_of_getElem? (i := 188) rfl), lw_t8 (List.mem_of_getElem? (i := 187) rfl), lw_t8 (List.mem_of_getElem? (i := 188) rfl)⟩
theorem lw_p72 : lw_okq (⟨"BelowWorthModel", "hasValue", "(Z)I"⟩, 107) := ⟨⟨by decide +kernel, by decide +kernel⟩, lw_t6 (List.mem_of_getElem? (i := 188) rfl), lw_t8 (List.mem_of_getElem? (i := 207) rfl), lw_t8 (List.mem_of_getElem? (i := 208) rfl)⟩
theorem lw_p73 : lw_okq (⟨"BelowWorthModel", "sums", "(Z)V"⟩, 107) := ⟨⟨by decide +kernel, by decide +kernel⟩, lw_t6 (List.mem_of_getElem? (i := 188) rfl), lw_t8 (List.mem_of_getElem? (i := 211) rfl), lw_t8 (List.mem_of_getElem? (i := 212) rfl)⟩
theorem lw_p74 : lw_okq (⟨"BelowWorthModel", "top", "()I"⟩, 107) := ⟨⟨by decide +kernel, by decide +kernel⟩, lw_t6 (List.mem_of_getElem? (i := 188) rfl), lw_t8 (List.mem_of_getElem? (i := 215) rfl), lw_t8 (List.mem_of_getElem? (i := 216) rfl)⟩
theorem lw_p75 : lw_okq (⟨"BelowWorthModel", "compares", "()I"⟩, 107) := ⟨⟨by decide +kernel, by decide +kernel⟩, lw_t6 (List.mem_of_getElem? (i := 188) rfl), lw_t8 (List.mem_of_getElem? (i := 222) rfl), lw_t8 (List.mem_of_getElem? (i := 223) rfl)⟩
theorem lw_p76 : lw_okq (⟨"BelowWorthModel", "hasFact", "()I"⟩, 107) := ⟨⟨by decide +kernel, by decide +kernel⟩, lw_t6 (List.mem_of_getElem? (i := 188) rfl), lw_t8 (List.mem_of_getElem? (i := 226) rfl), lw_t8 (List.mem_of_getElem? (i := 227) rfl)⟩
theorem lw_p77 : lw_okq (⟨"BelowWorthModel", "ands", "(Z)V"⟩, 107) := ⟨⟨by decide +kernel, by decide +kernel⟩, lw_t6 (List.mem_of_getElem? (i := 188) rfl), lw_t8 (List.mem_of_getElem? (i := 232) rfl), lw_t8 (List.mem_of_getElem? (i := 233) rfl)⟩
theorem lw_p78 : lw_okq (⟨"BelowWorthModel", "inForce", "(I)I"⟩, 107) := ⟨⟨by decide +kernel, by decide +kernel⟩, lw_t6 (List.mem_of_getElem? (i := 188) rfl), lw_t9 (List.mem_of_getElem? (i := 0) rfl), lw_t9 (List.mem_of_getElem? (i := 1) rfl)⟩
theorem lw_p79 : lw_okq (⟨"BelowWorthModel", "numberIn", "(II)I"⟩, 107) := ⟨⟨by decide +kernel, by decide +kernel⟩, lw_t6 (List.mem_of_getElem? (i := 188) rfl), lw_t9 (List.mem_of_getElem? (i := 4) rfl), lw_t9 (List.mem_of_getElem? (i := 5) rfl)⟩
def lw_privs_5 : List (MethodName × Nat) := [(⟨"BelowWorthModel", "number", "(I)I"⟩, 107), (⟨"BelowWorthModel", "hasTest", "(I)Z"⟩, 107), (⟨"BelowWorthModel", "wantsFact", "()I"⟩, 107), (⟨"BelowWorthModel", "deeper", "(I)V"⟩, 107), (⟨"BelowWorthModel", "opens", "(I)V"⟩, 107), (⟨"BelowWorthModel", "value", "()Z"⟩, 107), (⟨"BelowWorthModel", "counts", "(I)V"⟩, 107), (⟨"BelowWorthModel", "emits", "(II)V"⟩, 107), (⟨"BelowWorthModel", "hasValue", "(Z)I"⟩, 107), (⟨"BelowWorthModel", "sums", "(Z)V"⟩, 107), (⟨"BelowWorthModel", "top", "()I"⟩, 107), (⟨"BelowWorthModel", "compares", "()I"⟩, 107), (⟨"BelowWorthModel", "hasFact", "()I"⟩, 107), (⟨"BelowWorthModel", "ands", "(Z)V"⟩, 107), (⟨"BelowWorthModel", "inForce", "(I)I"⟩, 107), (⟨"BelowWorthModel", "numberIn", "(II)I"⟩, 107)]
theorem lw_r5 : ∀ q ∈ lw_privs_5, lw_okq q := List.forall_mem_cons.mpr ⟨lw_p64, List.forall_mem_cons.mpr ⟨lw_p65, List.forall_mem_cons.mpr ⟨lw_p66, List.forall_mem_cons.mpr ⟨lw_p67, List.forall_mem_cons.mpr ⟨lw_p68, List.forall_mem_cons.mpr ⟨lw_p69, List.forall_mem_cons.mpr ⟨lw_p70, List.forall_mem_cons.mpr ⟨lw_p71, List.forall_mem_cons.mpr ⟨lw_p72, List.forall_mem_cons.mpr ⟨lw_p73, List.forall_mem_cons.mpr ⟨lw_p74, List.forall_mem_cons.mpr ⟨lw_p75, List.forall_mem_cons.mpr ⟨lw_p76, List.forall_mem_cons.mpr ⟨lw_p77, List.forall_mem_cons.mpr ⟨lw_p78, List.forall_mem_cons.mpr ⟨lw_p79, fun _ h => absurd h List.not_mem_nil⟩⟩⟩⟩⟩⟩⟩⟩⟩⟩⟩⟩⟩⟩⟩⟩
theorem lw_p80 : lw_okq (⟨"BelowWorthModel", "clauseIn", "(II)I"⟩, 107) := ⟨⟨by decide +kernel, by decide +kernel⟩, lw_t6 (List.mem_of_getElem? (i := 188) rfl), lw_t9 (List.mem_of_getElem? (i := 8) rfl), lw_t9 (List.mem_of_getElem? (i := 9) rfl)⟩
theorem lw_p81 : lw_okq (⟨"BelowWorthModel", "isThere", "(II)Z"⟩, 107) := ⟨⟨by decide +kernel, by decide +kernel⟩, lw_t6 (List.mem_of_getElem? (i := 188) rfl), lw_t9 (List.mem_of_getElem? (i := 16) rfl), lw_t9 (List.mem_of_getElem? (i := 17) rfl)⟩
theorem lw_p82 : lw_okq (⟨"BelowWorthModel", "weigh", "(II)V"⟩, 107) := ⟨⟨by decide +kernel, by decide +kernel⟩, lw_t6 (List.mem_of_getElem? (i := 188) rfl), lw_t9 (List.mem_of_getElem? (i := 20) rfl), lw_t9 (List.mem_of_getElem? (i := 21) rfl)⟩
theorem lw_p83 : lw_okq (⟨"BelowWorthModel", "netOf", "(I)I"⟩, 107) := ⟨⟨by decide +kernel, by decide +kernel⟩, lw_t6 (List.mem_of_getElem? (i := 188) rfl), lw_t9 (List.mem_of_getElem? (i := 24) rfl), lw_t9 (List.mem_of_getElem? (i := 25) rfl)⟩
theorem lw_p84 : lw_okq (⟨"BelowWorthModel", "ofSale", "(I)V"⟩, 107) := ⟨⟨by decide +kernel, by decide +kernel⟩, lw_t6 (List.mem_of_getElem? (i := 188) rfl), lw_t9 (List.mem_of_getElem? (i := 28) rfl), lw_t9 (List.mem_of_getElem? (i := 29) rfl)⟩
theorem lw_p85 : lw_okq (⟨"BelowWorthModel", "clears", "()V"⟩, 107) := ⟨⟨by decide +kernel, by decide +kernel⟩, lw_t6 (List.mem_of_getElem? (i := 188) rfl), lw_t9 (List.mem_of_getElem? (i := 32) rfl), lw_t9 (List.mem_of_getElem? (i := 33) rfl)⟩
theorem lw_p86 : lw_okq (⟨"BelowWorthModel", "monthOf", "(I)I"⟩, 107) := ⟨⟨by decide +kernel, by decide +kernel⟩, lw_t6 (List.mem_of_getElem? (i := 188) rfl), lw_t9 (List.mem_of_getElem? (i := 36) rfl), lw_t9 (List.mem_of_getElem? (i := 37) rfl)⟩
theorem lw_p87 : lw_okq (⟨"BelowWorthModel", "some", "(III)Z"⟩, 107) := ⟨⟨by decide +kernel, by decide +kernel⟩, lw_t6 (List.mem_of_getElem? (i := 188) rfl), lw_t9 (List.mem_of_getElem? (i := 43) rfl), lw_t9 (List.mem_of_getElem? (i := 44) rfl)⟩
theorem lw_p88 : lw_okq (⟨"BelowWorthModel", "worked", "(I)J"⟩, 107) := ⟨⟨by decide +kernel, by decide +kernel⟩, lw_t6 (List.mem_of_getElem? (i := 188) rfl), lw_t9 (List.mem_of_getElem? (i := 47) rfl), lw_t9 (List.mem_of_getElem? (i := 48) rfl)⟩
theorem lw_p89 : lw_okq (⟨"BelowWorthModel", "worthOf", "(II)I"⟩, 107) := ⟨⟨by decide +kernel, by decide +kernel⟩, lw_t6 (List.mem_of_getElem? (i := 188) rfl), lw_t9 (List.mem_of_getElem? (i := 58) rfl), lw_t9 (List.mem_of_getElem? (i := 59) rfl)⟩
theorem lw_p90 : lw_okq (⟨"BelowWorthModel", "isSpan", "(III)Z"⟩, 107) := ⟨⟨by decide +kernel, by decide +kernel⟩, lw_t6 (List.mem_of_getElem? (i := 188) rfl), lw_t9 (List.mem_of_getElem? (i := 72) rfl), lw_t9 (List.mem_of_getElem? (i := 73) rfl)⟩
theorem lw_p91 : lw_okq (⟨"BelowWorthModel", "margins", "(III)V"⟩, 107) := ⟨⟨by decide +kernel, by decide +kernel⟩, lw_t6 (List.mem_of_getElem? (i := 188) rfl), lw_t9 (List.mem_of_getElem? (i := 77) rfl), lw_t9 (List.mem_of_getElem? (i := 78) rfl)⟩
theorem lw_p92 : lw_okq (⟨"BelowWorthModel", "counts", "(III)Z"⟩, 107) := ⟨⟨by decide +kernel, by decide +kernel⟩, lw_t6 (List.mem_of_getElem? (i := 188) rfl), lw_t9 (List.mem_of_getElem? (i := 81) rfl), lw_t9 (List.mem_of_getElem? (i := 82) rfl)⟩
theorem lw_p93 : lw_okq (⟨"BelowWorthModel", "pairs", "(IIZ)J"⟩, 107) := ⟨⟨by decide +kernel, by decide +kernel⟩, lw_t6 (List.mem_of_getElem? (i := 188) rfl), lw_t9 (List.mem_of_getElem? (i := 93) rfl), lw_t9 (List.mem_of_getElem? (i := 94) rfl)⟩
theorem lw_p94 : lw_okq (⟨"BelowWorthModel", "apart", "(II)I"⟩, 107) := ⟨⟨by decide +kernel, by decide +kernel⟩, lw_t6 (List.mem_of_getElem? (i := 188) rfl), lw_t9 (List.mem_of_getElem? (i := 97) rfl), lw_t9 (List.mem_of_getElem? (i := 98) rfl)⟩
theorem lw_p95 : lw_okq (⟨"BelowWorthModel", "gains", "(II)J"⟩, 107) := ⟨⟨by decide +kernel, by decide +kernel⟩, lw_t6 (List.mem_of_getElem? (i := 188) rfl), lw_t9 (List.mem_of_getElem? (i := 103) rfl), lw_t9 (List.mem_of_getElem? (i := 104) rfl)⟩
def lw_privs_6 : List (MethodName × Nat) := [(⟨"BelowWorthModel", "clauseIn", "(II)I"⟩, 107), (⟨"BelowWorthModel", "isThere", "(II)Z"⟩, 107), (⟨"BelowWorthModel", "weigh", "(II)V"⟩, 107), (⟨"BelowWorthModel", "netOf", "(I)I"⟩, 107), (⟨"BelowWorthModel", "ofSale", "(I)V"⟩, 107), (⟨"BelowWorthModel", "clears", "()V"⟩, 107), (⟨"BelowWorthModel", "monthOf", "(I)I"⟩, 107), (⟨"BelowWorthModel", "some", "(III)Z"⟩, 107), (⟨"BelowWorthModel", "worked", "(I)J"⟩, 107), (⟨"BelowWorthModel", "worthOf", "(II)I"⟩, 107), (⟨"BelowWorthModel", "isSpan", "(III)Z"⟩, 107), (⟨"BelowWorthModel", "margins", "(III)V"⟩, 107), (⟨"BelowWorthModel", "counts", "(III)Z"⟩, 107), (⟨"BelowWorthModel", "pairs", "(IIZ)J"⟩, 107), (⟨"BelowWorthModel", "apart", "(II)I"⟩, 107), (⟨"BelowWorthModel", "gains", "(II)J"⟩, 107)]
theorem lw_r6 : ∀ q ∈ lw_privs_6, lw_okq q := List.forall_mem_cons.mpr ⟨lw_p80, List.forall_mem_cons.mpr ⟨lw_p81, List.forall_mem_cons.mpr ⟨lw_p82, List.forall_mem_cons.mpr ⟨lw_p83, List.forall_mem_cons.mpr ⟨lw_p84, List.forall_mem_cons.mpr ⟨lw_p85, List.forall_mem_cons.mpr ⟨lw_p86, List.forall_mem_cons.mpr ⟨lw_p87, List.forall_mem_cons.mpr ⟨lw_p88, List.forall_mem_cons.mpr ⟨lw_p89, List.forall_mem_cons.mpr ⟨lw_p90, List.forall_mem_cons.mpr ⟨lw_p91, List.forall_mem_cons.mpr ⟨lw_p92, List.forall_mem_cons.mpr ⟨lw_p93, List.forall_mem_cons.mpr ⟨lw_p94, List.forall_mem_cons.mpr ⟨lw_p95, fun _ h => absurd h List.not_mem_nil⟩⟩⟩⟩⟩⟩⟩⟩⟩⟩⟩⟩⟩⟩⟩⟩
theorem lw_p96 : lw_okq (⟨"BelowWorthModel", "lacksOf", "(II)I"⟩, 107) := ⟨⟨by decide +kernel, by decide +kernel⟩, lw_t6 (List.mem_of_getElem? (i := 188) rfl), lw_t9 (List.mem_of_getElem? (i := 124) rfl), lw_t9 (List.mem_of_getElem? (i := 125) rfl)⟩
theorem lw_p97 : lw_okq (⟨"BelowWorthModel", "tonsIn", "(II)I"⟩, 107) := ⟨⟨by decide +kernel, by decide +kernel⟩, lw_t6 (List.mem_of_getElem? (i := 188) rfl), lw_t9 (List.mem_of_getElem? (i := 128) rfl), lw_t9 (List.mem_of_getElem? (i := 129) rfl)⟩
theorem lw_p98 : lw_okq (⟨"BelowWorthModel", "keeps", "(IIII)I"⟩, 107) := ⟨⟨by decide +kernel, by decide +kernel⟩, lw_t6 (List.mem_of_getElem? (i := 188) rfl), lw_t9 (List.mem_of_getElem? (i := 136) rfl), lw_t9 (List.mem_of_getElem? (i := 137) rfl)⟩
theorem lw_p99 : lw_okq (⟨"BelowWorthModel", "explains", "(IIII)Z"⟩, 107) := ⟨⟨by decide +kernel, by decide +kernel⟩, lw_t6 (List.mem_of_getElem? (i := 188) rfl), lw_t9 (List.mem_of_getElem? (i := 140) rfl), lw_t9 (List.mem_of_getElem? (i := 141) rfl)⟩
theorem lw_p100 : lw_okq (⟨"BelowWorthModel", "breaks", "(I)Z"⟩, 107) := ⟨⟨by decide +kernel, by decide +kernel⟩, lw_t6 (List.mem_of_getElem? (i := 188) rfl), lw_t9 (List.mem_of_getElem? (i := 182) rfl), lw_t9 (List.mem_of_getElem? (i := 183) rfl)⟩
theorem lw_p101 : lw_okq (⟨"BelowWorthModel", "isAgainst", "(II)Z"⟩, 107) := ⟨⟨by decide +kernel, by decide +kernel⟩, lw_t6 (List.mem_of_getElem? (i := 188) rfl), lw_t9 (List.mem_of_getElem? (i := 190) rfl), lw_t9 (List.mem_of_getElem? (i := 191) rfl)⟩
theorem lw_p102 : lw_okq (⟨"BelowWorthModel", "ofFirm", "(II)V"⟩, 107) := ⟨⟨by decide +kernel, by decide +kernel⟩, lw_t6 (List.mem_of_getElem? (i := 188) rfl), lw_t9 (List.mem_of_getElem? (i := 194) rfl), lw_t9 (List.mem_of_getElem? (i := 195) rfl)⟩
theorem lw_p103 : lw_okq (⟨"BelowWorthModel", "rateOf", "(III)I"⟩, 107) := ⟨⟨by decide +kernel, by decide +kernel⟩, lw_t6 (List.mem_of_getElem? (i := 188) rfl), lw_t9 (List.mem_of_getElem? (i := 211) rfl), lw_t9 (List.mem_of_getElem? (i := 212) rfl)⟩
theorem lw_p104 : lw_okq (⟨"BelowWorthModel", "holds", "(III)I"⟩, 107) := ⟨⟨by decide +kernel, by decide +kernel⟩, lw_t6 (List.mem_of_getElem? (i := 188) rfl), lw_t9 (List.mem_of_getElem? (i := 215) rfl), lw_t9 (List.mem_of_getElem? (i := 216) rfl)⟩
def lw_privs_7 : List (MethodName × Nat) := [(⟨"BelowWorthModel", "lacksOf", "(II)I"⟩, 107), (⟨"BelowWorthModel", "tonsIn", "(II)I"⟩, 107), (⟨"BelowWorthModel", "keeps", "(IIII)I"⟩, 107), (⟨"BelowWorthModel", "explains", "(IIII)Z"⟩, 107), (⟨"BelowWorthModel", "breaks", "(I)Z"⟩, 107), (⟨"BelowWorthModel", "isAgainst", "(II)Z"⟩, 107), (⟨"BelowWorthModel", "ofFirm", "(II)V"⟩, 107), (⟨"BelowWorthModel", "rateOf", "(III)I"⟩, 107), (⟨"BelowWorthModel", "holds", "(III)I"⟩, 107)]
theorem lw_r7 : ∀ q ∈ lw_privs_7, lw_okq q := List.forall_mem_cons.mpr ⟨lw_p96, List.forall_mem_cons.mpr ⟨lw_p97, List.forall_mem_cons.mpr ⟨lw_p98, List.forall_mem_cons.mpr ⟨lw_p99, List.forall_mem_cons.mpr ⟨lw_p100, List.forall_mem_cons.mpr ⟨lw_p101, List.forall_mem_cons.mpr ⟨lw_p102, List.forall_mem_cons.mpr ⟨lw_p103, List.forall_mem_cons.mpr ⟨lw_p104, fun _ h => absurd h List.not_mem_nil⟩⟩⟩⟩⟩⟩⟩⟩⟩
def lw_privs : List (MethodName × Nat) := lw_privs_1 ++ (lw_privs_2 ++ (lw_privs_3 ++ (lw_privs_4 ++ (lw_privs_5 ++ (lw_privs_6 ++ (lw_privs_7))))))
def lw_tbl : List Cond := k2_sels lw_privs ++ tables_1
theorem lw_privs_ok : ∀ q ∈ lw_privs, lw_okq q := by
  show ∀ q ∈ lw_privs_1 ++ (lw_privs_2 ++ (lw_privs_3 ++ (lw_privs_4 ++ (lw_privs_5 ++ (lw_privs_6 ++ (lw_privs_7)))))), lw_okq q
  exact List.forall_mem_append.mpr ⟨lw_r1, List.forall_mem_append.mpr ⟨lw_r2, List.forall_mem_append.mpr ⟨lw_r3, List.forall_mem_append.mpr ⟨lw_r4, List.forall_mem_append.mpr ⟨lw_r5, List.forall_mem_append.mpr ⟨lw_r6, lw_r7⟩⟩⟩⟩⟩⟩
-- ===== ONE list of words for every method: the tables' words that hold all through a run =====
def lw_all : List Cond := lw_tbl.filter goodWord
/-- a word of the tables by its place: claim/WORDS.tsv -/
theorem lw_w {w : Cond} (i : Nat) (h : lw_tbl[i]? = some w) (g : goodWord w = true) : w ∈ lw_all := List.mem_filter.mpr ⟨List.mem_of_getElem? h, g⟩
theorem lw_all_tbl {w : Cond} (h : w ∈ lw_all) : w ∈ lw_tbl := (List.mem_filter.mp h).1
theorem lw_self : GoodIn lw_all lw_all := fun w h => ⟨h, good_of_word (List.mem_filter.mp h).2⟩
/-- a class's field words, by their places -/
theorem lw_in (ws : List Cond) (ps : List Nat) (hp : ws = ps.filterMap (fun i => lw_tbl[i]?)) (hg : ws.all goodWord = true) : ∀ w ∈ ws, w ∈ lw_all := by
  intro w h
  have h1 := List.all_eq_true.mp hg w h
  rw [hp] at h
  obtain ⟨i, -, hi⟩ := List.mem_filterMap.mp h
  exact lw_w i hi h1
/-- the words of a contract for the method y with code b, L locals, answer r -/
abbrev ws_ (y : MethodName) (b : ByteArray) (L : Nat) (r : Option FieldType) : List Cond := Cond.code y b L r :: lw_all
theorem lw_meth {y : MethodName} {b : ByteArray} {L : Nat} {r : Option FieldType} (h : Cond.code y b L r ∈ lw_all) : GoodIn lw_all (ws_ y b L r) := by
  intro w hw
  rcases List.mem_cons.mp hw with e | e
  · rw [e]
    exact lw_self _ h
  · exact lw_self _ e
theorem lw_app {a c : List Cond} (ha : ∀ w ∈ a, w ∈ lw_all) (hc : GoodIn lw_all c) : GoodIn lw_all (a ++ c) := by
  intro w hw
  rcases List.mem_append.mp hw with e | e
  · exact lw_self w (ha w e)
  · exact hc w e
/-- what a call through an object asks: cwV n hts (lw_V ..) -/
theorem lw_V {own : String} {idx : Nat} {C : String} {y : MethodName} {b : ByteArray} {L : Nat} {r : Option FieldType} (h1 : Cond.methodLink own idx y ∈ lw_all) (h2 : Cond.instanceMethod y ∈ lw_all) (h3 : Cond.selects C y y ∈ lw_all) (h4 : Cond.initialized C ∈ lw_all) (h5 : Cond.code y b L r ∈ lw_all) : GoodIn lw_all (wsV own idx C y (ws_ y b L r)) := by
  refine lw_app ?_ (lw_meth h5)
  intro w hw
  simp only [List.mem_cons, List.not_mem_nil, or_false] at hw
  rcases hw with e | e | e | e
  · rw [e]; exact h1
  · rw [e]; exact h2
  · rw [e]; exact h3
  · rw [e]; exact h4
/-- what a static call asks: va_cwS n hts (lw_S ..) -/
theorem lw_S {own : String} {idx : Nat} {y : MethodName} {b : ByteArray} {L : Nat} {r : Option FieldType} (h1 : Cond.methodLink own idx y ∈ lw_all) (h2 : Cond.static y ∈ lw_all) (h3 : Cond.initialized y.cls ∈ lw_all) (h4 : Cond.code y b L r ∈ lw_all) : GoodIn lw_all (va_wsS own idx y (ws_ y b L r)) := by
  refine lw_app ?_ (lw_meth h4)
  intro w hw
  simp only [List.mem_cons, List.not_mem_nil, or_false] at hw
  rcases hw with e | e | e
  · rw [e]; exact h1
  · rw [e]; exact h2
  · rw [e]; exact h3
/-- the words of a contract for a method WITH HANDLERS (hh: its table) -/
abbrev wsW_ (y : MethodName) (b : ByteArray) (L : Nat) (r : Option FieldType) (hh : List (Nat × Nat × Nat × Nat)) : List Cond := Cond.codeWith y b L r hh :: lw_all
theorem lw_methW {y : MethodName} {b : ByteArray} {L : Nat} {r : Option FieldType} {hh : List (Nat × Nat × Nat × Nat)} (h : Cond.codeWith y b L r hh ∈ lw_all) : GoodIn lw_all (wsW_ y b L r hh) := by
  intro w hw
  rcases List.mem_cons.mp hw with e | e
  · rw [e]
    exact lw_self _ h
  · exact lw_self _ e
/-- any list of words by their places (lw_in), good -/
theorem lw_good {ws : List Cond} (h : ∀ w ∈ ws, w ∈ lw_all) : GoodIn lw_all ws := fun w hw => lw_self w (h w hw)
/-- what a call of a method with handlers asks: vx_cwVW n hts (lw_VW ..), vx_cwSW n hts (lw_SW ..) -/
theorem lw_VW {own : String} {idx : Nat} {C : String} {y : MethodName} {b : ByteArray} {L : Nat} {r : Option FieldType} {hh : List (Nat × Nat × Nat × Nat)} (h1 : Cond.methodLink own idx y ∈ lw_all) (h2 : Cond.instanceMethod y ∈ lw_all) (h3 : Cond.selects C y y ∈ lw_all) (h4 : Cond.initialized C ∈ lw_all) (h5 : Cond.codeWith y b L r hh ∈ lw_all) : GoodIn lw_all (wsV own idx C y (wsW_ y b L r hh)) := by
  refine lw_app ?_ (lw_methW h5)
  intro w hw
  simp only [List.mem_cons, List.not_mem_nil, or_false] at hw
  rcases hw with e | e | e | e
  · rw [e]; exact h1
  · rw [e]; exact h2
  · rw [e]; exact h3
  · rw [e]; exact h4
theorem lw_SW {own : String} {idx : Nat} {y : MethodName} {b : ByteArray} {L : Nat} {r : Option FieldType} {hh : List (Nat × Nat × Nat × Nat)} (h1 : Cond.methodLink own idx y ∈ lw_all) (h2 : Cond.static y ∈ lw_all) (h3 : Cond.initialized y.cls ∈ lw_all) (h4 : Cond.codeWith y b L r hh ∈ lw_all) : GoodIn lw_all (va_wsS own idx y (wsW_ y b L r hh)) := by
  refine lw_app ?_ (lw_methW h4)
  intro w hw
  simp only [List.mem_cons, List.not_mem_nil, or_false] at hw
  rcases hw with e | e | e
  · rw [e]; exact h1
  · rw [e]; exact h2
  · rw [e]; exact h3
/-- a word by its place in its run of the tables -/
theorem lw_at {r : List Cond} (hr : ∀ w ∈ r, w ∈ lw_tbl) {w : Cond} (i : Nat) (h : r[i]? = some w) : w ∈ lw_tbl := hr w (List.mem_of_getElem? h)
theorem lw_g {w : Cond} (h : w ∈ lw_tbl) (g : goodWord w = true) : w ∈ lw_all := List.mem_filter.mpr ⟨h, g⟩
theorem lw_ms : ∀ w ∈ k2_sels lw_privs, w ∈ lw_tbl := fun w h => show w ∈ k2_sels lw_privs ++ tables_1 from List.mem_append_left _ h
theorem lw_m1 : ∀ w ∈ tables_1_1, w ∈ lw_tbl := fun w h => show w ∈ k2_sels lw_privs ++ tables_1 from List.mem_append_right (k2_sels lw_privs) (show w ∈ tables_1 from List.mem_append_left _ h)
theorem lw_m2 : ∀ w ∈ tables_1_2, w ∈ lw_tbl := fun w h => show w ∈ k2_sels lw_privs ++ tables_1 from List.mem_append_right (k2_sels lw_privs) (show w ∈ tables_1 from List.mem_append_right _ (List.mem_append_left _ h))
theorem lw_m3 : ∀ w ∈ tables_1_3, w ∈ lw_tbl := fun w h => show w ∈ k2_sels lw_privs ++ tables_1 from List.mem_append_right (k2_sels lw_privs) (show w ∈ tables_1 from List.mem_append_right _ (List.mem_append_right _ (List.mem_append_left _ h)))
theorem lw_m4 : ∀ w ∈ tables_1_4, w ∈ lw_tbl := fun w h => show w ∈ k2_sels lw_privs ++ tables_1 from List.mem_append_right (k2_sels lw_privs) (show w ∈ tables_1 from List.mem_append_right _ (List.mem_append_right _ (List.mem_append_right _ (List.mem_append_left _ h))))
theorem lw_m5 : ∀ w ∈ tables_1_5, w ∈ lw_tbl := fun w h => show w ∈ k2_sels lw_privs ++ tables_1 from List.mem_append_right (k2_sels lw_privs) (show w ∈ tables_1 from List.mem_append_right _ (List.mem_append_right _ (List.mem_append_right _ (List.mem_append_right _ (List.mem_append_left _ h)))))
theorem lw_m6 : ∀ w ∈ tables_1_6, w ∈ lw_tbl := fun w h => show w ∈ k2_sels lw_privs ++ tables_1 from List.mem_append_right (k2_sels lw_privs) (show w ∈ tables_1 from List.mem_append_right _ (List.mem_append_right _ (List.mem_append_right _ (List.mem_append_right _ (List.mem_append_right _ (List.mem_append_left _ h))))))
theorem lw_m7 : ∀ w ∈ tables_1_7, w ∈ lw_tbl := fun w h => show w ∈ k2_sels lw_privs ++ tables_1 from List.mem_append_right (k2_sels lw_privs) (show w ∈ tables_1 from List.mem_append_right _ (List.mem_append_right _ (List.mem_append_right _ (List.mem_append_right _ (List.mem_append_right _ (List.mem_append_right _ (List.mem_append_left _ h)))))))
theorem lw_m8 : ∀ w ∈ tables_1_8, w ∈ lw_tbl := fun w h => show w ∈ k2_sels lw_privs ++ tables_1 from List.mem_append_right (k2_sels lw_privs) (show w ∈ tables_1 from List.mem_append_right _ (List.mem_append_right _ (List.mem_append_right _ (List.mem_append_right _ (List.mem_append_right _ (List.mem_append_right _ (List.mem_append_right _ (List.mem_append_left _ h))))))))
theorem lw_m9 : ∀ w ∈ tables_1_9, w ∈ lw_tbl := fun w h => show w ∈ k2_sels lw_privs ++ tables_1 from List.mem_append_right (k2_sels lw_privs) (show w ∈ tables_1 from List.mem_append_right _ (List.mem_append_right _ (List.mem_append_right _ (List.mem_append_right _ (List.mem_append_right _ (List.mem_append_right _ (List.mem_append_right _ (List.mem_append_right _ (List.mem_append_left _ h)))))))))
theorem lw_m10 : ∀ w ∈ tables_1_10, w ∈ lw_tbl := fun w h => show w ∈ k2_sels lw_privs ++ tables_1 from List.mem_append_right (k2_sels lw_privs) (show w ∈ tables_1 from List.mem_append_right _ (List.mem_append_right _ (List.mem_append_right _ (List.mem_append_right _ (List.mem_append_right _ (List.mem_append_right _ (List.mem_append_right _ (List.mem_append_right _ (List.mem_append_right _ h)))))))))
theorem qs0 : (Cond.selects "java/lang/Throwable" ⟨"java/lang/Throwable", "fillInStackTrace", "(I)Ljava/lang/Throwable;"⟩ ⟨"java/lang/Throwable", "fillInStackTrace", "(I)Ljava/lang/Throwable;"⟩) ∈ lw_all := lw_g (lw_at lw_ms 0 rfl) rfl
theorem qs1 : (Cond.selects "BelowWorth" ⟨"BelowWorth", "isFirm", "(I)Z"⟩ ⟨"BelowWorth", "isFirm", "(I)Z"⟩) ∈ lw_all := lw_g (lw_at lw_ms 1 rfl) rfl
theorem qs2 : (Cond.selects "BelowWorth" ⟨"BelowWorth", "costIn", "(IIII)I"⟩ ⟨"BelowWorth", "costIn", "(IIII)I"⟩) ∈ lw_all := lw_g (lw_at lw_ms 2 rfl) rfl
theorem qs3 : (Cond.selects "BelowWorth" ⟨"BelowWorth", "isSale", "(I)Z"⟩ ⟨"BelowWorth", "isSale", "(I)Z"⟩) ∈ lw_all := lw_g (lw_at lw_ms 3 rfl) rfl
theorem qs4 : (Cond.selects "BelowWorth" ⟨"BelowWorth", "four", "(I)V"⟩ ⟨"BelowWorth", "four", "(I)V"⟩) ∈ lw_all := lw_g (lw_at lw_ms 4 rfl) rfl
theorem qs5 : (Cond.selects "BelowWorth$Text" ⟨"BelowWorth$Text", "see", "()I"⟩ ⟨"BelowWorth$Text", "see", "()I"⟩) ∈ lw_all := lw_g (lw_at lw_ms 5 rfl) rfl
theorem qs6 : (Cond.selects "BelowWorth$Text" ⟨"BelowWorth$Text", "clause", "(I)V"⟩ ⟨"BelowWorth$Text", "clause", "(I)V"⟩) ∈ lw_all := lw_g (lw_at lw_ms 6 rfl) rfl
theorem qs7 : (Cond.selects "BelowWorth$Text" ⟨"BelowWorth$Text", "plainHere", "()I"⟩ ⟨"BelowWorth$Text", "plainHere", "()I"⟩) ∈ lw_all := lw_g (lw_at lw_ms 7 rfl) rfl
theorem qs8 : (Cond.selects "BelowWorth$Text" ⟨"BelowWorth$Text", "isWord", "(Ljava/lang/String;)Z"⟩ ⟨"BelowWorth$Text", "isWord", "(Ljava/lang/String;)Z"⟩) ∈ lw_all := lw_g (lw_at lw_ms 8 rfl) rfl
theorem qs9 : (Cond.selects "BelowWorth$Text" ⟨"BelowWorth$Text", "demand", "(ZII)V"⟩ ⟨"BelowWorth$Text", "demand", "(ZII)V"⟩) ∈ lw_all := lw_g (lw_at lw_ms 9 rfl) rfl
theorem qs10 : (Cond.selects "BelowWorth$Text" ⟨"BelowWorth$Text", "tested", "()V"⟩ ⟨"BelowWorth$Text", "tested", "()V"⟩) ∈ lw_all := lw_g (lw_at lw_ms 10 rfl) rfl
theorem qs11 : (Cond.selects "BelowWorth$Text" ⟨"BelowWorth$Text", "takesWord", "(Ljava/lang/String;)Z"⟩ ⟨"BelowWorth$Text", "takesWord", "(Ljava/lang/String;)Z"⟩) ∈ lw_all := lw_g (lw_at lw_ms 11 rfl) rfl
theorem qs12 : (Cond.selects "BelowWorth$Text" ⟨"BelowWorth$Text", "number", "(I)I"⟩ ⟨"BelowWorth$Text", "number", "(I)I"⟩) ∈ lw_all := lw_g (lw_at lw_ms 12 rfl) rfl
theorem qs13 : (Cond.selects "BelowWorth$Text" ⟨"BelowWorth$Text", "isDigit", "(I)Z"⟩ ⟨"BelowWorth$Text", "isDigit", "(I)Z"⟩) ∈ lw_all := lw_g (lw_at lw_ms 13 rfl) rfl
theorem qs14 : (Cond.selects "BelowWorth$Text" ⟨"BelowWorth$Text", "test", "()LBelowWorth$Test;"⟩ ⟨"BelowWorth$Text", "test", "()LBelowWorth$Test;"⟩) ∈ lw_all := lw_g (lw_at lw_ms 14 rfl) rfl
theorem qs15 : (Cond.selects "BelowWorth$Text" ⟨"BelowWorth$Text", "part", "()LBelowWorth$Test;"⟩ ⟨"BelowWorth$Text", "part", "()LBelowWorth$Test;"⟩) ∈ lw_all := lw_g (lw_at lw_ms 15 rfl) rfl
theorem qs16 : (Cond.selects "BelowWorth$Text" ⟨"BelowWorth$Text", "fact", "()LBelowWorth$Test;"⟩ ⟨"BelowWorth$Text", "fact", "()LBelowWorth$Test;"⟩) ∈ lw_all := lw_g (lw_at lw_ms 16 rfl) rfl
theorem qs17 : (Cond.selects "BelowWorth$Text" ⟨"BelowWorth$Text", "opens", "(I)V"⟩ ⟨"BelowWorth$Text", "opens", "(I)V"⟩) ∈ lw_all := lw_g (lw_at lw_ms 17 rfl) rfl
theorem qs18 : (Cond.selects "BelowWorth$Text" ⟨"BelowWorth$Text", "wants", "(I)V"⟩ ⟨"BelowWorth$Text", "wants", "(I)V"⟩) ∈ lw_all := lw_g (lw_at lw_ms 18 rfl) rfl
theorem qs19 : (Cond.selects "BelowWorth$Text" ⟨"BelowWorth$Text", "takes", "(I)Z"⟩ ⟨"BelowWorth$Text", "takes", "(I)Z"⟩) ∈ lw_all := lw_g (lw_at lw_ms 19 rfl) rfl
theorem qs20 : (Cond.selects "BelowWorth$Text" ⟨"BelowWorth$Text", "sum", "()LBelowWorth$Value;"⟩ ⟨"BelowWorth$Text", "sum", "()LBelowWorth$Value;"⟩) ∈ lw_all := lw_g (lw_at lw_ms 20 rfl) rfl
theorem qs21 : (Cond.selects "BelowWorth$Text" ⟨"BelowWorth$Text", "term", "()LBelowWorth$Value;"⟩ ⟨"BelowWorth$Text", "term", "()LBelowWorth$Value;"⟩) ∈ lw_all := lw_g (lw_at lw_ms 21 rfl) rfl
theorem qs22 : (Cond.selects "BelowWorth$Text" ⟨"BelowWorth$Text", "value", "()LBelowWorth$Value;"⟩ ⟨"BelowWorth$Text", "value", "()LBelowWorth$Value;"⟩) ∈ lw_all := lw_g (lw_at lw_ms 22 rfl) rfl
theorem qs23 : (Cond.selects "BelowWorth$Text" ⟨"BelowWorth$Text", "makes", "(I)V"⟩ ⟨"BelowWorth$Text", "makes", "(I)V"⟩) ∈ lw_all := lw_g (lw_at lw_ms 23 rfl) rfl
theorem qs24 : (Cond.selects "BelowWorth$Text" ⟨"BelowWorth$Text", "sign", "()I"⟩ ⟨"BelowWorth$Text", "sign", "()I"⟩) ∈ lw_all := lw_g (lw_at lw_ms 24 rfl) rfl
theorem qs25 : (Cond.selects "BelowWorth$Text" ⟨"BelowWorth$Text", "onceTold", "(II)V"⟩ ⟨"BelowWorth$Text", "onceTold", "(II)V"⟩) ∈ lw_all := lw_g (lw_at lw_ms 25 rfl) rfl
theorem qs26 : (Cond.selects "BelowWorth" ⟨"BelowWorth", "actOn", "(I)LBelowWorth$Act;"⟩ ⟨"BelowWorth", "actOn", "(I)LBelowWorth$Act;"⟩) ∈ lw_all := lw_g (lw_at lw_ms 26 rfl) rfl
theorem qs27 : (Cond.selects "BelowWorth" ⟨"BelowWorth", "inForce", "(I)I"⟩ ⟨"BelowWorth", "inForce", "(I)I"⟩) ∈ lw_all := lw_g (lw_at lw_ms 27 rfl) rfl
theorem qs28 : (Cond.selects "BelowWorth$Look" ⟨"BelowWorth$Look", "netOf", "(I)I"⟩ ⟨"BelowWorth$Look", "netOf", "(I)I"⟩) ∈ lw_all := lw_g (lw_at lw_ms 28 rfl) rfl
theorem qs29 : (Cond.selects "BelowWorth$Case" ⟨"BelowWorth$Case", "ofSale", "(I)J"⟩ ⟨"BelowWorth$Case", "ofSale", "(I)J"⟩) ∈ lw_all := lw_g (lw_at lw_ms 29 rfl) rfl
theorem qs30 : (Cond.selects "BelowWorth$Case" ⟨"BelowWorth$Case", "ofFirm", "(I)J"⟩ ⟨"BelowWorth$Case", "ofFirm", "(I)J"⟩) ∈ lw_all := lw_g (lw_at lw_ms 30 rfl) rfl
theorem qs31 : (Cond.selects "BelowWorth" ⟨"BelowWorth", "lacksOf", "(II)I"⟩ ⟨"BelowWorth", "lacksOf", "(II)I"⟩) ∈ lw_all := lw_g (lw_at lw_ms 31 rfl) rfl
theorem qs32 : (Cond.selects "BelowWorth" ⟨"BelowWorth", "salesHere", "(II)I"⟩ ⟨"BelowWorth", "salesHere", "(II)I"⟩) ∈ lw_all := lw_g (lw_at lw_ms 32 rfl) rfl
theorem qs33 : (Cond.selects "BelowWorth$Look" ⟨"BelowWorth$Look", "finds", "(II)Z"⟩ ⟨"BelowWorth$Look", "finds", "(II)Z"⟩) ∈ lw_all := lw_g (lw_at lw_ms 33 rfl) rfl
theorem qs34 : (Cond.selects "BelowWorth" ⟨"BelowWorth", "isSpan", "(IIII)Z"⟩ ⟨"BelowWorth", "isSpan", "(IIII)Z"⟩) ∈ lw_all := lw_g (lw_at lw_ms 34 rfl) rfl
theorem qs35 : (Cond.selects "BelowWorth" ⟨"BelowWorth", "margins", "(IIII)V"⟩ ⟨"BelowWorth", "margins", "(IIII)V"⟩) ∈ lw_all := lw_g (lw_at lw_ms 35 rfl) rfl
theorem qs36 : (Cond.selects "BelowWorth" ⟨"BelowWorth", "adds", "(JJJ)V"⟩ ⟨"BelowWorth", "adds", "(JJJ)V"⟩) ∈ lw_all := lw_g (lw_at lw_ms 36 rfl) rfl
theorem qs37 : (Cond.selects "BelowWorth$Matcher" ⟨"BelowWorth$Matcher", "gathers", "(III)V"⟩ ⟨"BelowWorth$Matcher", "gathers", "(III)V"⟩) ∈ lw_all := lw_g (lw_at lw_ms 37 rfl) rfl
theorem qs38 : (Cond.selects "BelowWorth$Matcher" ⟨"BelowWorth$Matcher", "may", "(III)Z"⟩ ⟨"BelowWorth$Matcher", "may", "(III)Z"⟩) ∈ lw_all := lw_g (lw_at lw_ms 38 rfl) rfl
theorem qs39 : (Cond.selects "BelowWorth$Matcher" ⟨"BelowWorth$Matcher", "grades", "(II)I"⟩ ⟨"BelowWorth$Matcher", "grades", "(II)I"⟩) ∈ lw_all := lw_g (lw_at lw_ms 39 rfl) rfl
theorem qs40 : (Cond.selects "BelowWorth$Matcher" ⟨"BelowWorth$Matcher", "months", "(II)I"⟩ ⟨"BelowWorth$Matcher", "months", "(II)I"⟩) ∈ lw_all := lw_g (lw_at lw_ms 40 rfl) rfl
theorem qs41 : (Cond.selects "BelowWorth$Matcher" ⟨"BelowWorth$Matcher", "worth", "(II)J"⟩ ⟨"BelowWorth$Matcher", "worth", "(II)J"⟩) ∈ lw_all := lw_g (lw_at lw_ms 41 rfl) rfl
theorem qs42 : (Cond.selects "BelowWorth$Matcher" ⟨"BelowWorth$Matcher", "less", "(II)J"⟩ ⟨"BelowWorth$Matcher", "less", "(II)J"⟩) ∈ lw_all := lw_g (lw_at lw_ms 42 rfl) rfl
theorem qs43 : (Cond.selects "BelowWorth" ⟨"BelowWorth", "leaves", "(IIIII)Z"⟩ ⟨"BelowWorth", "leaves", "(IIIII)Z"⟩) ∈ lw_all := lw_g (lw_at lw_ms 43 rfl) rfl
theorem qs44 : (Cond.selects "BelowWorth" ⟨"BelowWorth", "agrees", "(II)Z"⟩ ⟨"BelowWorth", "agrees", "(II)Z"⟩) ∈ lw_all := lw_g (lw_at lw_ms 44 rfl) rfl
theorem qs45 : (Cond.selects "BelowWorth" ⟨"BelowWorth", "spreads", "(I[J)[J"⟩ ⟨"BelowWorth", "spreads", "(I[J)[J"⟩) ∈ lw_all := lw_g (lw_at lw_ms 45 rfl) rfl
theorem qs46 : (Cond.selects "BelowWorth" ⟨"BelowWorth", "goes", "(IIIJ)V"⟩ ⟨"BelowWorth", "goes", "(IIIJ)V"⟩) ∈ lw_all := lw_g (lw_at lw_ms 46 rfl) rfl
theorem qs47 : (Cond.selects "BelowWorth" ⟨"BelowWorth", "breaks", "(II)Z"⟩ ⟨"BelowWorth", "breaks", "(II)Z"⟩) ∈ lw_all := lw_g (lw_at lw_ms 47 rfl) rfl
theorem qs48 : (Cond.selects "BelowWorth" ⟨"BelowWorth", "isAgainst", "(II)Z"⟩ ⟨"BelowWorth", "isAgainst", "(II)Z"⟩) ∈ lw_all := lw_g (lw_at lw_ms 48 rfl) rfl
theorem qs49 : (Cond.selects "BelowWorth" ⟨"BelowWorth", "marginNow", "(Z)I"⟩ ⟨"BelowWorth", "marginNow", "(Z)I"⟩) ∈ lw_all := lw_g (lw_at lw_ms 49 rfl) rfl
theorem qs50 : (Cond.selects "BelowWorth" ⟨"BelowWorth", "rateOf", "(III)I"⟩ ⟨"BelowWorth", "rateOf", "(III)I"⟩) ∈ lw_all := lw_g (lw_at lw_ms 50 rfl) rfl
theorem qs51 : (Cond.selects "BelowWorth" ⟨"BelowWorth", "ofFirm", "(III)LBelowWorth$Rate;"⟩ ⟨"BelowWorth", "ofFirm", "(III)LBelowWorth$Rate;"⟩) ∈ lw_all := lw_g (lw_at lw_ms 51 rfl) rfl
theorem qs52 : (Cond.selects "BelowWorth" ⟨"BelowWorth", "entryOf", "(I)LBelowWorth$Entry;"⟩ ⟨"BelowWorth", "entryOf", "(I)LBelowWorth$Entry;"⟩) ∈ lw_all := lw_g (lw_at lw_ms 52 rfl) rfl
theorem qs53 : (Cond.selects "BelowWorthModel" ⟨"BelowWorthModel", "isFirm", "(I)Z"⟩ ⟨"BelowWorthModel", "isFirm", "(I)Z"⟩) ∈ lw_all := lw_g (lw_at lw_ms 53 rfl) rfl
theorem qs54 : (Cond.selects "BelowWorthModel" ⟨"BelowWorthModel", "costOf", "(IIII)I"⟩ ⟨"BelowWorthModel", "costOf", "(IIII)I"⟩) ∈ lw_all := lw_g (lw_at lw_ms 54 rfl) rfl
theorem qs55 : (Cond.selects "BelowWorthModel" ⟨"BelowWorthModel", "isSale", "(I)Z"⟩ ⟨"BelowWorthModel", "isSale", "(I)Z"⟩) ∈ lw_all := lw_g (lw_at lw_ms 55 rfl) rfl
theorem qs56 : (Cond.selects "BelowWorthModel" ⟨"BelowWorthModel", "put", "(I)V"⟩ ⟨"BelowWorthModel", "put", "(I)V"⟩) ∈ lw_all := lw_g (lw_at lw_ms 56 rfl) rfl
theorem qs57 : (Cond.selects "BelowWorthModel" ⟨"BelowWorthModel", "clause", "()V"⟩ ⟨"BelowWorthModel", "clause", "()V"⟩) ∈ lw_all := lw_g (lw_at lw_ms 57 rfl) rfl
theorem qs58 : (Cond.selects "BelowWorthModel" ⟨"BelowWorthModel", "begins", "()I"⟩ ⟨"BelowWorthModel", "begins", "()I"⟩) ∈ lw_all := lw_g (lw_at lw_ms 58 rfl) rfl
theorem qs59 : (Cond.selects "BelowWorthModel" ⟨"BelowWorthModel", "blanks", "()V"⟩ ⟨"BelowWorthModel", "blanks", "()V"⟩) ∈ lw_all := lw_g (lw_at lw_ms 59 rfl) rfl
theorem qs60 : (Cond.selects "BelowWorthModel" ⟨"BelowWorthModel", "wordEnd", "()I"⟩ ⟨"BelowWorthModel", "wordEnd", "()I"⟩) ∈ lw_all := lw_g (lw_at lw_ms 60 rfl) rfl
theorem qs61 : (Cond.selects "BelowWorthModel" ⟨"BelowWorthModel", "is", "(Ljava/lang/String;I)Z"⟩ ⟨"BelowWorthModel", "is", "(Ljava/lang/String;I)Z"⟩) ∈ lw_all := lw_g (lw_at lw_ms 61 rfl) rfl
theorem qs62 : (Cond.selects "BelowWorthModel" ⟨"BelowWorthModel", "fails", "(II)V"⟩ ⟨"BelowWorthModel", "fails", "(II)V"⟩) ∈ lw_all := lw_g (lw_at lw_ms 62 rfl) rfl
theorem qs63 : (Cond.selects "BelowWorthModel" ⟨"BelowWorthModel", "sign", "()I"⟩ ⟨"BelowWorthModel", "sign", "()I"⟩) ∈ lw_all := lw_g (lw_at lw_ms 63 rfl) rfl
theorem qs64 : (Cond.selects "BelowWorthModel" ⟨"BelowWorthModel", "number", "(I)I"⟩ ⟨"BelowWorthModel", "number", "(I)I"⟩) ∈ lw_all := lw_g (lw_at lw_ms 64 rfl) rfl
theorem qs65 : (Cond.selects "BelowWorthModel" ⟨"BelowWorthModel", "hasTest", "(I)Z"⟩ ⟨"BelowWorthModel", "hasTest", "(I)Z"⟩) ∈ lw_all := lw_g (lw_at lw_ms 65 rfl) rfl
theorem qs66 : (Cond.selects "BelowWorthModel" ⟨"BelowWorthModel", "wantsFact", "()I"⟩ ⟨"BelowWorthModel", "wantsFact", "()I"⟩) ∈ lw_all := lw_g (lw_at lw_ms 66 rfl) rfl
theorem qs67 : (Cond.selects "BelowWorthModel" ⟨"BelowWorthModel", "deeper", "(I)V"⟩ ⟨"BelowWorthModel", "deeper", "(I)V"⟩) ∈ lw_all := lw_g (lw_at lw_ms 67 rfl) rfl
theorem qs68 : (Cond.selects "BelowWorthModel" ⟨"BelowWorthModel", "opens", "(I)V"⟩ ⟨"BelowWorthModel", "opens", "(I)V"⟩) ∈ lw_all := lw_g (lw_at lw_ms 68 rfl) rfl
theorem qs69 : (Cond.selects "BelowWorthModel" ⟨"BelowWorthModel", "value", "()Z"⟩ ⟨"BelowWorthModel", "value", "()Z"⟩) ∈ lw_all := lw_g (lw_at lw_ms 69 rfl) rfl
theorem qs70 : (Cond.selects "BelowWorthModel" ⟨"BelowWorthModel", "counts", "(I)V"⟩ ⟨"BelowWorthModel", "counts", "(I)V"⟩) ∈ lw_all := lw_g (lw_at lw_ms 70 rfl) rfl
theorem qs71 : (Cond.selects "BelowWorthModel" ⟨"BelowWorthModel", "emits", "(II)V"⟩ ⟨"BelowWorthModel", "emits", "(II)V"⟩) ∈ lw_all := lw_g (lw_at lw_ms 71 rfl) rfl
theorem qs72 : (Cond.selects "BelowWorthModel" ⟨"BelowWorthModel", "hasValue", "(Z)I"⟩ ⟨"BelowWorthModel", "hasValue", "(Z)I"⟩) ∈ lw_all := lw_g (lw_at lw_ms 72 rfl) rfl
theorem qs73 : (Cond.selects "BelowWorthModel" ⟨"BelowWorthModel", "sums", "(Z)V"⟩ ⟨"BelowWorthModel", "sums", "(Z)V"⟩) ∈ lw_all := lw_g (lw_at lw_ms 73 rfl) rfl
theorem qs74 : (Cond.selects "BelowWorthModel" ⟨"BelowWorthModel", "top", "()I"⟩ ⟨"BelowWorthModel", "top", "()I"⟩) ∈ lw_all := lw_g (lw_at lw_ms 74 rfl) rfl
theorem qs75 : (Cond.selects "BelowWorthModel" ⟨"BelowWorthModel", "compares", "()I"⟩ ⟨"BelowWorthModel", "compares", "()I"⟩) ∈ lw_all := lw_g (lw_at lw_ms 75 rfl) rfl
theorem qs76 : (Cond.selects "BelowWorthModel" ⟨"BelowWorthModel", "hasFact", "()I"⟩ ⟨"BelowWorthModel", "hasFact", "()I"⟩) ∈ lw_all := lw_g (lw_at lw_ms 76 rfl) rfl
theorem qs77 : (Cond.selects "BelowWorthModel" ⟨"BelowWorthModel", "ands", "(Z)V"⟩ ⟨"BelowWorthModel", "ands", "(Z)V"⟩) ∈ lw_all := lw_g (lw_at lw_ms 77 rfl) rfl
theorem qs78 : (Cond.selects "BelowWorthModel" ⟨"BelowWorthModel", "inForce", "(I)I"⟩ ⟨"BelowWorthModel", "inForce", "(I)I"⟩) ∈ lw_all := lw_g (lw_at lw_ms 78 rfl) rfl
theorem qs79 : (Cond.selects "BelowWorthModel" ⟨"BelowWorthModel", "numberIn", "(II)I"⟩ ⟨"BelowWorthModel", "numberIn", "(II)I"⟩) ∈ lw_all := lw_g (lw_at lw_ms 79 rfl) rfl
theorem qs80 : (Cond.selects "BelowWorthModel" ⟨"BelowWorthModel", "clauseIn", "(II)I"⟩ ⟨"BelowWorthModel", "clauseIn", "(II)I"⟩) ∈ lw_all := lw_g (lw_at lw_ms 80 rfl) rfl
theorem qs81 : (Cond.selects "BelowWorthModel" ⟨"BelowWorthModel", "isThere", "(II)Z"⟩ ⟨"BelowWorthModel", "isThere", "(II)Z"⟩) ∈ lw_all := lw_g (lw_at lw_ms 81 rfl) rfl
theorem qs82 : (Cond.selects "BelowWorthModel" ⟨"BelowWorthModel", "weigh", "(II)V"⟩ ⟨"BelowWorthModel", "weigh", "(II)V"⟩) ∈ lw_all := lw_g (lw_at lw_ms 82 rfl) rfl
theorem qs83 : (Cond.selects "BelowWorthModel" ⟨"BelowWorthModel", "netOf", "(I)I"⟩ ⟨"BelowWorthModel", "netOf", "(I)I"⟩) ∈ lw_all := lw_g (lw_at lw_ms 83 rfl) rfl
theorem qs84 : (Cond.selects "BelowWorthModel" ⟨"BelowWorthModel", "ofSale", "(I)V"⟩ ⟨"BelowWorthModel", "ofSale", "(I)V"⟩) ∈ lw_all := lw_g (lw_at lw_ms 84 rfl) rfl
theorem qs85 : (Cond.selects "BelowWorthModel" ⟨"BelowWorthModel", "clears", "()V"⟩ ⟨"BelowWorthModel", "clears", "()V"⟩) ∈ lw_all := lw_g (lw_at lw_ms 85 rfl) rfl
theorem qs86 : (Cond.selects "BelowWorthModel" ⟨"BelowWorthModel", "monthOf", "(I)I"⟩ ⟨"BelowWorthModel", "monthOf", "(I)I"⟩) ∈ lw_all := lw_g (lw_at lw_ms 86 rfl) rfl
theorem qs87 : (Cond.selects "BelowWorthModel" ⟨"BelowWorthModel", "some", "(III)Z"⟩ ⟨"BelowWorthModel", "some", "(III)Z"⟩) ∈ lw_all := lw_g (lw_at lw_ms 87 rfl) rfl
theorem qs88 : (Cond.selects "BelowWorthModel" ⟨"BelowWorthModel", "worked", "(I)J"⟩ ⟨"BelowWorthModel", "worked", "(I)J"⟩) ∈ lw_all := lw_g (lw_at lw_ms 88 rfl) rfl
theorem qs89 : (Cond.selects "BelowWorthModel" ⟨"BelowWorthModel", "worthOf", "(II)I"⟩ ⟨"BelowWorthModel", "worthOf", "(II)I"⟩) ∈ lw_all := lw_g (lw_at lw_ms 89 rfl) rfl
theorem qs90 : (Cond.selects "BelowWorthModel" ⟨"BelowWorthModel", "isSpan", "(III)Z"⟩ ⟨"BelowWorthModel", "isSpan", "(III)Z"⟩) ∈ lw_all := lw_g (lw_at lw_ms 90 rfl) rfl
theorem qs91 : (Cond.selects "BelowWorthModel" ⟨"BelowWorthModel", "margins", "(III)V"⟩ ⟨"BelowWorthModel", "margins", "(III)V"⟩) ∈ lw_all := lw_g (lw_at lw_ms 91 rfl) rfl
theorem qs92 : (Cond.selects "BelowWorthModel" ⟨"BelowWorthModel", "counts", "(III)Z"⟩ ⟨"BelowWorthModel", "counts", "(III)Z"⟩) ∈ lw_all := lw_g (lw_at lw_ms 92 rfl) rfl
theorem qs93 : (Cond.selects "BelowWorthModel" ⟨"BelowWorthModel", "pairs", "(IIZ)J"⟩ ⟨"BelowWorthModel", "pairs", "(IIZ)J"⟩) ∈ lw_all := lw_g (lw_at lw_ms 93 rfl) rfl
theorem qs94 : (Cond.selects "BelowWorthModel" ⟨"BelowWorthModel", "apart", "(II)I"⟩ ⟨"BelowWorthModel", "apart", "(II)I"⟩) ∈ lw_all := lw_g (lw_at lw_ms 94 rfl) rfl
theorem qs95 : (Cond.selects "BelowWorthModel" ⟨"BelowWorthModel", "gains", "(II)J"⟩ ⟨"BelowWorthModel", "gains", "(II)J"⟩) ∈ lw_all := lw_g (lw_at lw_ms 95 rfl) rfl
theorem qs96 : (Cond.selects "BelowWorthModel" ⟨"BelowWorthModel", "lacksOf", "(II)I"⟩ ⟨"BelowWorthModel", "lacksOf", "(II)I"⟩) ∈ lw_all := lw_g (lw_at lw_ms 96 rfl) rfl
theorem qs97 : (Cond.selects "BelowWorthModel" ⟨"BelowWorthModel", "tonsIn", "(II)I"⟩ ⟨"BelowWorthModel", "tonsIn", "(II)I"⟩) ∈ lw_all := lw_g (lw_at lw_ms 97 rfl) rfl
theorem qs98 : (Cond.selects "BelowWorthModel" ⟨"BelowWorthModel", "keeps", "(IIII)I"⟩ ⟨"BelowWorthModel", "keeps", "(IIII)I"⟩) ∈ lw_all := lw_g (lw_at lw_ms 98 rfl) rfl
theorem qs99 : (Cond.selects "BelowWorthModel" ⟨"BelowWorthModel", "explains", "(IIII)Z"⟩ ⟨"BelowWorthModel", "explains", "(IIII)Z"⟩) ∈ lw_all := lw_g (lw_at lw_ms 99 rfl) rfl
theorem qs100 : (Cond.selects "BelowWorthModel" ⟨"BelowWorthModel", "breaks", "(I)Z"⟩ ⟨"BelowWorthModel", "breaks", "(I)Z"⟩) ∈ lw_all := lw_g (lw_at lw_ms 100 rfl) rfl
theorem qs101 : (Cond.selects "BelowWorthModel" ⟨"BelowWorthModel", "isAgainst", "(II)Z"⟩ ⟨"BelowWorthModel", "isAgainst", "(II)Z"⟩) ∈ lw_all := lw_g (lw_at lw_ms 101 rfl) rfl
theorem qs102 : (Cond.selects "BelowWorthModel" ⟨"BelowWorthModel", "ofFirm", "(II)V"⟩ ⟨"BelowWorthModel", "ofFirm", "(II)V"⟩) ∈ lw_all := lw_g (lw_at lw_ms 102 rfl) rfl
theorem qs103 : (Cond.selects "BelowWorthModel" ⟨"BelowWorthModel", "rateOf", "(III)I"⟩ ⟨"BelowWorthModel", "rateOf", "(III)I"⟩) ∈ lw_all := lw_g (lw_at lw_ms 103 rfl) rfl
theorem qs104 : (Cond.selects "BelowWorthModel" ⟨"BelowWorthModel", "holds", "(III)I"⟩ ⟨"BelowWorthModel", "holds", "(III)I"⟩) ∈ lw_all := lw_g (lw_at lw_ms 104 rfl) rfl
