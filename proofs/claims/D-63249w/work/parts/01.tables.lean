-- ===== PART A: goes FIRST, ahead of the names: the tables' words, and 'selects' of the private methods out of them =====
/-- a private method of a class that the tables say can be made, by its rows of tables_1 -/
def lw_okq (q : MethodName × Nat) : Prop := (q.1.cls ≠ "java/lang/invoke/MethodHandle" ∧ q.1.cls ≠ "java/lang/invoke/VarHandle") ∧ Cond.instantiable q.1.cls q.2 ∈ tables_1 ∧ Cond.privateMethod q.1 ∈ tables_1 ∧ Cond.instanceMethod q.1 ∈ tables_1
set_option maxRecDepth 100000
theorem lw_t1 {w : Cond} (h : w ∈ tables_1_1) : w ∈ tables_1 := List.mem_append_left _ h
theorem lw_t2 {w : Cond} (h : w ∈ tables_1_2) : w ∈ tables_1 := List.mem_append_right _ (List.mem_append_left _ h)
theorem lw_t3 {w : Cond} (h : w ∈ tables_1_3) : w ∈ tables_1 := List.mem_append_right _ (List.mem_append_right _ (List.mem_append_left _ h))
theorem lw_t4 {w : Cond} (h : w ∈ tables_1_4) : w ∈ tables_1 := List.mem_append_right _ (List.mem_append_right _ (List.mem_append_right _ (List.mem_append_left _ h)))
theorem lw_t5 {w : Cond} (h : w ∈ tables_1_5) : w ∈ tables_1 := List.mem_append_right _ (List.mem_append_right _ (List.mem_append_right _ (List.mem_append_right _ (List.mem_append_left _ h))))
theorem lw_t6 {w : Cond} (h : w ∈ tables_1_6) : w ∈ tables_1 := List.mem_append_right _ (List.mem_append_right _ (List.mem_append_right _ (List.mem_append_right _ (List.mem_append_right _ (List.mem_append_left _ h)))))
theorem lw_t7 {w : Cond} (h : w ∈ tables_1_7) : w ∈ tables_1 := List.mem_append_right _ (List.mem_append_right _ (List.mem_append_right _ (List.mem_append_right _ (List.mem_append_right _ (List.mem_append_right _ h)))))
theorem lw_p0 : lw_okq (⟨"KeyHall$View", "up", "(LKeyHall$Key;Z)LKeyHall$Entry;"⟩, 8) := ⟨⟨by decide +kernel, by decide +kernel⟩, lw_t1 (List.mem_of_getElem? (i := 239) rfl), lw_t2 (List.mem_of_getElem? (i := 94) rfl), lw_t2 (List.mem_of_getElem? (i := 95) rfl)⟩
theorem lw_p1 : lw_okq (⟨"KeyHall$BitTree", "nearest", "(LKeyHall$Key;ZI)LKeyHall$Entry;"⟩, 3) := ⟨⟨by decide +kernel, by decide +kernel⟩, lw_t1 (List.mem_of_getElem? (i := 70) rfl), lw_t2 (List.mem_of_getElem? (i := 116) rfl), lw_t2 (List.mem_of_getElem? (i := 117) rfl)⟩
theorem lw_p2 : lw_okq (⟨"KeyHall$BitTree", "near", "(LKeyHall$Key;)LKeyHall$Entry;"⟩, 3) := ⟨⟨by decide +kernel, by decide +kernel⟩, lw_t1 (List.mem_of_getElem? (i := 70) rfl), lw_t2 (List.mem_of_getElem? (i := 128) rfl), lw_t2 (List.mem_of_getElem? (i := 129) rfl)⟩
theorem lw_p3 : lw_okq (⟨"KeyHall$BitTree", "aside", "(LKeyHall$Key;II)LKeyHall$Entry;"⟩, 3) := ⟨⟨by decide +kernel, by decide +kernel⟩, lw_t1 (List.mem_of_getElem? (i := 70) rfl), lw_t2 (List.mem_of_getElem? (i := 144) rfl), lw_t2 (List.mem_of_getElem? (i := 145) rfl)⟩
theorem lw_p4 : lw_okq (⟨"KeyHall$ListFan", "isWide", "()Z"⟩, 3) := ⟨⟨by decide +kernel, by decide +kernel⟩, lw_t2 (List.mem_of_getElem? (i := 174) rfl), lw_t2 (List.mem_of_getElem? (i := 172) rfl), lw_t2 (List.mem_of_getElem? (i := 173) rfl)⟩
theorem lw_p5 : lw_okq (⟨"KeyHall", "use", "()LKeyHall$Key;"⟩, 9) := ⟨⟨by decide +kernel, by decide +kernel⟩, lw_t1 (List.mem_of_getElem? (i := 31) rfl), lw_t3 (List.mem_of_getElem? (i := 3) rfl), lw_t3 (List.mem_of_getElem? (i := 4) rfl)⟩
theorem lw_p6 : lw_okq (⟨"KeyHall$Automaton", "step", "(IC)I"⟩, 10) := ⟨⟨by decide +kernel, by decide +kernel⟩, lw_t1 (List.mem_of_getElem? (i := 165) rfl), lw_t3 (List.mem_of_getElem? (i := 17) rfl), lw_t3 (List.mem_of_getElem? (i := 18) rfl)⟩
theorem lw_p7 : lw_okq (⟨"KeyHall$Scroll", "sort", "()V"⟩, 8) := ⟨⟨by decide +kernel, by decide +kernel⟩, lw_t1 (List.mem_of_getElem? (i := 204) rfl), lw_t3 (List.mem_of_getElem? (i := 51) rfl), lw_t3 (List.mem_of_getElem? (i := 52) rfl)⟩
theorem lw_p8 : lw_okq (⟨"KeyHall$Scroll", "compare", "(III)I"⟩, 8) := ⟨⟨by decide +kernel, by decide +kernel⟩, lw_t1 (List.mem_of_getElem? (i := 204) rfl), lw_t3 (List.mem_of_getElem? (i := 55) rfl), lw_t3 (List.mem_of_getElem? (i := 56) rfl)⟩
theorem lw_p9 : lw_okq (⟨"KeyHall$Scroll", "rank", "(I)I"⟩, 8) := ⟨⟨by decide +kernel, by decide +kernel⟩, lw_t1 (List.mem_of_getElem? (i := 204) rfl), lw_t3 (List.mem_of_getElem? (i := 60) rfl), lw_t3 (List.mem_of_getElem? (i := 61) rfl)⟩
theorem lw_p10 : lw_okq (⟨"KeyHall$Scroll", "share", "(I)V"⟩, 8) := ⟨⟨by decide +kernel, by decide +kernel⟩, lw_t1 (List.mem_of_getElem? (i := 204) rfl), lw_t3 (List.mem_of_getElem? (i := 64) rfl), lw_t3 (List.mem_of_getElem? (i := 65) rfl)⟩
theorem lw_p11 : lw_okq (⟨"KeyHall$Scroll", "isBefore", "(ILKeyHall$Key;Z)Z"⟩, 8) := ⟨⟨by decide +kernel, by decide +kernel⟩, lw_t1 (List.mem_of_getElem? (i := 204) rfl), lw_t3 (List.mem_of_getElem? (i := 80) rfl), lw_t3 (List.mem_of_getElem? (i := 81) rfl)⟩
theorem lw_p12 : lw_okq (⟨"java/lang/Throwable", "fillInStackTrace", "(I)Ljava/lang/Throwable;"⟩, 6) := ⟨⟨by decide +kernel, by decide +kernel⟩, lw_t3 (List.mem_of_getElem? (i := 119) rfl), lw_t3 (List.mem_of_getElem? (i := 117) rfl), lw_t3 (List.mem_of_getElem? (i := 118) rfl)⟩
theorem lw_p13 : lw_okq (⟨"KeyHall", "of", "(I)LKeyHall$View;"⟩, 9) := ⟨⟨by decide +kernel, by decide +kernel⟩, lw_t1 (List.mem_of_getElem? (i := 31) rfl), lw_t3 (List.mem_of_getElem? (i := 169) rfl), lw_t3 (List.mem_of_getElem? (i := 170) rfl)⟩
theorem lw_p14 : lw_okq (⟨"KeyHall$ByteTree", "descend", "(LKeyHall$Key;)LKeyHall$Twig;"⟩, 6) := ⟨⟨by decide +kernel, by decide +kernel⟩, lw_t1 (List.mem_of_getElem? (i := 94) rfl), lw_t4 (List.mem_of_getElem? (i := 11) rfl), lw_t4 (List.mem_of_getElem? (i := 12) rfl)⟩
theorem lw_p15 : lw_okq (⟨"KeyHall$BitTree", "join", "(LKeyHall$Fork;LKeyHall$Key;LKeyHall$Fork;)V"⟩, 3) := ⟨⟨by decide +kernel, by decide +kernel⟩, lw_t1 (List.mem_of_getElem? (i := 70) rfl), lw_t4 (List.mem_of_getElem? (i := 94) rfl), lw_t4 (List.mem_of_getElem? (i := 95) rfl)⟩
def lw_privs_1 : List (MethodName × Nat) := [(⟨"KeyHall$View", "up", "(LKeyHall$Key;Z)LKeyHall$Entry;"⟩, 8), (⟨"KeyHall$BitTree", "nearest", "(LKeyHall$Key;ZI)LKeyHall$Entry;"⟩, 3), (⟨"KeyHall$BitTree", "near", "(LKeyHall$Key;)LKeyHall$Entry;"⟩, 3), (⟨"KeyHall$BitTree", "aside", "(LKeyHall$Key;II)LKeyHall$Entry;"⟩, 3), (⟨"KeyHall$ListFan", "isWide", "()Z"⟩, 3), (⟨"KeyHall", "use", "()LKeyHall$Key;"⟩, 9), (⟨"KeyHall$Automaton", "step", "(IC)I"⟩, 10), (⟨"KeyHall$Scroll", "sort", "()V"⟩, 8), (⟨"KeyHall$Scroll", "compare", "(III)I"⟩, 8), (⟨"KeyHall$Scroll", "rank", "(I)I"⟩, 8), (⟨"KeyHall$Scroll", "share", "(I)V"⟩, 8), (⟨"KeyHall$Scroll", "isBefore", "(ILKeyHall$Key;Z)Z"⟩, 8), (⟨"java/lang/Throwable", "fillInStackTrace", "(I)Ljava/lang/Throwable;"⟩, 6), (⟨"KeyHall", "of", "(I)LKeyHall$View;"⟩, 9), (⟨"KeyHall$ByteTree", "descend", "(LKeyHall$Key;)LKeyHall$Twig;"⟩, 6), (⟨"KeyHall$BitTree", "join", "(LKeyHall$Fork;LKeyHall$Key;LKeyHall$Fork;)V"⟩, 3)]
theorem lw_r1 : ∀ q ∈ lw_privs_1, lw_okq q := List.forall_mem_cons.mpr ⟨lw_p0, List.forall_mem_cons.mpr ⟨lw_p1, List.forall_mem_cons.mpr ⟨lw_p2, List.forall_mem_cons.mpr ⟨lw_p3, List.forall_mem_cons.mpr ⟨lw_p4, List.forall_mem_cons.mpr ⟨lw_p5, List.forall_mem_cons.mpr ⟨lw_p6, List.forall_mem_cons.mpr ⟨lw_p7, List.forall_mem_cons.mpr ⟨lw_p8, List.forall_mem_cons.mpr ⟨lw_p9, List.forall_mem_cons.mpr ⟨lw_p10, List.forall_mem_cons.mpr ⟨lw_p11, List.forall_mem_cons.mpr ⟨lw_p12, List.forall_mem_cons.mpr ⟨lw_p13, List.forall_mem_cons.mpr ⟨lw_p14, List.forall_mem_cons.mpr ⟨lw_p15, fun _ h => absurd h List.not_mem_nil⟩⟩⟩⟩⟩⟩⟩⟩⟩⟩⟩⟩⟩⟩⟩⟩
theorem lw_p16 : lw_okq (⟨"KeyHall$RowFan", "all", "(LKeyHall$Fan;)V"⟩, 3) := ⟨⟨by decide +kernel, by decide +kernel⟩, lw_t1 (List.mem_of_getElem? (i := 106) rfl), lw_t4 (List.mem_of_getElem? (i := 127) rfl), lw_t4 (List.mem_of_getElem? (i := 128) rfl)⟩
theorem lw_p17 : lw_okq (⟨"KeyHall$ListFan", "widen", "()V"⟩, 3) := ⟨⟨by decide +kernel, by decide +kernel⟩, lw_t2 (List.mem_of_getElem? (i := 174) rfl), lw_t4 (List.mem_of_getElem? (i := 137) rfl), lw_t4 (List.mem_of_getElem? (i := 138) rfl)⟩
theorem lw_p18 : lw_okq (⟨"KeyHall", "entry", "(LKeyHall$View;)LKeyHall$Entry;"⟩, 9) := ⟨⟨by decide +kernel, by decide +kernel⟩, lw_t1 (List.mem_of_getElem? (i := 31) rfl), lw_t4 (List.mem_of_getElem? (i := 192) rfl), lw_t4 (List.mem_of_getElem? (i := 193) rfl)⟩
theorem lw_p19 : lw_okq (⟨"KeyHall$ListFan", "narrow", "()V"⟩, 3) := ⟨⟨by decide +kernel, by decide +kernel⟩, lw_t2 (List.mem_of_getElem? (i := 174) rfl), lw_t4 (List.mem_of_getElem? (i := 225) rfl), lw_t4 (List.mem_of_getElem? (i := 226) rfl)⟩
theorem lw_p20 : lw_okq (⟨"KeyHall$View", "down", "(LKeyHall$Key;Z)LKeyHall$Entry;"⟩, 8) := ⟨⟨by decide +kernel, by decide +kernel⟩, lw_t1 (List.mem_of_getElem? (i := 239) rfl), lw_t5 (List.mem_of_getElem? (i := 21) rfl), lw_t5 (List.mem_of_getElem? (i := 22) rfl)⟩
theorem lw_p21 : lw_okq (⟨"KeyHall", "tell", "(LKeyHall$Entry;)I"⟩, 9) := ⟨⟨by decide +kernel, by decide +kernel⟩, lw_t1 (List.mem_of_getElem? (i := 31) rfl), lw_t5 (List.mem_of_getElem? (i := 60) rfl), lw_t5 (List.mem_of_getElem? (i := 61) rfl)⟩
theorem lw_p22 : lw_okq (⟨"KeyHall$Automaton", "state", "()I"⟩, 10) := ⟨⟨by decide +kernel, by decide +kernel⟩, lw_t1 (List.mem_of_getElem? (i := 165) rfl), lw_t5 (List.mem_of_getElem? (i := 167) rfl), lw_t5 (List.mem_of_getElem? (i := 168) rfl)⟩
theorem lw_p23 : lw_okq (⟨"KeyHall$Automaton", "isLike", "(II)Z"⟩, 10) := ⟨⟨by decide +kernel, by decide +kernel⟩, lw_t1 (List.mem_of_getElem? (i := 165) rfl), lw_t5 (List.mem_of_getElem? (i := 178) rfl), lw_t5 (List.mem_of_getElem? (i := 179) rfl)⟩
theorem lw_p24 : lw_okq (⟨"KeyHall$Rope", "even", "()LKeyHall$Rope;"⟩, 5) := ⟨⟨by decide +kernel, by decide +kernel⟩, lw_t5 (List.mem_of_getElem? (i := 198) rfl), lw_t5 (List.mem_of_getElem? (i := 232) rfl), lw_t5 (List.mem_of_getElem? (i := 233) rfl)⟩
theorem lw_p25 : lw_okq (⟨"KeyHall$Scroll", "become", "(LKeyHall$Rope;)I"⟩, 8) := ⟨⟨by decide +kernel, by decide +kernel⟩, lw_t1 (List.mem_of_getElem? (i := 204) rfl), lw_t6 (List.mem_of_getElem? (i := 1) rfl), lw_t6 (List.mem_of_getElem? (i := 2) rfl)⟩
theorem lw_p26 : lw_okq (⟨"KeyHallModel", "isView", "(I)Z"⟩, 39) := ⟨⟨by decide +kernel, by decide +kernel⟩, lw_t6 (List.mem_of_getElem? (i := 16) rfl), lw_t6 (List.mem_of_getElem? (i := 153) rfl), lw_t6 (List.mem_of_getElem? (i := 154) rfl)⟩
theorem lw_p27 : lw_okq (⟨"KeyHallModel", "raise", "(I)I"⟩, 39) := ⟨⟨by decide +kernel, by decide +kernel⟩, lw_t6 (List.mem_of_getElem? (i := 16) rfl), lw_t6 (List.mem_of_getElem? (i := 157) rfl), lw_t6 (List.mem_of_getElem? (i := 158) rfl)⟩
theorem lw_p28 : lw_okq (⟨"KeyHallModel", "within", "(I[III)Z"⟩, 39) := ⟨⟨by decide +kernel, by decide +kernel⟩, lw_t6 (List.mem_of_getElem? (i := 16) rfl), lw_t6 (List.mem_of_getElem? (i := 165) rfl), lw_t6 (List.mem_of_getElem? (i := 166) rfl)⟩
theorem lw_p29 : lw_okq (⟨"KeyHallModel", "mapOf", "(I)I"⟩, 39) := ⟨⟨by decide +kernel, by decide +kernel⟩, lw_t6 (List.mem_of_getElem? (i := 16) rfl), lw_t6 (List.mem_of_getElem? (i := 175) rfl), lw_t6 (List.mem_of_getElem? (i := 176) rfl)⟩
theorem lw_p30 : lw_okq (⟨"KeyHallModel", "keyOf", "(I[III)I"⟩, 39) := ⟨⟨by decide +kernel, by decide +kernel⟩, lw_t6 (List.mem_of_getElem? (i := 16) rfl), lw_t6 (List.mem_of_getElem? (i := 179) rfl), lw_t6 (List.mem_of_getElem? (i := 180) rfl)⟩
theorem lw_p31 : lw_okq (⟨"KeyHallModel", "orderOf", "(I[III)I"⟩, 39) := ⟨⟨by decide +kernel, by decide +kernel⟩, lw_t6 (List.mem_of_getElem? (i := 16) rfl), lw_t6 (List.mem_of_getElem? (i := 183) rfl), lw_t6 (List.mem_of_getElem? (i := 184) rfl)⟩
def lw_privs_2 : List (MethodName × Nat) := [(⟨"KeyHall$RowFan", "all", "(LKeyHall$Fan;)V"⟩, 3), (⟨"KeyHall$ListFan", "widen", "()V"⟩, 3), (⟨"KeyHall", "entry", "(LKeyHall$View;)LKeyHall$Entry;"⟩, 9), (⟨"KeyHall$ListFan", "narrow", "()V"⟩, 3), (⟨"KeyHall$View", "down", "(LKeyHall$Key;Z)LKeyHall$Entry;"⟩, 8), (⟨"KeyHall", "tell", "(LKeyHall$Entry;)I"⟩, 9), (⟨"KeyHall$Automaton", "state", "()I"⟩, 10), (⟨"KeyHall$Automaton", "isLike", "(II)Z"⟩, 10), (⟨"KeyHall$Rope", "even", "()LKeyHall$Rope;"⟩, 5), (⟨"KeyHall$Scroll", "become", "(LKeyHall$Rope;)I"⟩, 8), (⟨"KeyHallModel", "isView", "(I)Z"⟩, 39), (⟨"KeyHallModel", "raise", "(I)I"⟩, 39), (⟨"KeyHallModel", "within", "(I[III)Z"⟩, 39), (⟨"KeyHallModel", "mapOf", "(I)I"⟩, 39), (⟨"KeyHallModel", "keyOf", "(I[III)I"⟩, 39), (⟨"KeyHallModel", "orderOf", "(I[III)I"⟩, 39)]
theorem lw_r2 : ∀ q ∈ lw_privs_2, lw_okq q := List.forall_mem_cons.mpr ⟨lw_p16, List.forall_mem_cons.mpr ⟨lw_p17, List.forall_mem_cons.mpr ⟨lw_p18, List.forall_mem_cons.mpr ⟨lw_p19, List.forall_mem_cons.mpr ⟨lw_p20, List.forall_mem_cons.mpr ⟨lw_p21, List.forall_mem_cons.mpr ⟨lw_p22, List.forall_mem_cons.mpr ⟨lw_p23, List.forall_mem_cons.mpr ⟨lw_p24, List.forall_mem_cons.mpr ⟨lw_p25, List.forall_mem_cons.mpr ⟨lw_p26, List.forall_mem_cons.mpr ⟨lw_p27, List.forall_mem_cons.mpr ⟨lw_p28, List.forall_mem_cons.mpr ⟨lw_p29, List.forall_mem_cons.mpr ⟨lw_p30, List.forall_mem_cons.mpr ⟨lw_p31, fun _ h => absurd h List.not_mem_nil⟩⟩⟩⟩⟩⟩⟩⟩⟩⟩⟩⟩⟩⟩⟩⟩
theorem lw_p32 : lw_okq (⟨"KeyHallModel", "used", "(I)I"⟩, 39) := ⟨⟨by decide +kernel, by decide +kernel⟩, lw_t6 (List.mem_of_getElem? (i := 16) rfl), lw_t6 (List.mem_of_getElem? (i := 191) rfl), lw_t6 (List.mem_of_getElem? (i := 192) rfl)⟩
theorem lw_p33 : lw_okq (⟨"KeyHallModel", "clear", "(II)V"⟩, 39) := ⟨⟨by decide +kernel, by decide +kernel⟩, lw_t6 (List.mem_of_getElem? (i := 16) rfl), lw_t6 (List.mem_of_getElem? (i := 199) rfl), lw_t6 (List.mem_of_getElem? (i := 200) rfl)⟩
theorem lw_p34 : lw_okq (⟨"KeyHallModel", "has", "(II)Z"⟩, 39) := ⟨⟨by decide +kernel, by decide +kernel⟩, lw_t6 (List.mem_of_getElem? (i := 16) rfl), lw_t6 (List.mem_of_getElem? (i := 207) rfl), lw_t6 (List.mem_of_getElem? (i := 208) rfl)⟩
theorem lw_p35 : lw_okq (⟨"KeyHallModel", "nearest", "(IZZ[III)I"⟩, 39) := ⟨⟨by decide +kernel, by decide +kernel⟩, lw_t6 (List.mem_of_getElem? (i := 16) rfl), lw_t6 (List.mem_of_getElem? (i := 215) rfl), lw_t6 (List.mem_of_getElem? (i := 216) rfl)⟩
theorem lw_p36 : lw_okq (⟨"KeyHallModel", "side", "(II[III)I"⟩, 39) := ⟨⟨by decide +kernel, by decide +kernel⟩, lw_t6 (List.mem_of_getElem? (i := 16) rfl), lw_t6 (List.mem_of_getElem? (i := 219) rfl), lw_t6 (List.mem_of_getElem? (i := 220) rfl)⟩
theorem lw_p37 : lw_okq (⟨"KeyHallModel", "isTurned", "(I)Z"⟩, 39) := ⟨⟨by decide +kernel, by decide +kernel⟩, lw_t6 (List.mem_of_getElem? (i := 16) rfl), lw_t6 (List.mem_of_getElem? (i := 223) rfl), lw_t6 (List.mem_of_getElem? (i := 224) rfl)⟩
theorem lw_p38 : lw_okq (⟨"KeyHallModel", "tell", "(II)I"⟩, 39) := ⟨⟨by decide +kernel, by decide +kernel⟩, lw_t6 (List.mem_of_getElem? (i := 16) rfl), lw_t6 (List.mem_of_getElem? (i := 227) rfl), lw_t6 (List.mem_of_getElem? (i := 228) rfl)⟩
theorem lw_p39 : lw_okq (⟨"KeyHallModel", "longest", "(II)I"⟩, 39) := ⟨⟨by decide +kernel, by decide +kernel⟩, lw_t6 (List.mem_of_getElem? (i := 16) rfl), lw_t6 (List.mem_of_getElem? (i := 231) rfl), lw_t6 (List.mem_of_getElem? (i := 232) rfl)⟩
theorem lw_p40 : lw_okq (⟨"KeyHallModel", "stale", "(I)Z"⟩, 39) := ⟨⟨by decide +kernel, by decide +kernel⟩, lw_t6 (List.mem_of_getElem? (i := 16) rfl), lw_t7 (List.mem_of_getElem? (i := 16) rfl), lw_t7 (List.mem_of_getElem? (i := 17) rfl)⟩
theorem lw_p41 : lw_okq (⟨"KeyHallModel", "inner", "(I)I"⟩, 39) := ⟨⟨by decide +kernel, by decide +kernel⟩, lw_t6 (List.mem_of_getElem? (i := 16) rfl), lw_t7 (List.mem_of_getElem? (i := 32) rfl), lw_t7 (List.mem_of_getElem? (i := 33) rfl)⟩
theorem lw_p42 : lw_okq (⟨"KeyHallModel", "fan", "(II)I"⟩, 39) := ⟨⟨by decide +kernel, by decide +kernel⟩, lw_t6 (List.mem_of_getElem? (i := 16) rfl), lw_t7 (List.mem_of_getElem? (i := 36) rfl), lw_t7 (List.mem_of_getElem? (i := 37) rfl)⟩
theorem lw_p43 : lw_okq (⟨"KeyHallModel", "sameBytes", "(III)Z"⟩, 39) := ⟨⟨by decide +kernel, by decide +kernel⟩, lw_t6 (List.mem_of_getElem? (i := 16) rfl), lw_t7 (List.mem_of_getElem? (i := 40) rfl), lw_t7 (List.mem_of_getElem? (i := 41) rfl)⟩
theorem lw_p44 : lw_okq (⟨"KeyHallModel", "octet", "(II)I"⟩, 39) := ⟨⟨by decide +kernel, by decide +kernel⟩, lw_t6 (List.mem_of_getElem? (i := 16) rfl), lw_t7 (List.mem_of_getElem? (i := 44) rfl), lw_t7 (List.mem_of_getElem? (i := 45) rfl)⟩
theorem lw_p45 : lw_okq (⟨"KeyHallModel", "depth", "(I)I"⟩, 39) := ⟨⟨by decide +kernel, by decide +kernel⟩, lw_t6 (List.mem_of_getElem? (i := 16) rfl), lw_t7 (List.mem_of_getElem? (i := 48) rfl), lw_t7 (List.mem_of_getElem? (i := 49) rfl)⟩
theorem lw_p46 : lw_okq (⟨"KeyHallModel", "bit", "(II)I"⟩, 39) := ⟨⟨by decide +kernel, by decide +kernel⟩, lw_t6 (List.mem_of_getElem? (i := 16) rfl), lw_t7 (List.mem_of_getElem? (i := 52) rfl), lw_t7 (List.mem_of_getElem? (i := 53) rfl)⟩
theorem lw_p47 : lw_okq (⟨"KeyHallModel", "prefixesOf", "(II)V"⟩, 39) := ⟨⟨by decide +kernel, by decide +kernel⟩, lw_t6 (List.mem_of_getElem? (i := 16) rfl), lw_t7 (List.mem_of_getElem? (i := 60) rfl), lw_t7 (List.mem_of_getElem? (i := 61) rfl)⟩
def lw_privs_3 : List (MethodName × Nat) := [(⟨"KeyHallModel", "used", "(I)I"⟩, 39), (⟨"KeyHallModel", "clear", "(II)V"⟩, 39), (⟨"KeyHallModel", "has", "(II)Z"⟩, 39), (⟨"KeyHallModel", "nearest", "(IZZ[III)I"⟩, 39), (⟨"KeyHallModel", "side", "(II[III)I"⟩, 39), (⟨"KeyHallModel", "isTurned", "(I)Z"⟩, 39), (⟨"KeyHallModel", "tell", "(II)I"⟩, 39), (⟨"KeyHallModel", "longest", "(II)I"⟩, 39), (⟨"KeyHallModel", "stale", "(I)Z"⟩, 39), (⟨"KeyHallModel", "inner", "(I)I"⟩, 39), (⟨"KeyHallModel", "fan", "(II)I"⟩, 39), (⟨"KeyHallModel", "sameBytes", "(III)Z"⟩, 39), (⟨"KeyHallModel", "octet", "(II)I"⟩, 39), (⟨"KeyHallModel", "depth", "(I)I"⟩, 39), (⟨"KeyHallModel", "bit", "(II)I"⟩, 39), (⟨"KeyHallModel", "prefixesOf", "(II)V"⟩, 39)]
theorem lw_r3 : ∀ q ∈ lw_privs_3, lw_okq q := List.forall_mem_cons.mpr ⟨lw_p32, List.forall_mem_cons.mpr ⟨lw_p33, List.forall_mem_cons.mpr ⟨lw_p34, List.forall_mem_cons.mpr ⟨lw_p35, List.forall_mem_cons.mpr ⟨lw_p36, List.forall_mem_cons.mpr ⟨lw_p37, List.forall_mem_cons.mpr ⟨lw_p38, List.forall_mem_cons.mpr ⟨lw_p39, List.forall_mem_cons.mpr ⟨lw_p40, List.forall_mem_cons.mpr ⟨lw_p41, List.forall_mem_cons.mpr ⟨lw_p42, List.forall_mem_cons.mpr ⟨lw_p43, List.forall_mem_cons.mpr ⟨lw_p44, List.forall_mem_cons.mpr ⟨lw_p45, List.forall_mem_cons.mpr ⟨lw_p46, List.forall_mem_cons.mpr ⟨lw_p47, fun _ h => absurd h List.not_mem_nil⟩⟩⟩⟩⟩⟩⟩⟩⟩⟩⟩⟩⟩⟩⟩⟩
theorem lw_p48 : lw_okq (⟨"KeyHallModel", "samePrefix", "(III)Z"⟩, 39) := ⟨⟨by decide +kernel, by decide +kernel⟩, lw_t6 (List.mem_of_getElem? (i := 16) rfl), lw_t7 (List.mem_of_getElem? (i := 64) rfl), lw_t7 (List.mem_of_getElem? (i := 65) rfl)⟩
theorem lw_p49 : lw_okq (⟨"KeyHallModel", "state", "(II)V"⟩, 39) := ⟨⟨by decide +kernel, by decide +kernel⟩, lw_t6 (List.mem_of_getElem? (i := 16) rfl), lw_t7 (List.mem_of_getElem? (i := 68) rfl), lw_t7 (List.mem_of_getElem? (i := 69) rfl)⟩
theorem lw_p50 : lw_okq (⟨"KeyHallModel", "endsAt", "(II)Z"⟩, 39) := ⟨⟨by decide +kernel, by decide +kernel⟩, lw_t6 (List.mem_of_getElem? (i := 16) rfl), lw_t7 (List.mem_of_getElem? (i := 72) rfl), lw_t7 (List.mem_of_getElem? (i := 73) rfl)⟩
theorem lw_p51 : lw_okq (⟨"KeyHallModel", "follows", "(II)Z"⟩, 39) := ⟨⟨by decide +kernel, by decide +kernel⟩, lw_t6 (List.mem_of_getElem? (i := 16) rfl), lw_t7 (List.mem_of_getElem? (i := 76) rfl), lw_t7 (List.mem_of_getElem? (i := 77) rfl)⟩
theorem lw_p52 : lw_okq (⟨"KeyHallModel", "stepsOf", "(I)I"⟩, 39) := ⟨⟨by decide +kernel, by decide +kernel⟩, lw_t6 (List.mem_of_getElem? (i := 16) rfl), lw_t7 (List.mem_of_getElem? (i := 80) rfl), lw_t7 (List.mem_of_getElem? (i := 81) rfl)⟩
theorem lw_p53 : lw_okq (⟨"KeyHallModel", "alike", "(II)Z"⟩, 39) := ⟨⟨by decide +kernel, by decide +kernel⟩, lw_t6 (List.mem_of_getElem? (i := 16) rfl), lw_t7 (List.mem_of_getElem? (i := 84) rfl), lw_t7 (List.mem_of_getElem? (i := 85) rfl)⟩
theorem lw_p54 : lw_okq (⟨"KeyHallModel", "go", "(II)I"⟩, 39) := ⟨⟨by decide +kernel, by decide +kernel⟩, lw_t6 (List.mem_of_getElem? (i := 16) rfl), lw_t7 (List.mem_of_getElem? (i := 88) rfl), lw_t7 (List.mem_of_getElem? (i := 89) rfl)⟩
theorem lw_p55 : lw_okq (⟨"KeyHallModel", "keep", "()V"⟩, 39) := ⟨⟨by decide +kernel, by decide +kernel⟩, lw_t6 (List.mem_of_getElem? (i := 16) rfl), lw_t7 (List.mem_of_getElem? (i := 100) rfl), lw_t7 (List.mem_of_getElem? (i := 101) rfl)⟩
theorem lw_p56 : lw_okq (⟨"KeyHallModel", "begin", "(I)I"⟩, 39) := ⟨⟨by decide +kernel, by decide +kernel⟩, lw_t6 (List.mem_of_getElem? (i := 16) rfl), lw_t7 (List.mem_of_getElem? (i := 120) rfl), lw_t7 (List.mem_of_getElem? (i := 121) rfl)⟩
def lw_privs_4 : List (MethodName × Nat) := [(⟨"KeyHallModel", "samePrefix", "(III)Z"⟩, 39), (⟨"KeyHallModel", "state", "(II)V"⟩, 39), (⟨"KeyHallModel", "endsAt", "(II)Z"⟩, 39), (⟨"KeyHallModel", "follows", "(II)Z"⟩, 39), (⟨"KeyHallModel", "stepsOf", "(I)I"⟩, 39), (⟨"KeyHallModel", "alike", "(II)Z"⟩, 39), (⟨"KeyHallModel", "go", "(II)I"⟩, 39), (⟨"KeyHallModel", "keep", "()V"⟩, 39), (⟨"KeyHallModel", "begin", "(I)I"⟩, 39)]
theorem lw_r4 : ∀ q ∈ lw_privs_4, lw_okq q := List.forall_mem_cons.mpr ⟨lw_p48, List.forall_mem_cons.mpr ⟨lw_p49, List.forall_mem_cons.mpr ⟨lw_p50, List.forall_mem_cons.mpr ⟨lw_p51, List.forall_mem_cons.mpr ⟨lw_p52, List.forall_mem_cons.mpr ⟨lw_p53, List.forall_mem_cons.mpr ⟨lw_p54, List.forall_mem_cons.mpr ⟨lw_p55, List.forall_mem_cons.mpr ⟨lw_p56, fun _ h => absurd h List.not_mem_nil⟩⟩⟩⟩⟩⟩⟩⟩⟩
def lw_privs : List (MethodName × Nat) := lw_privs_1 ++ (lw_privs_2 ++ (lw_privs_3 ++ (lw_privs_4)))
def lw_tbl : List Cond := k2_sels lw_privs ++ tables_1
theorem lw_privs_ok : ∀ q ∈ lw_privs, lw_okq q := by
  show ∀ q ∈ lw_privs_1 ++ (lw_privs_2 ++ (lw_privs_3 ++ (lw_privs_4))), lw_okq q
  exact List.forall_mem_append.mpr ⟨lw_r1, List.forall_mem_append.mpr ⟨lw_r2, List.forall_mem_append.mpr ⟨lw_r3, lw_r4⟩⟩⟩
-- ===== ONE list of words for every method: the tables' words that hold all through a run =====
def lw_all : List Cond := lw_tbl.filter goodWord
/-- a word of the tables by its place: claim/WORDS.tsv -/
theorem lw_w {w : Cond} (i : Nat) (h : lw_tbl[i]? = some w) (g : goodWord w = true) : w ∈ lw_all := List.mem_filter.mpr ⟨List.mem_of_getElem? h, g⟩
theorem lw_all_tbl {w : Cond} (h : w ∈ lw_all) : w ∈ lw_tbl := (List.mem_filter.mp h).1
theorem lw_self : GoodIn lw_all lw_all := fun w h => ⟨h, good_of_word (List.mem_filter.mp h).2⟩
/-- a class's field words, by their places -/
theorem lw_in (ws : List Cond) (ps : List Nat) (hp : ws = ps.filterMap (fun i => lw_tbl[i]?)) (hg : ws.all goodWord = true) : ∀ w ∈ ws, w ∈ lw_all := by
  intro w h
  have h1 := List.all_eq_true.mp hg w h
  rw [hp] at h
  obtain ⟨i, -, hi⟩ := List.mem_filterMap.mp h
  exact lw_w i hi h1
/-- the words of a contract for the method y with code b, L locals, answer r -/
abbrev ws_ (y : MethodName) (b : ByteArray) (L : Nat) (r : Option FieldType) : List Cond := Cond.code y b L r :: lw_all
theorem lw_meth {y : MethodName} {b : ByteArray} {L : Nat} {r : Option FieldType} (h : Cond.code y b L r ∈ lw_all) : GoodIn lw_all (ws_ y b L r) := by
  intro w hw
  rcases List.mem_cons.mp hw with e | e
  · rw [e]
    exact lw_self _ h
  · exact lw_self _ e
theorem lw_app {a c : List Cond} (ha : ∀ w ∈ a, w ∈ lw_all) (hc : GoodIn lw_all c) : GoodIn lw_all (a ++ c) := by
  intro w hw
  rcases List.mem_append.mp hw with e | e
  · exact lw_self w (ha w e)
  · exact hc w e
/-- what a call through an object asks: cwV n hts (lw_V ..) -/
theorem lw_V {own : String} {idx : Nat} {C : String} {y : MethodName} {b : ByteArray} {L : Nat} {r : Option FieldType} (h1 : Cond.methodLink own idx y ∈ lw_all) (h2 : Cond.instanceMethod y ∈ lw_all) (h3 : Cond.selects C y y ∈ lw_all) (h4 : Cond.initialized C ∈ lw_all) (h5 : Cond.code y b L r ∈ lw_all) : GoodIn lw_all (wsV own idx C y (ws_ y b L r)) := by
  refine lw_app ?_ (lw_meth h5)
  intro w hw
  simp only [List.mem_cons, List.not_mem_nil, or_false] at hw
  rcases hw with e | e | e | e
  · rw [e]; exact h1
  · rw [e]; exact h2
  · rw [e]; exact h3
  · rw [e]; exact h4
/-- what a static call asks: va_cwS n hts (lw_S ..) -/
theorem lw_S {own : String} {idx : Nat} {y : MethodName} {b : ByteArray} {L : Nat} {r : Option FieldType} (h1 : Cond.methodLink own idx y ∈ lw_all) (h2 : Cond.static y ∈ lw_all) (h3 : Cond.initialized y.cls ∈ lw_all) (h4 : Cond.code y b L r ∈ lw_all) : GoodIn lw_all (va_wsS own idx y (ws_ y b L r)) := by
  refine lw_app ?_ (lw_meth h4)
  intro w hw
  simp only [List.mem_cons, List.not_mem_nil, or_false] at hw
  rcases hw with e | e | e
  · rw [e]; exact h1
  · rw [e]; exact h2
  · rw [e]; exact h3
/-- the words of a contract for a method WITH HANDLERS (hh: its table) -/
abbrev wsW_ (y : MethodName) (b : ByteArray) (L : Nat) (r : Option FieldType) (hh : List (Nat × Nat × Nat × Nat)) : List Cond := Cond.codeWith y b L r hh :: lw_all
theorem lw_methW {y : MethodName} {b : ByteArray} {L : Nat} {r : Option FieldType} {hh : List (Nat × Nat × Nat × Nat)} (h : Cond.codeWith y b L r hh ∈ lw_all) : GoodIn lw_all (wsW_ y b L r hh) := by
  intro w hw
  rcases List.mem_cons.mp hw with e | e
  · rw [e]
    exact lw_self _ h
  · exact lw_self _ e
/-- any list of words by their places (lw_in), good -/
theorem lw_good {ws : List Cond} (h : ∀ w ∈ ws, w ∈ lw_all) : GoodIn lw_all ws := fun w hw => lw_self w (h w hw)
/-- what a call of a method with handlers asks: vx_cwVW n hts (lw_VW ..), vx_cwSW n hts (lw_SW ..) -/
theorem lw_VW {own : String} {idx : Nat} {C : String} {y : MethodName} {b : ByteArray} {L : Nat} {r : Option FieldType} {hh : List (Nat × Nat × Nat × Nat)} (h1 : Cond.methodLink own idx y ∈ lw_all) (h2 : Cond.instanceMethod y ∈ lw_all) (h3 : Cond.selects C y y ∈ lw_all) (h4 : Cond.initialized C ∈ lw_all) (h5 : Cond.codeWith y b L r hh ∈ lw_all) : GoodIn lw_all (wsV own idx C y (wsW_ y b L r hh)) := by
  refine lw_app ?_ (lw_methW h5)
  intro w hw
  simp only [List.mem_cons, List.not_mem_nil, or_false] at hw
  rcases hw with e | e | e | e
  · rw [e]; exact h1
  · rw [e]; exact h2
  · rw [e]; exact h3
  · rw [e]; exact h4
theorem lw_SW {own : String} {idx : Nat} {y : MethodName} {b : ByteArray} {L : Nat} {r : Option FieldType} {hh : List (Nat × Nat × Nat × Nat)} (h1 : Cond.methodLink own idx y ∈ lw_all) (h2 : Cond.static y ∈ lw_all) (h3 : Cond.initialized y.cls ∈ lw_all) (h4 : Cond.codeWith y b L r hh ∈ lw_all) : GoodIn lw_all (va_wsS own idx y (wsW_ y b L r hh)) := by
  refine lw_app ?_ (lw_methW h4)
  intro w hw
  simp only [List.mem_cons, List.not_mem_nil, or_false] at hw
  rcases hw with e | e | e
  · rw [e]; exact h1
  · rw [e]; exact h2
  · rw [e]; exact h3
/-- a word by its place in its run of the tables -/
theorem lw_at {r : List Cond} (hr : ∀ w ∈ r, w ∈ lw_tbl) {w : Cond} (i : Nat) (h : r[i]? = some w) : w ∈ lw_tbl := hr w (List.mem_of_getElem? h)
theorem lw_g {w : Cond} (h : w ∈ lw_tbl) (g : goodWord w = true) : w ∈ lw_all := List.mem_filter.mpr ⟨h, g⟩
theorem lw_ms : ∀ w ∈ k2_sels lw_privs, w ∈ lw_tbl := fun w h => show w ∈ k2_sels lw_privs ++ tables_1 from List.mem_append_left _ h
theorem lw_m1 : ∀ w ∈ tables_1_1, w ∈ lw_tbl := fun w h => show w ∈ k2_sels lw_privs ++ tables_1 from List.mem_append_right (k2_sels lw_privs) (show w ∈ tables_1 from List.mem_append_left _ h)
theorem lw_m2 : ∀ w ∈ tables_1_2, w ∈ lw_tbl := fun w h => show w ∈ k2_sels lw_privs ++ tables_1 from List.mem_append_right (k2_sels lw_privs) (show w ∈ tables_1 from List.mem_append_right _ (List.mem_append_left _ h))
theorem lw_m3 : ∀ w ∈ tables_1_3, w ∈ lw_tbl := fun w h => show w ∈ k2_sels lw_privs ++ tables_1 from List.mem_append_right (k2_sels lw_privs) (show w ∈ tables_1 from List.mem_append_right _ (List.mem_append_right _ (List.mem_append_left _ h)))
theorem lw_m4 : ∀ w ∈ tables_1_4, w ∈ lw_tbl := fun w h => show w ∈ k2_sels lw_privs ++ tables_1 from List.mem_append_right (k2_sels lw_privs) (show w ∈ tables_1 from List.mem_append_right _ (List.mem_append_right _ (List.mem_append_right _ (List.mem_append_left _ h))))
theorem lw_m5 : ∀ w ∈ tables_1_5, w ∈ lw_tbl := fun w h => show w ∈ k2_sels lw_privs ++ tables_1 from List.mem_append_right (k2_sels lw_privs) (show w ∈ tables_1 from List.mem_append_right _ (List.mem_append_right _ (List.mem_append_right _ (List.mem_append_right _ (List.mem_append_left _ h)))))
theorem lw_m6 : ∀ w ∈ tables_1_6, w ∈ lw_tbl := fun w h => show w ∈ k2_sels lw_privs ++ tables_1 from List.mem_append_right (k2_sels lw_privs) (show w ∈ tables_1 from List.mem_append_right _ (List.mem_append_right _ (List.mem_append_right _ (List.mem_append_right _ (List.mem_append_right _ (List.mem_append_left _ h))))))
theorem lw_m7 : ∀ w ∈ tables_1_7, w ∈ lw_tbl := fun w h => show w ∈ k2_sels lw_privs ++ tables_1 from List.mem_append_right (k2_sels lw_privs) (show w ∈ tables_1 from List.mem_append_right _ (List.mem_append_right _ (List.mem_append_right _ (List.mem_append_right _ (List.mem_append_right _ (List.mem_append_right _ h))))))
theorem qs0 : (Cond.selects "KeyHall$View" ⟨"KeyHall$View", "up", "(LKeyHall$Key;Z)LKeyHall$Entry;"⟩ ⟨"KeyHall$View", "up", "(LKeyHall$Key;Z)LKeyHall$Entry;"⟩) ∈ lw_all := lw_g (lw_at lw_ms 0 rfl) rfl
theorem qs1 : (Cond.selects "KeyHall$BitTree" ⟨"KeyHall$BitTree", "nearest", "(LKeyHall$Key;ZI)LKeyHall$Entry;"⟩ ⟨"KeyHall$BitTree", "nearest", "(LKeyHall$Key;ZI)LKeyHall$Entry;"⟩) ∈ lw_all := lw_g (lw_at lw_ms 1 rfl) rfl
theorem qs2 : (Cond.selects "KeyHall$BitTree" ⟨"KeyHall$BitTree", "near", "(LKeyHall$Key;)LKeyHall$Entry;"⟩ ⟨"KeyHall$BitTree", "near", "(LKeyHall$Key;)LKeyHall$Entry;"⟩) ∈ lw_all := lw_g (lw_at lw_ms 2 rfl) rfl
theorem qs3 : (Cond.selects "KeyHall$BitTree" ⟨"KeyHall$BitTree", "aside", "(LKeyHall$Key;II)LKeyHall$Entry;"⟩ ⟨"KeyHall$BitTree", "aside", "(LKeyHall$Key;II)LKeyHall$Entry;"⟩) ∈ lw_all := lw_g (lw_at lw_ms 3 rfl) rfl
theorem qs4 : (Cond.selects "KeyHall$ListFan" ⟨"KeyHall$ListFan", "isWide", "()Z"⟩ ⟨"KeyHall$ListFan", "isWide", "()Z"⟩) ∈ lw_all := lw_g (lw_at lw_ms 4 rfl) rfl
theorem qs5 : (Cond.selects "KeyHall" ⟨"KeyHall", "use", "()LKeyHall$Key;"⟩ ⟨"KeyHall", "use", "()LKeyHall$Key;"⟩) ∈ lw_all := lw_g (lw_at lw_ms 5 rfl) rfl
theorem qs6 : (Cond.selects "KeyHall$Automaton" ⟨"KeyHall$Automaton", "step", "(IC)I"⟩ ⟨"KeyHall$Automaton", "step", "(IC)I"⟩) ∈ lw_all := lw_g (lw_at lw_ms 6 rfl) rfl
theorem qs7 : (Cond.selects "KeyHall$Scroll" ⟨"KeyHall$Scroll", "sort", "()V"⟩ ⟨"KeyHall$Scroll", "sort", "()V"⟩) ∈ lw_all := lw_g (lw_at lw_ms 7 rfl) rfl
theorem qs8 : (Cond.selects "KeyHall$Scroll" ⟨"KeyHall$Scroll", "compare", "(III)I"⟩ ⟨"KeyHall$Scroll", "compare", "(III)I"⟩) ∈ lw_all := lw_g (lw_at lw_ms 8 rfl) rfl
theorem qs9 : (Cond.selects "KeyHall$Scroll" ⟨"KeyHall$Scroll", "rank", "(I)I"⟩ ⟨"KeyHall$Scroll", "rank", "(I)I"⟩) ∈ lw_all := lw_g (lw_at lw_ms 9 rfl) rfl
theorem qs10 : (Cond.selects "KeyHall$Scroll" ⟨"KeyHall$Scroll", "share", "(I)V"⟩ ⟨"KeyHall$Scroll", "share", "(I)V"⟩) ∈ lw_all := lw_g (lw_at lw_ms 10 rfl) rfl
theorem qs11 : (Cond.selects "KeyHall$Scroll" ⟨"KeyHall$Scroll", "isBefore", "(ILKeyHall$Key;Z)Z"⟩ ⟨"KeyHall$Scroll", "isBefore", "(ILKeyHall$Key;Z)Z"⟩) ∈ lw_all := lw_g (lw_at lw_ms 11 rfl) rfl
theorem qs12 : (Cond.selects "java/lang/Throwable" ⟨"java/lang/Throwable", "fillInStackTrace", "(I)Ljava/lang/Throwable;"⟩ ⟨"java/lang/Throwable", "fillInStackTrace", "(I)Ljava/lang/Throwable;"⟩) ∈ lw_all := lw_g (lw_at lw_ms 12 rfl) rfl
theorem qs13 : (Cond.selects "KeyHall" ⟨"KeyHall", "of", "(I)LKeyHall$View;"⟩ ⟨"KeyHall", "of", "(I)LKeyHall$View;"⟩) ∈ lw_all := lw_g (lw_at lw_ms 13 rfl) rfl
theorem qs14 : (Cond.selects "KeyHall$ByteTree" ⟨"KeyHall$ByteTree", "descend", "(LKeyHall$Key;)LKeyHall$Twig;"⟩ ⟨"KeyHall$ByteTree", "descend", "(LKeyHall$Key;)LKeyHall$Twig;"⟩) ∈ lw_all := lw_g (lw_at lw_ms 14 rfl) rfl
theorem qs15 : (Cond.selects "KeyHall$BitTree" ⟨"KeyHall$BitTree", "join", "(LKeyHall$Fork;LKeyHall$Key;LKeyHall$Fork;)V"⟩ ⟨"KeyHall$BitTree", "join", "(LKeyHall$Fork;LKeyHall$Key;LKeyHall$Fork;)V"⟩) ∈ lw_all := lw_g (lw_at lw_ms 15 rfl) rfl
theorem qs16 : (Cond.selects "KeyHall$RowFan" ⟨"KeyHall$RowFan", "all", "(LKeyHall$Fan;)V"⟩ ⟨"KeyHall$RowFan", "all", "(LKeyHall$Fan;)V"⟩) ∈ lw_all := lw_g (lw_at lw_ms 16 rfl) rfl
theorem qs17 : (Cond.selects "KeyHall$ListFan" ⟨"KeyHall$ListFan", "widen", "()V"⟩ ⟨"KeyHall$ListFan", "widen", "()V"⟩) ∈ lw_all := lw_g (lw_at lw_ms 17 rfl) rfl
theorem qs18 : (Cond.selects "KeyHall" ⟨"KeyHall", "entry", "(LKeyHall$View;)LKeyHall$Entry;"⟩ ⟨"KeyHall", "entry", "(LKeyHall$View;)LKeyHall$Entry;"⟩) ∈ lw_all := lw_g (lw_at lw_ms 18 rfl) rfl
theorem qs19 : (Cond.selects "KeyHall$ListFan" ⟨"KeyHall$ListFan", "narrow", "()V"⟩ ⟨"KeyHall$ListFan", "narrow", "()V"⟩) ∈ lw_all := lw_g (lw_at lw_ms 19 rfl) rfl
theorem qs20 : (Cond.selects "KeyHall$View" ⟨"KeyHall$View", "down", "(LKeyHall$Key;Z)LKeyHall$Entry;"⟩ ⟨"KeyHall$View", "down", "(LKeyHall$Key;Z)LKeyHall$Entry;"⟩) ∈ lw_all := lw_g (lw_at lw_ms 20 rfl) rfl
theorem qs21 : (Cond.selects "KeyHall" ⟨"KeyHall", "tell", "(LKeyHall$Entry;)I"⟩ ⟨"KeyHall", "tell", "(LKeyHall$Entry;)I"⟩) ∈ lw_all := lw_g (lw_at lw_ms 21 rfl) rfl
theorem qs22 : (Cond.selects "KeyHall$Automaton" ⟨"KeyHall$Automaton", "state", "()I"⟩ ⟨"KeyHall$Automaton", "state", "()I"⟩) ∈ lw_all := lw_g (lw_at lw_ms 22 rfl) rfl
theorem qs23 : (Cond.selects "KeyHall$Automaton" ⟨"KeyHall$Automaton", "isLike", "(II)Z"⟩ ⟨"KeyHall$Automaton", "isLike", "(II)Z"⟩) ∈ lw_all := lw_g (lw_at lw_ms 23 rfl) rfl
theorem qs24 : (Cond.selects "KeyHall$Rope" ⟨"KeyHall$Rope", "even", "()LKeyHall$Rope;"⟩ ⟨"KeyHall$Rope", "even", "()LKeyHall$Rope;"⟩) ∈ lw_all := lw_g (lw_at lw_ms 24 rfl) rfl
theorem qs25 : (Cond.selects "KeyHall$Scroll" ⟨"KeyHall$Scroll", "become", "(LKeyHall$Rope;)I"⟩ ⟨"KeyHall$Scroll", "become", "(LKeyHall$Rope;)I"⟩) ∈ lw_all := lw_g (lw_at lw_ms 25 rfl) rfl
theorem qs26 : (Cond.selects "KeyHallModel" ⟨"KeyHallModel", "isView", "(I)Z"⟩ ⟨"KeyHallModel", "isView", "(I)Z"⟩) ∈ lw_all := lw_g (lw_at lw_ms 26 rfl) rfl
theorem qs27 : (Cond.selects "KeyHallModel" ⟨"KeyHallModel", "raise", "(I)I"⟩ ⟨"KeyHallModel", "raise", "(I)I"⟩) ∈ lw_all := lw_g (lw_at lw_ms 27 rfl) rfl
theorem qs28 : (Cond.selects "KeyHallModel" ⟨"KeyHallModel", "within", "(I[III)Z"⟩ ⟨"KeyHallModel", "within", "(I[III)Z"⟩) ∈ lw_all := lw_g (lw_at lw_ms 28 rfl) rfl
theorem qs29 : (Cond.selects "KeyHallModel" ⟨"KeyHallModel", "mapOf", "(I)I"⟩ ⟨"KeyHallModel", "mapOf", "(I)I"⟩) ∈ lw_all := lw_g (lw_at lw_ms 29 rfl) rfl
theorem qs30 : (Cond.selects "KeyHallModel" ⟨"KeyHallModel", "keyOf", "(I[III)I"⟩ ⟨"KeyHallModel", "keyOf", "(I[III)I"⟩) ∈ lw_all := lw_g (lw_at lw_ms 30 rfl) rfl
theorem qs31 : (Cond.selects "KeyHallModel" ⟨"KeyHallModel", "orderOf", "(I[III)I"⟩ ⟨"KeyHallModel", "orderOf", "(I[III)I"⟩) ∈ lw_all := lw_g (lw_at lw_ms 31 rfl) rfl
theorem qs32 : (Cond.selects "KeyHallModel" ⟨"KeyHallModel", "used", "(I)I"⟩ ⟨"KeyHallModel", "used", "(I)I"⟩) ∈ lw_all := lw_g (lw_at lw_ms 32 rfl) rfl
theorem qs33 : (Cond.selects "KeyHallModel" ⟨"KeyHallModel", "clear", "(II)V"⟩ ⟨"KeyHallModel", "clear", "(II)V"⟩) ∈ lw_all := lw_g (lw_at lw_ms 33 rfl) rfl
theorem qs34 : (Cond.selects "KeyHallModel" ⟨"KeyHallModel", "has", "(II)Z"⟩ ⟨"KeyHallModel", "has", "(II)Z"⟩) ∈ lw_all := lw_g (lw_at lw_ms 34 rfl) rfl
theorem qs35 : (Cond.selects "KeyHallModel" ⟨"KeyHallModel", "nearest", "(IZZ[III)I"⟩ ⟨"KeyHallModel", "nearest", "(IZZ[III)I"⟩) ∈ lw_all := lw_g (lw_at lw_ms 35 rfl) rfl
theorem qs36 : (Cond.selects "KeyHallModel" ⟨"KeyHallModel", "side", "(II[III)I"⟩ ⟨"KeyHallModel", "side", "(II[III)I"⟩) ∈ lw_all := lw_g (lw_at lw_ms 36 rfl) rfl
theorem qs37 : (Cond.selects "KeyHallModel" ⟨"KeyHallModel", "isTurned", "(I)Z"⟩ ⟨"KeyHallModel", "isTurned", "(I)Z"⟩) ∈ lw_all := lw_g (lw_at lw_ms 37 rfl) rfl
theorem qs38 : (Cond.selects "KeyHallModel" ⟨"KeyHallModel", "tell", "(II)I"⟩ ⟨"KeyHallModel", "tell", "(II)I"⟩) ∈ lw_all := lw_g (lw_at lw_ms 38 rfl) rfl
theorem qs39 : (Cond.selects "KeyHallModel" ⟨"KeyHallModel", "longest", "(II)I"⟩ ⟨"KeyHallModel", "longest", "(II)I"⟩) ∈ lw_all := lw_g (lw_at lw_ms 39 rfl) rfl
theorem qs40 : (Cond.selects "KeyHallModel" ⟨"KeyHallModel", "stale", "(I)Z"⟩ ⟨"KeyHallModel", "stale", "(I)Z"⟩) ∈ lw_all := lw_g (lw_at lw_ms 40 rfl) rfl
theorem qs41 : (Cond.selects "KeyHallModel" ⟨"KeyHallModel", "inner", "(I)I"⟩ ⟨"KeyHallModel", "inner", "(I)I"⟩) ∈ lw_all := lw_g (lw_at lw_ms 41 rfl) rfl
theorem qs42 : (Cond.selects "KeyHallModel" ⟨"KeyHallModel", "fan", "(II)I"⟩ ⟨"KeyHallModel", "fan", "(II)I"⟩) ∈ lw_all := lw_g (lw_at lw_ms 42 rfl) rfl
theorem qs43 : (Cond.selects "KeyHallModel" ⟨"KeyHallModel", "sameBytes", "(III)Z"⟩ ⟨"KeyHallModel", "sameBytes", "(III)Z"⟩) ∈ lw_all := lw_g (lw_at lw_ms 43 rfl) rfl
theorem qs44 : (Cond.selects "KeyHallModel" ⟨"KeyHallModel", "octet", "(II)I"⟩ ⟨"KeyHallModel", "octet", "(II)I"⟩) ∈ lw_all := lw_g (lw_at lw_ms 44 rfl) rfl
theorem qs45 : (Cond.selects "KeyHallModel" ⟨"KeyHallModel", "depth", "(I)I"⟩ ⟨"KeyHallModel", "depth", "(I)I"⟩) ∈ lw_all := lw_g (lw_at lw_ms 45 rfl) rfl
theorem qs46 : (Cond.selects "KeyHallModel" ⟨"KeyHallModel", "bit", "(II)I"⟩ ⟨"KeyHallModel", "bit", "(II)I"⟩) ∈ lw_all := lw_g (lw_at lw_ms 46 rfl) rfl
theorem qs47 : (Cond.selects "KeyHallModel" ⟨"KeyHallModel", "prefixesOf", "(II)V"⟩ ⟨"KeyHallModel", "prefixesOf", "(II)V"⟩) ∈ lw_all := lw_g (lw_at lw_ms 47 rfl) rfl
theorem qs48 : (Cond.selects "KeyHallModel" ⟨"KeyHallModel", "samePrefix", "(III)Z"⟩ ⟨"KeyHallModel", "samePrefix", "(III)Z"⟩) ∈ lw_all := lw_g (lw_at lw_ms 48 rfl) rfl
theorem qs49 : (Cond.selects "KeyHallModel" ⟨"KeyHallModel", "state", "(II)V"⟩ ⟨"KeyHallModel", "state", "(II)V"⟩) ∈ lw_all := lw_g (lw_at lw_ms 49 rfl) rfl
theorem qs50 : (Cond.selects "KeyHallModel" ⟨"KeyHallModel", "endsAt", "(II)Z"⟩ ⟨"KeyHallModel", "endsAt", "(II)Z"⟩) ∈ lw_all := lw_g (lw_at lw_ms 50 rfl) rfl
theorem qs51 : (Cond.selects "KeyHallModel" ⟨"KeyHallModel", "follows", "(II)Z"⟩ ⟨"KeyHallModel", "follows", "(II)Z"⟩) ∈ lw_all := lw_g (lw_at lw_ms 51 rfl) rfl
theorem qs52 : (Cond.selects "KeyHallModel" ⟨"KeyHallModel", "stepsOf", "(I)I"⟩ ⟨"KeyHallModel", "stepsOf", "(I)I"⟩) ∈ lw_all := lw_g (lw_at lw_ms 52 rfl) rfl
theorem qs53 : (Cond.selects "KeyHallModel" ⟨"KeyHallModel", "alike", "(II)Z"⟩ ⟨"KeyHallModel", "alike", "(II)Z"⟩) ∈ lw_all := lw_g (lw_at lw_ms 53 rfl) rfl
theorem qs54 : (Cond.selects "KeyHallModel" ⟨"KeyHallModel", "go", "(II)I"⟩ ⟨"KeyHallModel", "go", "(II)I"⟩) ∈ lw_all := lw_g (lw_at lw_ms 54 rfl) rfl
theorem qs55 : (Cond.selects "KeyHallModel" ⟨"KeyHallModel", "keep", "()V"⟩ ⟨"KeyHallModel", "keep", "()V"⟩) ∈ lw_all := lw_g (lw_at lw_ms 55 rfl) rfl
theorem qs56 : (Cond.selects "KeyHallModel" ⟨"KeyHallModel", "begin", "(I)I"⟩ ⟨"KeyHallModel", "begin", "(I)I"⟩) ∈ lw_all := lw_g (lw_at lw_ms 56 rfl) rfl
-- ===== end of PART A; then your names; then what follows =====
