-- ===== PART A: goes FIRST, ahead of the names: the tables' words, and 'selects' of the private methods out of them =====
/-- a private method of a class that the tables say can be made, by its rows of tables_1 -/
def lw_okq (q : MethodName × Nat) : Prop := (q.1.cls ≠ "java/lang/invoke/MethodHandle" ∧ q.1.cls ≠ "java/lang/invoke/VarHandle") ∧ Cond.instantiable q.1.cls q.2 ∈ tables_1 ∧ Cond.privateMethod q.1 ∈ tables_1 ∧ Cond.instanceMethod q.1 ∈ tables_1
set_option maxRecDepth 100000
theorem lw_t1 {w : Cond} (h : w ∈ tables_1_1) : w ∈ tables_1 := List.mem_append_left _ h
theorem lw_t2 {w : Cond} (h : w ∈ tables_1_2) : w ∈ tables_1 := List.mem_append_right _ (List.mem_append_left _ h)
theorem lw_t3 {w : Cond} (h : w ∈ tables_1_3) : w ∈ tables_1 := List.mem_append_right _ (List.mem_append_right _ (List.mem_append_left _ h))
theorem lw_t4 {w : Cond} (h : w ∈ tables_1_4) : w ∈ tables_1 := List.mem_append_right _ (List.mem_append_right _ (List.mem_append_right _ (List.mem_append_left _ h)))
theorem lw_t5 {w : Cond} (h : w ∈ tables_1_5) : w ∈ tables_1 := List.mem_append_right _ (List.mem_append_right _ (List.mem_append_right _ (List.mem_append_right _ (List.mem_append_left _ h))))
theorem lw_t6 {w : Cond} (h : w ∈ tables_1_6) : w ∈ tables_1 := List.mem_append_right _ (List.mem_append_right _ (List.mem_append_right _ (List.mem_append_right _ (List.mem_append_right _ (List.mem_append_left _ h)))))
theorem lw_t7 {w : Cond} (h : w ∈ tables_1_7) : w ∈ tables_1 := List.mem_append_right _ (List.mem_append_right _ (List.mem_append_right _ (List.mem_append_right _ (List.mem_append_right _ (List.mem_append_right _ h)))))
theorem lw_p0 : lw_okq (⟨"TollOnVowels", "begins", "(I)I"⟩, 68) := ⟨⟨by decide +kernel, by decide +kernel⟩, lw_t1 (List.mem_of_getElem? (i := 22) rfl), lw_t2 (List.mem_of_getElem? (i := 51) rfl), lw_t2 (List.mem_of_getElem? (i := 52) rfl)⟩
theorem lw_p1 : lw_okq (⟨"TollOnVowels", "readsWord", "()Z"⟩, 68) := ⟨⟨by decide +kernel, by decide +kernel⟩, lw_t1 (List.mem_of_getElem? (i := 22) rfl), lw_t2 (List.mem_of_getElem? (i := 58) rfl), lw_t2 (List.mem_of_getElem? (i := 59) rfl)⟩
theorem lw_p2 : lw_okq (⟨"TollOnVowels", "takesOf", "(Ljava/lang/String;)I"⟩, 68) := ⟨⟨by decide +kernel, by decide +kernel⟩, lw_t1 (List.mem_of_getElem? (i := 22) rfl), lw_t2 (List.mem_of_getElem? (i := 63) rfl), lw_t2 (List.mem_of_getElem? (i := 64) rfl)⟩
theorem lw_p3 : lw_okq (⟨"TollOnVowels", "among", "(Ljava/lang/String;)I"⟩, 68) := ⟨⟨by decide +kernel, by decide +kernel⟩, lw_t1 (List.mem_of_getElem? (i := 22) rfl), lw_t2 (List.mem_of_getElem? (i := 67) rfl), lw_t2 (List.mem_of_getElem? (i := 68) rfl)⟩
theorem lw_p4 : lw_okq (⟨"TollOnVowels", "eats", "(C)Z"⟩, 68) := ⟨⟨by decide +kernel, by decide +kernel⟩, lw_t1 (List.mem_of_getElem? (i := 22) rfl), lw_t2 (List.mem_of_getElem? (i := 156) rfl), lw_t2 (List.mem_of_getElem? (i := 157) rfl)⟩
theorem lw_p5 : lw_okq (⟨"TollOnVowels", "isAt", "(C)Z"⟩, 68) := ⟨⟨by decide +kernel, by decide +kernel⟩, lw_t1 (List.mem_of_getElem? (i := 22) rfl), lw_t2 (List.mem_of_getElem? (i := 160) rfl), lw_t2 (List.mem_of_getElem? (i := 161) rfl)⟩
theorem lw_p6 : lw_okq (⟨"TollOnVowels", "faultOf", "(IZ)I"⟩, 68) := ⟨⟨by decide +kernel, by decide +kernel⟩, lw_t1 (List.mem_of_getElem? (i := 22) rfl), lw_t2 (List.mem_of_getElem? (i := 164) rfl), lw_t2 (List.mem_of_getElem? (i := 165) rfl)⟩
theorem lw_p7 : lw_okq (⟨"TollOnVowels", "isNew", "()V"⟩, 68) := ⟨⟨by decide +kernel, by decide +kernel⟩, lw_t1 (List.mem_of_getElem? (i := 22) rfl), lw_t2 (List.mem_of_getElem? (i := 171) rfl), lw_t2 (List.mem_of_getElem? (i := 172) rfl)⟩
theorem lw_p8 : lw_okq (⟨"TollOnVowels", "readsTraveller", "()Z"⟩, 68) := ⟨⟨by decide +kernel, by decide +kernel⟩, lw_t1 (List.mem_of_getElem? (i := 22) rfl), lw_t2 (List.mem_of_getElem? (i := 180) rfl), lw_t2 (List.mem_of_getElem? (i := 181) rfl)⟩
theorem lw_p9 : lw_okq (⟨"TollOnVowels", "readsStation", "()I"⟩, 68) := ⟨⟨by decide +kernel, by decide +kernel⟩, lw_t1 (List.mem_of_getElem? (i := 22) rfl), lw_t2 (List.mem_of_getElem? (i := 184) rfl), lw_t2 (List.mem_of_getElem? (i := 185) rfl)⟩
theorem lw_p10 : lw_okq (⟨"TollOnVowels", "number", "(I)I"⟩, 68) := ⟨⟨by decide +kernel, by decide +kernel⟩, lw_t1 (List.mem_of_getElem? (i := 22) rfl), lw_t2 (List.mem_of_getElem? (i := 188) rfl), lw_t2 (List.mem_of_getElem? (i := 189) rfl)⟩
theorem lw_p11 : lw_okq (⟨"TollOnVowels", "isDigit", "()Z"⟩, 68) := ⟨⟨by decide +kernel, by decide +kernel⟩, lw_t1 (List.mem_of_getElem? (i := 22) rfl), lw_t2 (List.mem_of_getElem? (i := 192) rfl), lw_t2 (List.mem_of_getElem? (i := 193) rfl)⟩
theorem lw_p12 : lw_okq (⟨"TollOnVowels", "readsErrand", "()Z"⟩, 68) := ⟨⟨by decide +kernel, by decide +kernel⟩, lw_t1 (List.mem_of_getElem? (i := 22) rfl), lw_t2 (List.mem_of_getElem? (i := 202) rfl), lw_t2 (List.mem_of_getElem? (i := 203) rfl)⟩
theorem lw_p13 : lw_okq (⟨"TollOnVowels", "readsRule", "()I"⟩, 68) := ⟨⟨by decide +kernel, by decide +kernel⟩, lw_t1 (List.mem_of_getElem? (i := 22) rfl), lw_t2 (List.mem_of_getElem? (i := 216) rfl), lw_t2 (List.mem_of_getElem? (i := 217) rfl)⟩
theorem lw_p14 : lw_okq (⟨"TollOnVowels", "reads", "(I)LTollOnVowels$Node;"⟩, 68) := ⟨⟨by decide +kernel, by decide +kernel⟩, lw_t1 (List.mem_of_getElem? (i := 22) rfl), lw_t2 (List.mem_of_getElem? (i := 220) rfl), lw_t2 (List.mem_of_getElem? (i := 221) rfl)⟩
theorem lw_p15 : lw_okq (⟨"TollOnVowels", "readsThing", "()LTollOnVowels$Node;"⟩, 68) := ⟨⟨by decide +kernel, by decide +kernel⟩, lw_t1 (List.mem_of_getElem? (i := 22) rfl), lw_t2 (List.mem_of_getElem? (i := 224) rfl), lw_t2 (List.mem_of_getElem? (i := 225) rfl)⟩
def lw_privs_1 : List (MethodName × Nat) := [(⟨"TollOnVowels", "begins", "(I)I"⟩, 68), (⟨"TollOnVowels", "readsWord", "()Z"⟩, 68), (⟨"TollOnVowels", "takesOf", "(Ljava/lang/String;)I"⟩, 68), (⟨"TollOnVowels", "among", "(Ljava/lang/String;)I"⟩, 68), (⟨"TollOnVowels", "eats", "(C)Z"⟩, 68), (⟨"TollOnVowels", "isAt", "(C)Z"⟩, 68), (⟨"TollOnVowels", "faultOf", "(IZ)I"⟩, 68), (⟨"TollOnVowels", "isNew", "()V"⟩, 68), (⟨"TollOnVowels", "readsTraveller", "()Z"⟩, 68), (⟨"TollOnVowels", "readsStation", "()I"⟩, 68), (⟨"TollOnVowels", "number", "(I)I"⟩, 68), (⟨"TollOnVowels", "isDigit", "()Z"⟩, 68), (⟨"TollOnVowels", "readsErrand", "()Z"⟩, 68), (⟨"TollOnVowels", "readsRule", "()I"⟩, 68), (⟨"TollOnVowels", "reads", "(I)LTollOnVowels$Node;"⟩, 68), (⟨"TollOnVowels", "readsThing", "()LTollOnVowels$Node;"⟩, 68)]
theorem lw_r1 : ∀ q ∈ lw_privs_1, lw_okq q := List.forall_mem_cons.mpr ⟨lw_p0, List.forall_mem_cons.mpr ⟨lw_p1, List.forall_mem_cons.mpr ⟨lw_p2, List.forall_mem_cons.mpr ⟨lw_p3, List.forall_mem_cons.mpr ⟨lw_p4, List.forall_mem_cons.mpr ⟨lw_p5, List.forall_mem_cons.mpr ⟨lw_p6, List.forall_mem_cons.mpr ⟨lw_p7, List.forall_mem_cons.mpr ⟨lw_p8, List.forall_mem_cons.mpr ⟨lw_p9, List.forall_mem_cons.mpr ⟨lw_p10, List.forall_mem_cons.mpr ⟨lw_p11, List.forall_mem_cons.mpr ⟨lw_p12, List.forall_mem_cons.mpr ⟨lw_p13, List.forall_mem_cons.mpr ⟨lw_p14, List.forall_mem_cons.mpr ⟨lw_p15, fun _ h => absurd h List.not_mem_nil⟩⟩⟩⟩⟩⟩⟩⟩⟩⟩⟩⟩⟩⟩⟩⟩
theorem lw_p16 : lw_okq (⟨"TollOnVowels", "isWord", "(I)Z"⟩, 68) := ⟨⟨by decide +kernel, by decide +kernel⟩, lw_t1 (List.mem_of_getElem? (i := 22) rfl), lw_t3 (List.mem_of_getElem? (i := 80) rfl), lw_t3 (List.mem_of_getElem? (i := 81) rfl)⟩
theorem lw_p17 : lw_okq (⟨"TollOnVowels", "isStation", "(I)Z"⟩, 68) := ⟨⟨by decide +kernel, by decide +kernel⟩, lw_t1 (List.mem_of_getElem? (i := 22) rfl), lw_t3 (List.mem_of_getElem? (i := 84) rfl), lw_t3 (List.mem_of_getElem? (i := 85) rfl)⟩
theorem lw_p18 : lw_okq (⟨"TollOnVowels", "tollOf", "(III)I"⟩, 68) := ⟨⟨by decide +kernel, by decide +kernel⟩, lw_t1 (List.mem_of_getElem? (i := 22) rfl), lw_t3 (List.mem_of_getElem? (i := 88) rfl), lw_t3 (List.mem_of_getElem? (i := 89) rfl)⟩
theorem lw_p19 : lw_okq (⟨"TollOnVowels", "vowelAt", "(II)I"⟩, 68) := ⟨⟨by decide +kernel, by decide +kernel⟩, lw_t1 (List.mem_of_getElem? (i := 22) rfl), lw_t3 (List.mem_of_getElem? (i := 92) rfl), lw_t3 (List.mem_of_getElem? (i := 93) rfl)⟩
theorem lw_p20 : lw_okq (⟨"TollOnVowels", "tells", "(J)V"⟩, 68) := ⟨⟨by decide +kernel, by decide +kernel⟩, lw_t1 (List.mem_of_getElem? (i := 22) rfl), lw_t3 (List.mem_of_getElem? (i := 114) rfl), lw_t3 (List.mem_of_getElem? (i := 115) rfl)⟩
theorem lw_p21 : lw_okq (⟨"TollOnVowels", "walks", "(LTollOnVowels$Road;II)I"⟩, 68) := ⟨⟨by decide +kernel, by decide +kernel⟩, lw_t1 (List.mem_of_getElem? (i := 22) rfl), lw_t3 (List.mem_of_getElem? (i := 122) rfl), lw_t3 (List.mem_of_getElem? (i := 123) rfl)⟩
theorem lw_p22 : lw_okq (⟨"TollOnVowels", "isTraveller", "(I)Z"⟩, 68) := ⟨⟨by decide +kernel, by decide +kernel⟩, lw_t1 (List.mem_of_getElem? (i := 22) rfl), lw_t3 (List.mem_of_getElem? (i := 126) rfl), lw_t3 (List.mem_of_getElem? (i := 127) rfl)⟩
theorem lw_p23 : lw_okq (⟨"TollOnVowels", "counts", "(I)I"⟩, 68) := ⟨⟨by decide +kernel, by decide +kernel⟩, lw_t1 (List.mem_of_getElem? (i := 22) rfl), lw_t3 (List.mem_of_getElem? (i := 130) rfl), lw_t3 (List.mem_of_getElem? (i := 131) rfl)⟩
theorem lw_p24 : lw_okq (⟨"TollOnVowels", "putsBy", "(LTollOnVowels$Road;)V"⟩, 68) := ⟨⟨by decide +kernel, by decide +kernel⟩, lw_t1 (List.mem_of_getElem? (i := 22) rfl), lw_t3 (List.mem_of_getElem? (i := 134) rfl), lw_t3 (List.mem_of_getElem? (i := 135) rfl)⟩
theorem lw_p25 : lw_okq (⟨"TollOnVowels", "says", "(LTollOnVowels$Road;II)I"⟩, 68) := ⟨⟨by decide +kernel, by decide +kernel⟩, lw_t1 (List.mem_of_getElem? (i := 22) rfl), lw_t3 (List.mem_of_getElem? (i := 147) rfl), lw_t3 (List.mem_of_getElem? (i := 148) rfl)⟩
theorem lw_p26 : lw_okq (⟨"TollOnVowels", "doesBy", "(IIII)I"⟩, 68) := ⟨⟨by decide +kernel, by decide +kernel⟩, lw_t1 (List.mem_of_getElem? (i := 22) rfl), lw_t3 (List.mem_of_getElem? (i := 159) rfl), lw_t3 (List.mem_of_getElem? (i := 160) rfl)⟩
theorem lw_p27 : lw_okq (⟨"TollOnVowels", "means", "(II)Z"⟩, 68) := ⟨⟨by decide +kernel, by decide +kernel⟩, lw_t1 (List.mem_of_getElem? (i := 22) rfl), lw_t3 (List.mem_of_getElem? (i := 166) rfl), lw_t3 (List.mem_of_getElem? (i := 167) rfl)⟩
theorem lw_p28 : lw_okq (⟨"TollOnVowels", "givesAlms", "(III)I"⟩, 68) := ⟨⟨by decide +kernel, by decide +kernel⟩, lw_t1 (List.mem_of_getElem? (i := 22) rfl), lw_t3 (List.mem_of_getElem? (i := 174) rfl), lw_t3 (List.mem_of_getElem? (i := 175) rfl)⟩
theorem lw_p29 : lw_okq (⟨"TollOnVowels", "readsAct", "()Z"⟩, 68) := ⟨⟨by decide +kernel, by decide +kernel⟩, lw_t1 (List.mem_of_getElem? (i := 22) rfl), lw_t3 (List.mem_of_getElem? (i := 183) rfl), lw_t3 (List.mem_of_getElem? (i := 184) rfl)⟩
theorem lw_p30 : lw_okq (⟨"TollOnVowels", "does", "(I)Z"⟩, 68) := ⟨⟨by decide +kernel, by decide +kernel⟩, lw_t1 (List.mem_of_getElem? (i := 22) rfl), lw_t3 (List.mem_of_getElem? (i := 189) rfl), lw_t3 (List.mem_of_getElem? (i := 190) rfl)⟩
theorem lw_p31 : lw_okq (⟨"TollOnVowels", "wordFor", "(I)I"⟩, 68) := ⟨⟨by decide +kernel, by decide +kernel⟩, lw_t1 (List.mem_of_getElem? (i := 22) rfl), lw_t3 (List.mem_of_getElem? (i := 193) rfl), lw_t3 (List.mem_of_getElem? (i := 194) rfl)⟩
def lw_privs_2 : List (MethodName × Nat) := [(⟨"TollOnVowels", "isWord", "(I)Z"⟩, 68), (⟨"TollOnVowels", "isStation", "(I)Z"⟩, 68), (⟨"TollOnVowels", "tollOf", "(III)I"⟩, 68), (⟨"TollOnVowels", "vowelAt", "(II)I"⟩, 68), (⟨"TollOnVowels", "tells", "(J)V"⟩, 68), (⟨"TollOnVowels", "walks", "(LTollOnVowels$Road;II)I"⟩, 68), (⟨"TollOnVowels", "isTraveller", "(I)Z"⟩, 68), (⟨"TollOnVowels", "counts", "(I)I"⟩, 68), (⟨"TollOnVowels", "putsBy", "(LTollOnVowels$Road;)V"⟩, 68), (⟨"TollOnVowels", "says", "(LTollOnVowels$Road;II)I"⟩, 68), (⟨"TollOnVowels", "doesBy", "(IIII)I"⟩, 68), (⟨"TollOnVowels", "means", "(II)Z"⟩, 68), (⟨"TollOnVowels", "givesAlms", "(III)I"⟩, 68), (⟨"TollOnVowels", "readsAct", "()Z"⟩, 68), (⟨"TollOnVowels", "does", "(I)Z"⟩, 68), (⟨"TollOnVowels", "wordFor", "(I)I"⟩, 68)]
theorem lw_r2 : ∀ q ∈ lw_privs_2, lw_okq q := List.forall_mem_cons.mpr ⟨lw_p16, List.forall_mem_cons.mpr ⟨lw_p17, List.forall_mem_cons.mpr ⟨lw_p18, List.forall_mem_cons.mpr ⟨lw_p19, List.forall_mem_cons.mpr ⟨lw_p20, List.forall_mem_cons.mpr ⟨lw_p21, List.forall_mem_cons.mpr ⟨lw_p22, List.forall_mem_cons.mpr ⟨lw_p23, List.forall_mem_cons.mpr ⟨lw_p24, List.forall_mem_cons.mpr ⟨lw_p25, List.forall_mem_cons.mpr ⟨lw_p26, List.forall_mem_cons.mpr ⟨lw_p27, List.forall_mem_cons.mpr ⟨lw_p28, List.forall_mem_cons.mpr ⟨lw_p29, List.forall_mem_cons.mpr ⟨lw_p30, List.forall_mem_cons.mpr ⟨lw_p31, fun _ h => absurd h List.not_mem_nil⟩⟩⟩⟩⟩⟩⟩⟩⟩⟩⟩⟩⟩⟩⟩⟩
theorem lw_p32 : lw_okq (⟨"TollOnVowels", "errandsOf", "(I)I"⟩, 68) := ⟨⟨by decide +kernel, by decide +kernel⟩, lw_t1 (List.mem_of_getElem? (i := 22) rfl), lw_t3 (List.mem_of_getElem? (i := 197) rfl), lw_t3 (List.mem_of_getElem? (i := 198) rfl)⟩
theorem lw_p33 : lw_okq (⟨"TollOnVowels", "cheapestFor", "(III)I"⟩, 68) := ⟨⟨by decide +kernel, by decide +kernel⟩, lw_t1 (List.mem_of_getElem? (i := 22) rfl), lw_t3 (List.mem_of_getElem? (i := 201) rfl), lw_t3 (List.mem_of_getElem? (i := 202) rfl)⟩
theorem lw_p34 : lw_okq (⟨"TollOnVowels", "tollNow", "(II)I"⟩, 68) := ⟨⟨by decide +kernel, by decide +kernel⟩, lw_t1 (List.mem_of_getElem? (i := 22) rfl), lw_t3 (List.mem_of_getElem? (i := 206) rfl), lw_t3 (List.mem_of_getElem? (i := 207) rfl)⟩
theorem lw_p35 : lw_okq (⟨"TollOnVowels", "vowelsOf", "(I)I"⟩, 68) := ⟨⟨by decide +kernel, by decide +kernel⟩, lw_t1 (List.mem_of_getElem? (i := 22) rfl), lw_t3 (List.mem_of_getElem? (i := 210) rfl), lw_t3 (List.mem_of_getElem? (i := 211) rfl)⟩
theorem lw_p36 : lw_okq (⟨"TollOnVowels", "paid", "(I)Z"⟩, 68) := ⟨⟨by decide +kernel, by decide +kernel⟩, lw_t1 (List.mem_of_getElem? (i := 22) rfl), lw_t3 (List.mem_of_getElem? (i := 214) rfl), lw_t3 (List.mem_of_getElem? (i := 215) rfl)⟩
theorem lw_p37 : lw_okq (⟨"TollOnVowels", "costFrom", "(III)I"⟩, 68) := ⟨⟨by decide +kernel, by decide +kernel⟩, lw_t1 (List.mem_of_getElem? (i := 22) rfl), lw_t3 (List.mem_of_getElem? (i := 227) rfl), lw_t3 (List.mem_of_getElem? (i := 228) rfl)⟩
theorem lw_p38 : lw_okq (⟨"TollOnVowels", "tellsFrom", "(II)I"⟩, 68) := ⟨⟨by decide +kernel, by decide +kernel⟩, lw_t1 (List.mem_of_getElem? (i := 22) rfl), lw_t3 (List.mem_of_getElem? (i := 231) rfl), lw_t3 (List.mem_of_getElem? (i := 232) rfl)⟩
theorem lw_p39 : lw_okq (⟨"TollOnVowels", "changesOf", "(IIZ)I"⟩, 68) := ⟨⟨by decide +kernel, by decide +kernel⟩, lw_t1 (List.mem_of_getElem? (i := 22) rfl), lw_t4 (List.mem_of_getElem? (i := 7) rfl), lw_t4 (List.mem_of_getElem? (i := 8) rfl)⟩
theorem lw_p40 : lw_okq (⟨"TollOnVowels", "laysRow", "(I[IZ)I"⟩, 68) := ⟨⟨by decide +kernel, by decide +kernel⟩, lw_t1 (List.mem_of_getElem? (i := 22) rfl), lw_t4 (List.mem_of_getElem? (i := 11) rfl), lw_t4 (List.mem_of_getElem? (i := 12) rfl)⟩
theorem lw_p41 : lw_okq (⟨"TollOnVowels", "areApart", "(II)Z"⟩, 68) := ⟨⟨by decide +kernel, by decide +kernel⟩, lw_t1 (List.mem_of_getElem? (i := 22) rfl), lw_t4 (List.mem_of_getElem? (i := 38) rfl), lw_t4 (List.mem_of_getElem? (i := 39) rfl)⟩
theorem lw_p42 : lw_okq (⟨"TollOnVowels", "tollOfAll", "(I)I"⟩, 68) := ⟨⟨by decide +kernel, by decide +kernel⟩, lw_t1 (List.mem_of_getElem? (i := 22) rfl), lw_t4 (List.mem_of_getElem? (i := 42) rfl), lw_t4 (List.mem_of_getElem? (i := 43) rfl)⟩
theorem lw_p43 : lw_okq (⟨"TollOnVowels", "laysTrip", "(II)V"⟩, 68) := ⟨⟨by decide +kernel, by decide +kernel⟩, lw_t1 (List.mem_of_getElem? (i := 22) rfl), lw_t4 (List.mem_of_getElem? (i := 51) rfl), lw_t4 (List.mem_of_getElem? (i := 52) rfl)⟩
theorem lw_p44 : lw_okq (⟨"TollOnVowels", "laysSayings", "(III)V"⟩, 68) := ⟨⟨by decide +kernel, by decide +kernel⟩, lw_t1 (List.mem_of_getElem? (i := 22) rfl), lw_t4 (List.mem_of_getElem? (i := 58) rfl), lw_t4 (List.mem_of_getElem? (i := 59) rfl)⟩
theorem lw_p45 : lw_okq (⟨"TollOnVowels", "lessens", "(II)V"⟩, 68) := ⟨⟨by decide +kernel, by decide +kernel⟩, lw_t1 (List.mem_of_getElem? (i := 22) rfl), lw_t4 (List.mem_of_getElem? (i := 62) rfl), lw_t4 (List.mem_of_getElem? (i := 63) rfl)⟩
theorem lw_p46 : lw_okq (⟨"TollOnVowels", "goesOn", "(II)V"⟩, 68) := ⟨⟨by decide +kernel, by decide +kernel⟩, lw_t1 (List.mem_of_getElem? (i := 22) rfl), lw_t4 (List.mem_of_getElem? (i := 66) rfl), lw_t4 (List.mem_of_getElem? (i := 67) rfl)⟩
theorem lw_p47 : lw_okq (⟨"TollOnVowels", "doneIn", "(II)I"⟩, 68) := ⟨⟨by decide +kernel, by decide +kernel⟩, lw_t1 (List.mem_of_getElem? (i := 22) rfl), lw_t4 (List.mem_of_getElem? (i := 70) rfl), lw_t4 (List.mem_of_getElem? (i := 71) rfl)⟩
def lw_privs_3 : List (MethodName × Nat) := [(⟨"TollOnVowels", "errandsOf", "(I)I"⟩, 68), (⟨"TollOnVowels", "cheapestFor", "(III)I"⟩, 68), (⟨"TollOnVowels", "tollNow", "(II)I"⟩, 68), (⟨"TollOnVowels", "vowelsOf", "(I)I"⟩, 68), (⟨"TollOnVowels", "paid", "(I)Z"⟩, 68), (⟨"TollOnVowels", "costFrom", "(III)I"⟩, 68), (⟨"TollOnVowels", "tellsFrom", "(II)I"⟩, 68), (⟨"TollOnVowels", "changesOf", "(IIZ)I"⟩, 68), (⟨"TollOnVowels", "laysRow", "(I[IZ)I"⟩, 68), (⟨"TollOnVowels", "areApart", "(II)Z"⟩, 68), (⟨"TollOnVowels", "tollOfAll", "(I)I"⟩, 68), (⟨"TollOnVowels", "laysTrip", "(II)V"⟩, 68), (⟨"TollOnVowels", "laysSayings", "(III)V"⟩, 68), (⟨"TollOnVowels", "lessens", "(II)V"⟩, 68), (⟨"TollOnVowels", "goesOn", "(II)V"⟩, 68), (⟨"TollOnVowels", "doneIn", "(II)I"⟩, 68)]
theorem lw_r3 : ∀ q ∈ lw_privs_3, lw_okq q := List.forall_mem_cons.mpr ⟨lw_p32, List.forall_mem_cons.mpr ⟨lw_p33, List.forall_mem_cons.mpr ⟨lw_p34, List.forall_mem_cons.mpr ⟨lw_p35, List.forall_mem_cons.mpr ⟨lw_p36, List.forall_mem_cons.mpr ⟨lw_p37, List.forall_mem_cons.mpr ⟨lw_p38, List.forall_mem_cons.mpr ⟨lw_p39, List.forall_mem_cons.mpr ⟨lw_p40, List.forall_mem_cons.mpr ⟨lw_p41, List.forall_mem_cons.mpr ⟨lw_p42, List.forall_mem_cons.mpr ⟨lw_p43, List.forall_mem_cons.mpr ⟨lw_p44, List.forall_mem_cons.mpr ⟨lw_p45, List.forall_mem_cons.mpr ⟨lw_p46, List.forall_mem_cons.mpr ⟨lw_p47, fun _ h => absurd h List.not_mem_nil⟩⟩⟩⟩⟩⟩⟩⟩⟩⟩⟩⟩⟩⟩⟩⟩
theorem lw_p48 : lw_okq (⟨"TollOnVowels", "costOf", "(II)I"⟩, 68) := ⟨⟨by decide +kernel, by decide +kernel⟩, lw_t1 (List.mem_of_getElem? (i := 22) rfl), lw_t4 (List.mem_of_getElem? (i := 82) rfl), lw_t4 (List.mem_of_getElem? (i := 83) rfl)⟩
theorem lw_p49 : lw_okq (⟨"TollOnVowels", "worthOf", "(I)I"⟩, 68) := ⟨⟨by decide +kernel, by decide +kernel⟩, lw_t1 (List.mem_of_getElem? (i := 22) rfl), lw_t4 (List.mem_of_getElem? (i := 86) rfl), lw_t4 (List.mem_of_getElem? (i := 87) rfl)⟩
theorem lw_p50 : lw_okq (⟨"TollOnVowels", "comesIn", "(II)I"⟩, 68) := ⟨⟨by decide +kernel, by decide +kernel⟩, lw_t1 (List.mem_of_getElem? (i := 22) rfl), lw_t4 (List.mem_of_getElem? (i := 94) rfl), lw_t4 (List.mem_of_getElem? (i := 95) rfl)⟩
theorem lw_p51 : lw_okq (⟨"TollOnVowels", "saysFrom", "(III)V"⟩, 68) := ⟨⟨by decide +kernel, by decide +kernel⟩, lw_t1 (List.mem_of_getElem? (i := 22) rfl), lw_t4 (List.mem_of_getElem? (i := 110) rfl), lw_t4 (List.mem_of_getElem? (i := 111) rfl)⟩
theorem lw_p52 : lw_okq (⟨"TollOnVowels", "isNothingLeft", "()Z"⟩, 68) := ⟨⟨by decide +kernel, by decide +kernel⟩, lw_t1 (List.mem_of_getElem? (i := 22) rfl), lw_t4 (List.mem_of_getElem? (i := 114) rfl), lw_t4 (List.mem_of_getElem? (i := 115) rfl)⟩
theorem lw_p53 : lw_okq (⟨"TollOnVowels", "changesLeft", "(II)Z"⟩, 68) := ⟨⟨by decide +kernel, by decide +kernel⟩, lw_t1 (List.mem_of_getElem? (i := 22) rfl), lw_t4 (List.mem_of_getElem? (i := 118) rfl), lw_t4 (List.mem_of_getElem? (i := 119) rfl)⟩
theorem lw_p54 : lw_okq (⟨"TollOnVowels", "vowelIn", "(II)I"⟩, 68) := ⟨⟨by decide +kernel, by decide +kernel⟩, lw_t1 (List.mem_of_getElem? (i := 22) rfl), lw_t4 (List.mem_of_getElem? (i := 122) rfl), lw_t4 (List.mem_of_getElem? (i := 123) rfl)⟩
theorem lw_p55 : lw_okq (⟨"TollOnVowels", "leftBy", "(I)I"⟩, 68) := ⟨⟨by decide +kernel, by decide +kernel⟩, lw_t1 (List.mem_of_getElem? (i := 22) rfl), lw_t4 (List.mem_of_getElem? (i := 130) rfl), lw_t4 (List.mem_of_getElem? (i := 131) rfl)⟩
theorem lw_p56 : lw_okq (⟨"TollOnVowels", "draws", "(I)I"⟩, 68) := ⟨⟨by decide +kernel, by decide +kernel⟩, lw_t1 (List.mem_of_getElem? (i := 22) rfl), lw_t4 (List.mem_of_getElem? (i := 139) rfl), lw_t4 (List.mem_of_getElem? (i := 140) rfl)⟩
theorem lw_p57 : lw_okq (⟨"TollOnVowels", "purses", "()I"⟩, 68) := ⟨⟨by decide +kernel, by decide +kernel⟩, lw_t1 (List.mem_of_getElem? (i := 22) rfl), lw_t4 (List.mem_of_getElem? (i := 160) rfl), lw_t4 (List.mem_of_getElem? (i := 161) rfl)⟩
theorem lw_p58 : lw_okq (⟨"TollOnVowels", "compounds", "()I"⟩, 68) := ⟨⟨by decide +kernel, by decide +kernel⟩, lw_t1 (List.mem_of_getElem? (i := 22) rfl), lw_t4 (List.mem_of_getElem? (i := 164) rfl), lw_t4 (List.mem_of_getElem? (i := 165) rfl)⟩
theorem lw_p59 : lw_okq (⟨"java/lang/Throwable", "fillInStackTrace", "(I)Ljava/lang/Throwable;"⟩, 6) := ⟨⟨by decide +kernel, by decide +kernel⟩, lw_t4 (List.mem_of_getElem? (i := 213) rfl), lw_t4 (List.mem_of_getElem? (i := 211) rfl), lw_t4 (List.mem_of_getElem? (i := 212) rfl)⟩
theorem lw_p60 : lw_okq (⟨"TollOnVowelsModel", "beginText", "(I)V"⟩, 56) := ⟨⟨by decide +kernel, by decide +kernel⟩, lw_t5 (List.mem_of_getElem? (i := 27) rfl), lw_t5 (List.mem_of_getElem? (i := 226) rfl), lw_t5 (List.mem_of_getElem? (i := 227) rfl)⟩
theorem lw_p61 : lw_okq (⟨"TollOnVowelsModel", "begin", "([BII)V"⟩, 56) := ⟨⟨by decide +kernel, by decide +kernel⟩, lw_t5 (List.mem_of_getElem? (i := 27) rfl), lw_t5 (List.mem_of_getElem? (i := 230) rfl), lw_t5 (List.mem_of_getElem? (i := 231) rfl)⟩
theorem lw_p62 : lw_okq (⟨"TollOnVowelsModel", "fine", "()Z"⟩, 56) := ⟨⟨by decide +kernel, by decide +kernel⟩, lw_t5 (List.mem_of_getElem? (i := 27) rfl), lw_t5 (List.mem_of_getElem? (i := 234) rfl), lw_t5 (List.mem_of_getElem? (i := 235) rfl)⟩
theorem lw_p63 : lw_okq (⟨"TollOnVowelsModel", "fault", "(I)V"⟩, 56) := ⟨⟨by decide +kernel, by decide +kernel⟩, lw_t5 (List.mem_of_getElem? (i := 27) rfl), lw_t5 (List.mem_of_getElem? (i := 238) rfl), lw_t5 (List.mem_of_getElem? (i := 239) rfl)⟩
def lw_privs_4 : List (MethodName × Nat) := [(⟨"TollOnVowels", "costOf", "(II)I"⟩, 68), (⟨"TollOnVowels", "worthOf", "(I)I"⟩, 68), (⟨"TollOnVowels", "comesIn", "(II)I"⟩, 68), (⟨"TollOnVowels", "saysFrom", "(III)V"⟩, 68), (⟨"TollOnVowels", "isNothingLeft", "()Z"⟩, 68), (⟨"TollOnVowels", "changesLeft", "(II)Z"⟩, 68), (⟨"TollOnVowels", "vowelIn", "(II)I"⟩, 68), (⟨"TollOnVowels", "leftBy", "(I)I"⟩, 68), (⟨"TollOnVowels", "draws", "(I)I"⟩, 68), (⟨"TollOnVowels", "purses", "()I"⟩, 68), (⟨"TollOnVowels", "compounds", "()I"⟩, 68), (⟨"java/lang/Throwable", "fillInStackTrace", "(I)Ljava/lang/Throwable;"⟩, 6), (⟨"TollOnVowelsModel", "beginText", "(I)V"⟩, 56), (⟨"TollOnVowelsModel", "begin", "([BII)V"⟩, 56), (⟨"TollOnVowelsModel", "fine", "()Z"⟩, 56), (⟨"TollOnVowelsModel", "fault", "(I)V"⟩, 56)]
theorem lw_r4 : ∀ q ∈ lw_privs_4, lw_okq q := List.forall_mem_cons.mpr ⟨lw_p48, List.forall_mem_cons.mpr ⟨lw_p49, List.forall_mem_cons.mpr ⟨lw_p50, List.forall_mem_cons.mpr ⟨lw_p51, List.forall_mem_cons.mpr ⟨lw_p52, List.forall_mem_cons.mpr ⟨lw_p53, List.forall_mem_cons.mpr ⟨lw_p54, List.forall_mem_cons.mpr ⟨lw_p55, List.forall_mem_cons.mpr ⟨lw_p56, List.forall_mem_cons.mpr ⟨lw_p57, List.forall_mem_cons.mpr ⟨lw_p58, List.forall_mem_cons.mpr ⟨lw_p59, List.forall_mem_cons.mpr ⟨lw_p60, List.forall_mem_cons.mpr ⟨lw_p61, List.forall_mem_cons.mpr ⟨lw_p62, List.forall_mem_cons.mpr ⟨lw_p63, fun _ h => absurd h List.not_mem_nil⟩⟩⟩⟩⟩⟩⟩⟩⟩⟩⟩⟩⟩⟩⟩⟩
theorem lw_p64 : lw_okq (⟨"TollOnVowelsModel", "readWord", "(I)V"⟩, 56) := ⟨⟨by decide +kernel, by decide +kernel⟩, lw_t5 (List.mem_of_getElem? (i := 27) rfl), lw_t6 (List.mem_of_getElem? (i := 2) rfl), lw_t6 (List.mem_of_getElem? (i := 3) rfl)⟩
theorem lw_p65 : lw_okq (⟨"TollOnVowelsModel", "oneOf", "(CI)I"⟩, 56) := ⟨⟨by decide +kernel, by decide +kernel⟩, lw_t5 (List.mem_of_getElem? (i := 27) rfl), lw_t6 (List.mem_of_getElem? (i := 6) rfl), lw_t6 (List.mem_of_getElem? (i := 7) rfl)⟩
theorem lw_p66 : lw_okq (⟨"TollOnVowelsModel", "here", "()I"⟩, 56) := ⟨⟨by decide +kernel, by decide +kernel⟩, lw_t5 (List.mem_of_getElem? (i := 27) rfl), lw_t6 (List.mem_of_getElem? (i := 10) rfl), lw_t6 (List.mem_of_getElem? (i := 11) rfl)⟩
theorem lw_p67 : lw_okq (⟨"TollOnVowelsModel", "passes", "(C)Z"⟩, 56) := ⟨⟨by decide +kernel, by decide +kernel⟩, lw_t5 (List.mem_of_getElem? (i := 27) rfl), lw_t6 (List.mem_of_getElem? (i := 14) rfl), lw_t6 (List.mem_of_getElem? (i := 15) rfl)⟩
theorem lw_p68 : lw_okq (⟨"TollOnVowelsModel", "wasRight", "()Z"⟩, 56) := ⟨⟨by decide +kernel, by decide +kernel⟩, lw_t5 (List.mem_of_getElem? (i := 27) rfl), lw_t6 (List.mem_of_getElem? (i := 18) rfl), lw_t6 (List.mem_of_getElem? (i := 19) rfl)⟩
theorem lw_p69 : lw_okq (⟨"TollOnVowelsModel", "need", "(C)V"⟩, 56) := ⟨⟨by decide +kernel, by decide +kernel⟩, lw_t5 (List.mem_of_getElem? (i := 27) rfl), lw_t6 (List.mem_of_getElem? (i := 26) rfl), lw_t6 (List.mem_of_getElem? (i := 27) rfl)⟩
theorem lw_p70 : lw_okq (⟨"TollOnVowelsModel", "number", "(I)I"⟩, 56) := ⟨⟨by decide +kernel, by decide +kernel⟩, lw_t5 (List.mem_of_getElem? (i := 27) rfl), lw_t6 (List.mem_of_getElem? (i := 30) rfl), lw_t6 (List.mem_of_getElem? (i := 31) rfl)⟩
theorem lw_p71 : lw_okq (⟨"TollOnVowelsModel", "readRule", "()Z"⟩, 56) := ⟨⟨by decide +kernel, by decide +kernel⟩, lw_t5 (List.mem_of_getElem? (i := 27) rfl), lw_t6 (List.mem_of_getElem? (i := 42) rfl), lw_t6 (List.mem_of_getElem? (i := 43) rfl)⟩
theorem lw_p72 : lw_okq (⟨"TollOnVowelsModel", "held", "(I)I"⟩, 56) := ⟨⟨by decide +kernel, by decide +kernel⟩, lw_t5 (List.mem_of_getElem? (i := 27) rfl), lw_t6 (List.mem_of_getElem? (i := 46) rfl), lw_t6 (List.mem_of_getElem? (i := 47) rfl)⟩
theorem lw_p73 : lw_okq (⟨"TollOnVowelsModel", "sum", "(I)I"⟩, 56) := ⟨⟨by decide +kernel, by decide +kernel⟩, lw_t5 (List.mem_of_getElem? (i := 27) rfl), lw_t6 (List.mem_of_getElem? (i := 50) rfl), lw_t6 (List.mem_of_getElem? (i := 51) rfl)⟩
theorem lw_p74 : lw_okq (⟨"TollOnVowelsModel", "product", "(I)I"⟩, 56) := ⟨⟨by decide +kernel, by decide +kernel⟩, lw_t5 (List.mem_of_getElem? (i := 27) rfl), lw_t6 (List.mem_of_getElem? (i := 54) rfl), lw_t6 (List.mem_of_getElem? (i := 55) rfl)⟩
theorem lw_p75 : lw_okq (⟨"TollOnVowelsModel", "thing", "(I)I"⟩, 56) := ⟨⟨by decide +kernel, by decide +kernel⟩, lw_t5 (List.mem_of_getElem? (i := 27) rfl), lw_t6 (List.mem_of_getElem? (i := 58) rfl), lw_t6 (List.mem_of_getElem? (i := 59) rfl)⟩
theorem lw_p76 : lw_okq (⟨"TollOnVowelsModel", "isWord", "(I)Z"⟩, 56) := ⟨⟨by decide +kernel, by decide +kernel⟩, lw_t5 (List.mem_of_getElem? (i := 27) rfl), lw_t6 (List.mem_of_getElem? (i := 69) rfl), lw_t6 (List.mem_of_getElem? (i := 70) rfl)⟩
theorem lw_p77 : lw_okq (⟨"TollOnVowelsModel", "lost", "()I"⟩, 56) := ⟨⟨by decide +kernel, by decide +kernel⟩, lw_t5 (List.mem_of_getElem? (i := 27) rfl), lw_t6 (List.mem_of_getElem? (i := 73) rfl), lw_t6 (List.mem_of_getElem? (i := 74) rfl)⟩
theorem lw_p78 : lw_okq (⟨"TollOnVowelsModel", "vowelsIn", "(I)I"⟩, 56) := ⟨⟨by decide +kernel, by decide +kernel⟩, lw_t5 (List.mem_of_getElem? (i := 27) rfl), lw_t6 (List.mem_of_getElem? (i := 77) rfl), lw_t6 (List.mem_of_getElem? (i := 78) rfl)⟩
theorem lw_p79 : lw_okq (⟨"TollOnVowelsModel", "often", "(II)I"⟩, 56) := ⟨⟨by decide +kernel, by decide +kernel⟩, lw_t5 (List.mem_of_getElem? (i := 27) rfl), lw_t6 (List.mem_of_getElem? (i := 81) rfl), lw_t6 (List.mem_of_getElem? (i := 82) rfl)⟩
def lw_privs_5 : List (MethodName × Nat) := [(⟨"TollOnVowelsModel", "readWord", "(I)V"⟩, 56), (⟨"TollOnVowelsModel", "oneOf", "(CI)I"⟩, 56), (⟨"TollOnVowelsModel", "here", "()I"⟩, 56), (⟨"TollOnVowelsModel", "passes", "(C)Z"⟩, 56), (⟨"TollOnVowelsModel", "wasRight", "()Z"⟩, 56), (⟨"TollOnVowelsModel", "need", "(C)V"⟩, 56), (⟨"TollOnVowelsModel", "number", "(I)I"⟩, 56), (⟨"TollOnVowelsModel", "readRule", "()Z"⟩, 56), (⟨"TollOnVowelsModel", "held", "(I)I"⟩, 56), (⟨"TollOnVowelsModel", "sum", "(I)I"⟩, 56), (⟨"TollOnVowelsModel", "product", "(I)I"⟩, 56), (⟨"TollOnVowelsModel", "thing", "(I)I"⟩, 56), (⟨"TollOnVowelsModel", "isWord", "(I)Z"⟩, 56), (⟨"TollOnVowelsModel", "lost", "()I"⟩, 56), (⟨"TollOnVowelsModel", "vowelsIn", "(I)I"⟩, 56), (⟨"TollOnVowelsModel", "often", "(II)I"⟩, 56)]
theorem lw_r5 : ∀ q ∈ lw_privs_5, lw_okq q := List.forall_mem_cons.mpr ⟨lw_p64, List.forall_mem_cons.mpr ⟨lw_p65, List.forall_mem_cons.mpr ⟨lw_p66, List.forall_mem_cons.mpr ⟨lw_p67, List.forall_mem_cons.mpr ⟨lw_p68, List.forall_mem_cons.mpr ⟨lw_p69, List.forall_mem_cons.mpr ⟨lw_p70, List.forall_mem_cons.mpr ⟨lw_p71, List.forall_mem_cons.mpr ⟨lw_p72, List.forall_mem_cons.mpr ⟨lw_p73, List.forall_mem_cons.mpr ⟨lw_p74, List.forall_mem_cons.mpr ⟨lw_p75, List.forall_mem_cons.mpr ⟨lw_p76, List.forall_mem_cons.mpr ⟨lw_p77, List.forall_mem_cons.mpr ⟨lw_p78, List.forall_mem_cons.mpr ⟨lw_p79, fun _ h => absurd h List.not_mem_nil⟩⟩⟩⟩⟩⟩⟩⟩⟩⟩⟩⟩⟩⟩⟩⟩
theorem lw_p80 : lw_okq (⟨"TollOnVowelsModel", "letter", "(II)I"⟩, 56) := ⟨⟨by decide +kernel, by decide +kernel⟩, lw_t5 (List.mem_of_getElem? (i := 27) rfl), lw_t6 (List.mem_of_getElem? (i := 85) rfl), lw_t6 (List.mem_of_getElem? (i := 86) rfl)⟩
theorem lw_p81 : lw_okq (⟨"TollOnVowelsModel", "isOne", "(I)Z"⟩, 56) := ⟨⟨by decide +kernel, by decide +kernel⟩, lw_t5 (List.mem_of_getElem? (i := 27) rfl), lw_t6 (List.mem_of_getElem? (i := 96) rfl), lw_t6 (List.mem_of_getElem? (i := 97) rfl)⟩
theorem lw_p82 : lw_okq (⟨"TollOnVowelsModel", "openOf", "(I)I"⟩, 56) := ⟨⟨by decide +kernel, by decide +kernel⟩, lw_t5 (List.mem_of_getElem? (i := 27) rfl), lw_t6 (List.mem_of_getElem? (i := 100) rfl), lw_t6 (List.mem_of_getElem? (i := 101) rfl)⟩
theorem lw_p83 : lw_okq (⟨"TollOnVowelsModel", "field", "(II)I"⟩, 56) := ⟨⟨by decide +kernel, by decide +kernel⟩, lw_t5 (List.mem_of_getElem? (i := 27) rfl), lw_t6 (List.mem_of_getElem? (i := 104) rfl), lw_t6 (List.mem_of_getElem? (i := 105) rfl)⟩
theorem lw_p84 : lw_okq (⟨"TollOnVowelsModel", "isStation", "(I)Z"⟩, 56) := ⟨⟨by decide +kernel, by decide +kernel⟩, lw_t5 (List.mem_of_getElem? (i := 27) rfl), lw_t6 (List.mem_of_getElem? (i := 119) rfl), lw_t6 (List.mem_of_getElem? (i := 120) rfl)⟩
theorem lw_p85 : lw_okq (⟨"TollOnVowelsModel", "tollNow", "(II)I"⟩, 56) := ⟨⟨by decide +kernel, by decide +kernel⟩, lw_t5 (List.mem_of_getElem? (i := 27) rfl), lw_t6 (List.mem_of_getElem? (i := 133) rfl), lw_t6 (List.mem_of_getElem? (i := 134) rfl)⟩
theorem lw_p86 : lw_okq (⟨"TollOnVowelsModel", "tollOf", "(III)I"⟩, 56) := ⟨⟨by decide +kernel, by decide +kernel⟩, lw_t5 (List.mem_of_getElem? (i := 27) rfl), lw_t6 (List.mem_of_getElem? (i := 137) rfl), lw_t6 (List.mem_of_getElem? (i := 138) rfl)⟩
theorem lw_p87 : lw_okq (⟨"TollOnVowelsModel", "tell", "(J)V"⟩, 56) := ⟨⟨by decide +kernel, by decide +kernel⟩, lw_t5 (List.mem_of_getElem? (i := 27) rfl), lw_t6 (List.mem_of_getElem? (i := 141) rfl), lw_t6 (List.mem_of_getElem? (i := 142) rfl)⟩
theorem lw_p88 : lw_okq (⟨"TollOnVowelsModel", "refusesWalk", "([III)I"⟩, 56) := ⟨⟨by decide +kernel, by decide +kernel⟩, lw_t5 (List.mem_of_getElem? (i := 27) rfl), lw_t6 (List.mem_of_getElem? (i := 149) rfl), lw_t6 (List.mem_of_getElem? (i := 150) rfl)⟩
theorem lw_p89 : lw_okq (⟨"TollOnVowelsModel", "remember", "([I)V"⟩, 56) := ⟨⟨by decide +kernel, by decide +kernel⟩, lw_t5 (List.mem_of_getElem? (i := 27) rfl), lw_t6 (List.mem_of_getElem? (i := 153) rfl), lw_t6 (List.mem_of_getElem? (i := 154) rfl)⟩
theorem lw_p90 : lw_okq (⟨"TollOnVowelsModel", "refusesSay", "([III)I"⟩, 56) := ⟨⟨by decide +kernel, by decide +kernel⟩, lw_t5 (List.mem_of_getElem? (i := 27) rfl), lw_t6 (List.mem_of_getElem? (i := 171) rfl), lw_t6 (List.mem_of_getElem? (i := 172) rfl)⟩
theorem lw_p91 : lw_okq (⟨"TollOnVowelsModel", "goSay", "([III)I"⟩, 56) := ⟨⟨by decide +kernel, by decide +kernel⟩, lw_t5 (List.mem_of_getElem? (i := 27) rfl), lw_t6 (List.mem_of_getElem? (i := 175) rfl), lw_t6 (List.mem_of_getElem? (i := 176) rfl)⟩
theorem lw_p92 : lw_okq (⟨"TollOnVowelsModel", "means", "(II)Z"⟩, 56) := ⟨⟨by decide +kernel, by decide +kernel⟩, lw_t5 (List.mem_of_getElem? (i := 27) rfl), lw_t6 (List.mem_of_getElem? (i := 179) rfl), lw_t6 (List.mem_of_getElem? (i := 180) rfl)⟩
theorem lw_p93 : lw_okq (⟨"TollOnVowelsModel", "readAct", "(I)V"⟩, 56) := ⟨⟨by decide +kernel, by decide +kernel⟩, lw_t5 (List.mem_of_getElem? (i := 27) rfl), lw_t6 (List.mem_of_getElem? (i := 191) rfl), lw_t6 (List.mem_of_getElem? (i := 192) rfl)⟩
theorem lw_p94 : lw_okq (⟨"TollOnVowelsModel", "act", "(III)Z"⟩, 56) := ⟨⟨by decide +kernel, by decide +kernel⟩, lw_t5 (List.mem_of_getElem? (i := 27) rfl), lw_t6 (List.mem_of_getElem? (i := 195) rfl), lw_t6 (List.mem_of_getElem? (i := 196) rfl)⟩
theorem lw_p95 : lw_okq (⟨"TollOnVowelsModel", "wordFor", "(I)I"⟩, 56) := ⟨⟨by decide +kernel, by decide +kernel⟩, lw_t5 (List.mem_of_getElem? (i := 27) rfl), lw_t6 (List.mem_of_getElem? (i := 199) rfl), lw_t6 (List.mem_of_getElem? (i := 200) rfl)⟩
def lw_privs_6 : List (MethodName × Nat) := [(⟨"TollOnVowelsModel", "letter", "(II)I"⟩, 56), (⟨"TollOnVowelsModel", "isOne", "(I)Z"⟩, 56), (⟨"TollOnVowelsModel", "openOf", "(I)I"⟩, 56), (⟨"TollOnVowelsModel", "field", "(II)I"⟩, 56), (⟨"TollOnVowelsModel", "isStation", "(I)Z"⟩, 56), (⟨"TollOnVowelsModel", "tollNow", "(II)I"⟩, 56), (⟨"TollOnVowelsModel", "tollOf", "(III)I"⟩, 56), (⟨"TollOnVowelsModel", "tell", "(J)V"⟩, 56), (⟨"TollOnVowelsModel", "refusesWalk", "([III)I"⟩, 56), (⟨"TollOnVowelsModel", "remember", "([I)V"⟩, 56), (⟨"TollOnVowelsModel", "refusesSay", "([III)I"⟩, 56), (⟨"TollOnVowelsModel", "goSay", "([III)I"⟩, 56), (⟨"TollOnVowelsModel", "means", "(II)Z"⟩, 56), (⟨"TollOnVowelsModel", "readAct", "(I)V"⟩, 56), (⟨"TollOnVowelsModel", "act", "(III)Z"⟩, 56), (⟨"TollOnVowelsModel", "wordFor", "(I)I"⟩, 56)]
theorem lw_r6 : ∀ q ∈ lw_privs_6, lw_okq q := List.forall_mem_cons.mpr ⟨lw_p80, List.forall_mem_cons.mpr ⟨lw_p81, List.forall_mem_cons.mpr ⟨lw_p82, List.forall_mem_cons.mpr ⟨lw_p83, List.forall_mem_cons.mpr ⟨lw_p84, List.forall_mem_cons.mpr ⟨lw_p85, List.forall_mem_cons.mpr ⟨lw_p86, List.forall_mem_cons.mpr ⟨lw_p87, List.forall_mem_cons.mpr ⟨lw_p88, List.forall_mem_cons.mpr ⟨lw_p89, List.forall_mem_cons.mpr ⟨lw_p90, List.forall_mem_cons.mpr ⟨lw_p91, List.forall_mem_cons.mpr ⟨lw_p92, List.forall_mem_cons.mpr ⟨lw_p93, List.forall_mem_cons.mpr ⟨lw_p94, List.forall_mem_cons.mpr ⟨lw_p95, fun _ h => absurd h List.not_mem_nil⟩⟩⟩⟩⟩⟩⟩⟩⟩⟩⟩⟩⟩⟩⟩⟩
theorem lw_p96 : lw_okq (⟨"TollOnVowelsModel", "cheapestOf", "(II)I"⟩, 56) := ⟨⟨by decide +kernel, by decide +kernel⟩, lw_t5 (List.mem_of_getElem? (i := 27) rfl), lw_t6 (List.mem_of_getElem? (i := 203) rfl), lw_t6 (List.mem_of_getElem? (i := 204) rfl)⟩
theorem lw_p97 : lw_okq (⟨"TollOnVowelsModel", "tells", "(III)I"⟩, 56) := ⟨⟨by decide +kernel, by decide +kernel⟩, lw_t5 (List.mem_of_getElem? (i := 27) rfl), lw_t6 (List.mem_of_getElem? (i := 223) rfl), lw_t6 (List.mem_of_getElem? (i := 224) rfl)⟩
theorem lw_p98 : lw_okq (⟨"TollOnVowelsModel", "differBy", "(IIZ)I"⟩, 56) := ⟨⟨by decide +kernel, by decide +kernel⟩, lw_t5 (List.mem_of_getElem? (i := 27) rfl), lw_t6 (List.mem_of_getElem? (i := 239) rfl), lw_t7 (List.mem_of_getElem? (i := 0) rfl)⟩
theorem lw_p99 : lw_okq (⟨"TollOnVowelsModel", "layWord", "(I[IZ)I"⟩, 56) := ⟨⟨by decide +kernel, by decide +kernel⟩, lw_t5 (List.mem_of_getElem? (i := 27) rfl), lw_t7 (List.mem_of_getElem? (i := 3) rfl), lw_t7 (List.mem_of_getElem? (i := 4) rfl)⟩
theorem lw_p100 : lw_okq (⟨"TollOnVowelsModel", "changesOf", "(II)I"⟩, 56) := ⟨⟨by decide +kernel, by decide +kernel⟩, lw_t5 (List.mem_of_getElem? (i := 27) rfl), lw_t7 (List.mem_of_getElem? (i := 7) rfl), lw_t7 (List.mem_of_getElem? (i := 8) rfl)⟩
theorem lw_p101 : lw_okq (⟨"TollOnVowelsModel", "share", "(II)Z"⟩, 56) := ⟨⟨by decide +kernel, by decide +kernel⟩, lw_t5 (List.mem_of_getElem? (i := 27) rfl), lw_t7 (List.mem_of_getElem? (i := 15) rfl), lw_t7 (List.mem_of_getElem? (i := 16) rfl)⟩
theorem lw_p102 : lw_okq (⟨"TollOnVowelsModel", "tollsOf", "(II)I"⟩, 56) := ⟨⟨by decide +kernel, by decide +kernel⟩, lw_t5 (List.mem_of_getElem? (i := 27) rfl), lw_t7 (List.mem_of_getElem? (i := 35) rfl), lw_t7 (List.mem_of_getElem? (i := 36) rfl)⟩
theorem lw_p103 : lw_okq (⟨"TollOnVowelsModel", "areApart", "(II)Z"⟩, 56) := ⟨⟨by decide +kernel, by decide +kernel⟩, lw_t5 (List.mem_of_getElem? (i := 27) rfl), lw_t7 (List.mem_of_getElem? (i := 39) rfl), lw_t7 (List.mem_of_getElem? (i := 40) rfl)⟩
theorem lw_p104 : lw_okq (⟨"TollOnVowelsModel", "leastTrip", "(II)I"⟩, 56) := ⟨⟨by decide +kernel, by decide +kernel⟩, lw_t5 (List.mem_of_getElem? (i := 27) rfl), lw_t7 (List.mem_of_getElem? (i := 47) rfl), lw_t7 (List.mem_of_getElem? (i := 48) rfl)⟩
theorem lw_p105 : lw_okq (⟨"TollOnVowelsModel", "move", "()V"⟩, 56) := ⟨⟨by decide +kernel, by decide +kernel⟩, lw_t5 (List.mem_of_getElem? (i := 27) rfl), lw_t7 (List.mem_of_getElem? (i := 51) rfl), lw_t7 (List.mem_of_getElem? (i := 52) rfl)⟩
theorem lw_p106 : lw_okq (⟨"TollOnVowelsModel", "speak", "(II)V"⟩, 56) := ⟨⟨by decide +kernel, by decide +kernel⟩, lw_t5 (List.mem_of_getElem? (i := 27) rfl), lw_t7 (List.mem_of_getElem? (i := 55) rfl), lw_t7 (List.mem_of_getElem? (i := 56) rfl)⟩
theorem lw_p107 : lw_okq (⟨"TollOnVowelsModel", "does", "(III)I"⟩, 56) := ⟨⟨by decide +kernel, by decide +kernel⟩, lw_t5 (List.mem_of_getElem? (i := 27) rfl), lw_t7 (List.mem_of_getElem? (i := 59) rfl), lw_t7 (List.mem_of_getElem? (i := 60) rfl)⟩
theorem lw_p108 : lw_okq (⟨"TollOnVowelsModel", "takesBy", "(II)I"⟩, 56) := ⟨⟨by decide +kernel, by decide +kernel⟩, lw_t5 (List.mem_of_getElem? (i := 27) rfl), lw_t7 (List.mem_of_getElem? (i := 75) rfl), lw_t7 (List.mem_of_getElem? (i := 76) rfl)⟩
theorem lw_p109 : lw_okq (⟨"TollOnVowelsModel", "goSaid", "(II)V"⟩, 56) := ⟨⟨by decide +kernel, by decide +kernel⟩, lw_t5 (List.mem_of_getElem? (i := 27) rfl), lw_t7 (List.mem_of_getElem? (i := 91) rfl), lw_t7 (List.mem_of_getElem? (i := 92) rfl)⟩
theorem lw_p110 : lw_okq (⟨"TollOnVowelsModel", "isAll", "()Z"⟩, 56) := ⟨⟨by decide +kernel, by decide +kernel⟩, lw_t5 (List.mem_of_getElem? (i := 27) rfl), lw_t7 (List.mem_of_getElem? (i := 95) rfl), lw_t7 (List.mem_of_getElem? (i := 96) rfl)⟩
theorem lw_p111 : lw_okq (⟨"TollOnVowelsModel", "isFirst", "(I)Z"⟩, 56) := ⟨⟨by decide +kernel, by decide +kernel⟩, lw_t5 (List.mem_of_getElem? (i := 27) rfl), lw_t7 (List.mem_of_getElem? (i := 99) rfl), lw_t7 (List.mem_of_getElem? (i := 100) rfl)⟩
def lw_privs_7 : List (MethodName × Nat) := [(⟨"TollOnVowelsModel", "cheapestOf", "(II)I"⟩, 56), (⟨"TollOnVowelsModel", "tells", "(III)I"⟩, 56), (⟨"TollOnVowelsModel", "differBy", "(IIZ)I"⟩, 56), (⟨"TollOnVowelsModel", "layWord", "(I[IZ)I"⟩, 56), (⟨"TollOnVowelsModel", "changesOf", "(II)I"⟩, 56), (⟨"TollOnVowelsModel", "share", "(II)Z"⟩, 56), (⟨"TollOnVowelsModel", "tollsOf", "(II)I"⟩, 56), (⟨"TollOnVowelsModel", "areApart", "(II)Z"⟩, 56), (⟨"TollOnVowelsModel", "leastTrip", "(II)I"⟩, 56), (⟨"TollOnVowelsModel", "move", "()V"⟩, 56), (⟨"TollOnVowelsModel", "speak", "(II)V"⟩, 56), (⟨"TollOnVowelsModel", "does", "(III)I"⟩, 56), (⟨"TollOnVowelsModel", "takesBy", "(II)I"⟩, 56), (⟨"TollOnVowelsModel", "goSaid", "(II)V"⟩, 56), (⟨"TollOnVowelsModel", "isAll", "()Z"⟩, 56), (⟨"TollOnVowelsModel", "isFirst", "(I)Z"⟩, 56)]
theorem lw_r7 : ∀ q ∈ lw_privs_7, lw_okq q := List.forall_mem_cons.mpr ⟨lw_p96, List.forall_mem_cons.mpr ⟨lw_p97, List.forall_mem_cons.mpr ⟨lw_p98, List.forall_mem_cons.mpr ⟨lw_p99, List.forall_mem_cons.mpr ⟨lw_p100, List.forall_mem_cons.mpr ⟨lw_p101, List.forall_mem_cons.mpr ⟨lw_p102, List.forall_mem_cons.mpr ⟨lw_p103, List.forall_mem_cons.mpr ⟨lw_p104, List.forall_mem_cons.mpr ⟨lw_p105, List.forall_mem_cons.mpr ⟨lw_p106, List.forall_mem_cons.mpr ⟨lw_p107, List.forall_mem_cons.mpr ⟨lw_p108, List.forall_mem_cons.mpr ⟨lw_p109, List.forall_mem_cons.mpr ⟨lw_p110, List.forall_mem_cons.mpr ⟨lw_p111, fun _ h => absurd h List.not_mem_nil⟩⟩⟩⟩⟩⟩⟩⟩⟩⟩⟩⟩⟩⟩⟩⟩
theorem lw_p112 : lw_okq (⟨"TollOnVowelsModel", "take", "(II)V"⟩, 56) := ⟨⟨by decide +kernel, by decide +kernel⟩, lw_t5 (List.mem_of_getElem? (i := 27) rfl), lw_t7 (List.mem_of_getElem? (i := 103) rfl), lw_t7 (List.mem_of_getElem? (i := 104) rfl)⟩
theorem lw_p113 : lw_okq (⟨"TollOnVowelsModel", "draw", "(I)I"⟩, 56) := ⟨⟨by decide +kernel, by decide +kernel⟩, lw_t5 (List.mem_of_getElem? (i := 27) rfl), lw_t7 (List.mem_of_getElem? (i := 115) rfl), lw_t7 (List.mem_of_getElem? (i := 116) rfl)⟩
theorem lw_p114 : lw_okq (⟨"TollOnVowelsModel", "sumOf", "(II)I"⟩, 56) := ⟨⟨by decide +kernel, by decide +kernel⟩, lw_t5 (List.mem_of_getElem? (i := 27) rfl), lw_t7 (List.mem_of_getElem? (i := 132) rfl), lw_t7 (List.mem_of_getElem? (i := 133) rfl)⟩
def lw_privs_8 : List (MethodName × Nat) := [(⟨"TollOnVowelsModel", "take", "(II)V"⟩, 56), (⟨"TollOnVowelsModel", "draw", "(I)I"⟩, 56), (⟨"TollOnVowelsModel", "sumOf", "(II)I"⟩, 56)]
theorem lw_r8 : ∀ q ∈ lw_privs_8, lw_okq q := List.forall_mem_cons.mpr ⟨lw_p112, List.forall_mem_cons.mpr ⟨lw_p113, List.forall_mem_cons.mpr ⟨lw_p114, fun _ h => absurd h List.not_mem_nil⟩⟩⟩
def lw_privs : List (MethodName × Nat) := lw_privs_1 ++ (lw_privs_2 ++ (lw_privs_3 ++ (lw_privs_4 ++ (lw_privs_5 ++ (lw_privs_6 ++ (lw_privs_7 ++ (lw_privs_8)))))))
def lw_tbl : List Cond := k2_sels lw_privs ++ tables_1
theorem lw_privs_ok : ∀ q ∈ lw_privs, lw_okq q := by
  show ∀ q ∈ lw_privs_1 ++ (lw_privs_2 ++ (lw_privs_3 ++ (lw_privs_4 ++ (lw_privs_5 ++ (lw_privs_6 ++ (lw_privs_7 ++ (lw_privs_8))))))), lw_okq q
  exact List.forall_mem_append.mpr ⟨lw_r1, List.forall_mem_append.mpr ⟨lw_r2, List.forall_mem_append.mpr ⟨lw_r3, List.forall_mem_append.mpr ⟨lw_r4, List.forall_mem_append.mpr ⟨lw_r5, List.forall_mem_append.mpr ⟨lw_r6, List.forall_mem_append.mpr ⟨lw_r7, lw_r8⟩⟩⟩⟩⟩⟩⟩
-- ===== ONE list of words for every method: the tables' words that hold all through a run =====
def lw_all : List Cond := lw_tbl.filter goodWord
/-- a word of the tables by its place: claim/WORDS.tsv -/
theorem lw_w {w : Cond} (i : Nat) (h : lw_tbl[i]? = some w) (g : goodWord w = true) : w ∈ lw_all := List.mem_filter.mpr ⟨List.mem_of_getElem? h, g⟩
theorem lw_all_tbl {w : Cond} (h : w ∈ lw_all) : w ∈ lw_tbl := (List.mem_filter.mp h).1
theorem lw_self : GoodIn lw_all lw_all := fun w h => ⟨h, good_of_word (List.mem_filter.mp h).2⟩
/-- a class's field words, by their places -/
theorem lw_in (ws : List Cond) (ps : List Nat) (hp : ws = ps.filterMap (fun i => lw_tbl[i]?)) (hg : ws.all goodWord = true) : ∀ w ∈ ws, w ∈ lw_all := by
  intro w h
  have h1 := List.all_eq_true.mp hg w h
  rw [hp] at h
  obtain ⟨i, -, hi⟩ := List.mem_filterMap.mp h
  exact lw_w i hi h1
/-- the words of a contract for the method y with code b, L locals, answer r -/
abbrev ws_ (y : MethodName) (b : ByteArray) (L : Nat) (r : Option FieldType) : List Cond := Cond.code y b L r :: lw_all
theorem lw_meth {y : MethodName} {b : ByteArray} {L : Nat} {r : Option FieldType} (h : Cond.code y b L r ∈ lw_all) : GoodIn lw_all (ws_ y b L r) := by
  intro w hw
  rcases List.mem_cons.mp hw with e | e
  · rw [e]
    exact lw_self _ h
  · exact lw_self _ e
theorem lw_app {a c : List Cond} (ha : ∀ w ∈ a, w ∈ lw_all) (hc : GoodIn lw_all c) : GoodIn lw_all (a ++ c) := by
  intro w hw
  rcases List.mem_append.mp hw with e | e
  · exact lw_self w (ha w e)
  · exact hc w e
/-- what a call through an object asks: cwV n hts (lw_V ..) -/
theorem lw_V {own : String} {idx : Nat} {C : String} {y : MethodName} {b : ByteArray} {L : Nat} {r : Option FieldType} (h1 : Cond.methodLink own idx y ∈ lw_all) (h2 : Cond.instanceMethod y ∈ lw_all) (h3 : Cond.selects C y y ∈ lw_all) (h4 : Cond.initialized C ∈ lw_all) (h5 : Cond.code y b L r ∈ lw_all) : GoodIn lw_all (wsV own idx C y (ws_ y b L r)) := by
  refine lw_app ?_ (lw_meth h5)
  intro w hw
  simp only [List.mem_cons, List.not_mem_nil, or_false] at hw
  rcases hw with e | e | e | e
  · rw [e]; exact h1
  · rw [e]; exact h2
  · rw [e]; exact h3
  · rw [e]; exact h4
/-- what a static call asks: va_cwS n hts (lw_S ..) -/
theorem lw_S {own : String} {idx : Nat} {y : MethodName} {b : ByteArray} {L : Nat} {r : Option FieldType} (h1 : Cond.methodLink own idx y ∈ lw_all) (h2 : Cond.static y ∈ lw_all) (h3 : Cond.initialized y.cls ∈ lw_all) (h4 : Cond.code y b L r ∈ lw_all) : GoodIn lw_all (va_wsS own idx y (ws_ y b L r)) := by
  refine lw_app ?_ (lw_meth h4)
  intro w hw
  simp only [List.mem_cons, List.not_mem_nil, or_false] at hw
  rcases hw with e | e | e
  · rw [e]; exact h1
  · rw [e]; exact h2
  · rw [e]; exact h3
/-- the words of a contract for a method WITH HANDLERS (hh: its table) -/
abbrev wsW_ (y : MethodName) (b : ByteArray) (L : Nat) (r : Option FieldType) (hh : List (Nat × Nat × Nat × Nat)) : List Cond := Cond.codeWith y b L r hh :: lw_all
theorem lw_methW {y : MethodName} {b : ByteArray} {L : Nat} {r : Option FieldType} {hh : List (Nat × Nat × Nat × Nat)} (h : Cond.codeWith y b L r hh ∈ lw_all) : GoodIn lw_all (wsW_ y b L r hh) := by
  intro w hw
  rcases List.mem_cons.mp hw with e | e
  · rw [e]
    exact lw_self _ h
  · exact lw_self _ e
/-- any list of words by their places (lw_in), good -/
theorem lw_good {ws : List Cond} (h : ∀ w ∈ ws, w ∈ lw_all) : GoodIn lw_all ws := fun w hw => lw_self w (h w hw)
/-- what a call of a method with handlers asks: vx_cwVW n hts (lw_VW ..), vx_cwSW n hts (lw_SW ..) -/
theorem lw_VW {own : String} {idx : Nat} {C : String} {y : MethodName} {b : ByteArray} {L : Nat} {r : Option FieldType} {hh : List (Nat × Nat × Nat × Nat)} (h1 : Cond.methodLink own idx y ∈ lw_all) (h2 : Cond.instanceMethod y ∈ lw_all) (h3 : Cond.selects C y y ∈ lw_all) (h4 : Cond.initialized C ∈ lw_all) (h5 : Cond.codeWith y b L r hh ∈ lw_all) : GoodIn lw_all (wsV own idx C y (wsW_ y b L r hh)) := by
  refine lw_app ?_ (lw_methW h5)
  intro w hw
  simp only [List.mem_cons, List.not_mem_nil, or_false] at hw
  rcases hw with e | e | e | e
  · rw [e]; exact h1
  · rw [e]; exact h2
  · rw [e]; exact h3
  · rw [e]; exact h4
theorem lw_SW {own : String} {idx : Nat} {y : MethodName} {b : ByteArray} {L : Nat} {r : Option FieldType} {hh : List (Nat × Nat × Nat × Nat)} (h1 : Cond.methodLink own idx y ∈ lw_all) (h2 : Cond.static y ∈ lw_all) (h3 : Cond.initialized y.cls ∈ lw_all) (h4 : Cond.codeWith y b L r hh ∈ lw_all) : GoodIn lw_all (va_wsS own idx y (wsW_ y b L r hh)) := by
  refine lw_app ?_ (lw_methW h4)
  intro w hw
  simp only [List.mem_cons, List.not_mem_nil, or_false] at hw
  rcases hw with e | e | e
  · rw [e]; exact h1
  · rw [e]; exact h2
  · rw [e]; exact h3
/-- a word by its place in its run of the tables -/
theorem lw_at {r : List Cond} (hr : ∀ w ∈ r, w ∈ lw_tbl) {w : Cond} (i : Nat) (h : r[i]? = some w) : w ∈ lw_tbl := hr w (List.mem_of_getElem? h)
theorem lw_g {w : Cond} (h : w ∈ lw_tbl) (g : goodWord w = true) : w ∈ lw_all := List.mem_filter.mpr ⟨h, g⟩
theorem lw_ms : ∀ w ∈ k2_sels lw_privs, w ∈ lw_tbl := fun w h => show w ∈ k2_sels lw_privs ++ tables_1 from List.mem_append_left _ h
theorem lw_m1 : ∀ w ∈ tables_1_1, w ∈ lw_tbl := fun w h => show w ∈ k2_sels lw_privs ++ tables_1 from List.mem_append_right (k2_sels lw_privs) (show w ∈ tables_1 from List.mem_append_left _ h)
theorem lw_m2 : ∀ w ∈ tables_1_2, w ∈ lw_tbl := fun w h => show w ∈ k2_sels lw_privs ++ tables_1 from List.mem_append_right (k2_sels lw_privs) (show w ∈ tables_1 from List.mem_append_right _ (List.mem_append_left _ h))
theorem lw_m3 : ∀ w ∈ tables_1_3, w ∈ lw_tbl := fun w h => show w ∈ k2_sels lw_privs ++ tables_1 from List.mem_append_right (k2_sels lw_privs) (show w ∈ tables_1 from List.mem_append_right _ (List.mem_append_right _ (List.mem_append_left _ h)))
theorem lw_m4 : ∀ w ∈ tables_1_4, w ∈ lw_tbl := fun w h => show w ∈ k2_sels lw_privs ++ tables_1 from List.mem_append_right (k2_sels lw_privs) (show w ∈ tables_1 from List.mem_append_right _ (List.mem_append_right _ (List.mem_append_right _ (List.mem_append_left _ h))))
theorem lw_m5 : ∀ w ∈ tables_1_5, w ∈ lw_tbl := fun w h => show w ∈ k2_sels lw_privs ++ tables_1 from List.mem_append_right (k2_sels lw_privs) (show w ∈ tables_1 from List.mem_append_right _ (List.mem_append_right _ (List.mem_append_right _ (List.mem_append_right _ (List.mem_append_left _ h)))))
theorem lw_m6 : ∀ w ∈ tables_1_6, w ∈ lw_tbl := fun w h => show w ∈ k2_sels lw_privs ++ tables_1 from List.mem_append_right (k2_sels lw_privs) (show w ∈ tables_1 from List.mem_append_right _ (List.mem_append_right _ (List.mem_append_right _ (List.mem_append_right _ (List.mem_append_right _ (List.mem_append_left _ h))))))
theorem lw_m7 : ∀ w ∈ tables_1_7, w ∈ lw_tbl := fun w h => show w ∈ k2_sels lw_privs ++ tables_1 from List.mem_append_right (k2_sels lw_privs) (show w ∈ tables_1 from List.mem_append_right _ (List.mem_append_right _ (List.mem_append_right _ (List.mem_append_right _ (List.mem_append_right _ (List.mem_append_right _ h))))))
theorem qs0 : (Cond.selects "TollOnVowels" ⟨"TollOnVowels", "begins", "(I)I"⟩ ⟨"TollOnVowels", "begins", "(I)I"⟩) ∈ lw_all := lw_g (lw_at lw_ms 0 rfl) rfl
theorem qs1 : (Cond.selects "TollOnVowels" ⟨"TollOnVowels", "readsWord", "()Z"⟩ ⟨"TollOnVowels", "readsWord", "()Z"⟩) ∈ lw_all := lw_g (lw_at lw_ms 1 rfl) rfl
theorem qs2 : (Cond.selects "TollOnVowels" ⟨"TollOnVowels", "takesOf", "(Ljava/lang/String;)I"⟩ ⟨"TollOnVowels", "takesOf", "(Ljava/lang/String;)I"⟩) ∈ lw_all := lw_g (lw_at lw_ms 2 rfl) rfl
theorem qs3 : (Cond.selects "TollOnVowels" ⟨"TollOnVowels", "among", "(Ljava/lang/String;)I"⟩ ⟨"TollOnVowels", "among", "(Ljava/lang/String;)I"⟩) ∈ lw_all := lw_g (lw_at lw_ms 3 rfl) rfl
theorem qs4 : (Cond.selects "TollOnVowels" ⟨"TollOnVowels", "eats", "(C)Z"⟩ ⟨"TollOnVowels", "eats", "(C)Z"⟩) ∈ lw_all := lw_g (lw_at lw_ms 4 rfl) rfl
theorem qs5 : (Cond.selects "TollOnVowels" ⟨"TollOnVowels", "isAt", "(C)Z"⟩ ⟨"TollOnVowels", "isAt", "(C)Z"⟩) ∈ lw_all := lw_g (lw_at lw_ms 5 rfl) rfl
theorem qs6 : (Cond.selects "TollOnVowels" ⟨"TollOnVowels", "faultOf", "(IZ)I"⟩ ⟨"TollOnVowels", "faultOf", "(IZ)I"⟩) ∈ lw_all := lw_g (lw_at lw_ms 6 rfl) rfl
theorem qs7 : (Cond.selects "TollOnVowels" ⟨"TollOnVowels", "isNew", "()V"⟩ ⟨"TollOnVowels", "isNew", "()V"⟩) ∈ lw_all := lw_g (lw_at lw_ms 7 rfl) rfl
theorem qs8 : (Cond.selects "TollOnVowels" ⟨"TollOnVowels", "readsTraveller", "()Z"⟩ ⟨"TollOnVowels", "readsTraveller", "()Z"⟩) ∈ lw_all := lw_g (lw_at lw_ms 8 rfl) rfl
theorem qs9 : (Cond.selects "TollOnVowels" ⟨"TollOnVowels", "readsStation", "()I"⟩ ⟨"TollOnVowels", "readsStation", "()I"⟩) ∈ lw_all := lw_g (lw_at lw_ms 9 rfl) rfl
theorem qs10 : (Cond.selects "TollOnVowels" ⟨"TollOnVowels", "number", "(I)I"⟩ ⟨"TollOnVowels", "number", "(I)I"⟩) ∈ lw_all := lw_g (lw_at lw_ms 10 rfl) rfl
theorem qs11 : (Cond.selects "TollOnVowels" ⟨"TollOnVowels", "isDigit", "()Z"⟩ ⟨"TollOnVowels", "isDigit", "()Z"⟩) ∈ lw_all := lw_g (lw_at lw_ms 11 rfl) rfl
theorem qs12 : (Cond.selects "TollOnVowels" ⟨"TollOnVowels", "readsErrand", "()Z"⟩ ⟨"TollOnVowels", "readsErrand", "()Z"⟩) ∈ lw_all := lw_g (lw_at lw_ms 12 rfl) rfl
theorem qs13 : (Cond.selects "TollOnVowels" ⟨"TollOnVowels", "readsRule", "()I"⟩ ⟨"TollOnVowels", "readsRule", "()I"⟩) ∈ lw_all := lw_g (lw_at lw_ms 13 rfl) rfl
theorem qs14 : (Cond.selects "TollOnVowels" ⟨"TollOnVowels", "reads", "(I)LTollOnVowels$Node;"⟩ ⟨"TollOnVowels", "reads", "(I)LTollOnVowels$Node;"⟩) ∈ lw_all := lw_g (lw_at lw_ms 14 rfl) rfl
theorem qs15 : (Cond.selects "TollOnVowels" ⟨"TollOnVowels", "readsThing", "()LTollOnVowels$Node;"⟩ ⟨"TollOnVowels", "readsThing", "()LTollOnVowels$Node;"⟩) ∈ lw_all := lw_g (lw_at lw_ms 15 rfl) rfl
theorem qs16 : (Cond.selects "TollOnVowels" ⟨"TollOnVowels", "isWord", "(I)Z"⟩ ⟨"TollOnVowels", "isWord", "(I)Z"⟩) ∈ lw_all := lw_g (lw_at lw_ms 16 rfl) rfl
theorem qs17 : (Cond.selects "TollOnVowels" ⟨"TollOnVowels", "isStation", "(I)Z"⟩ ⟨"TollOnVowels", "isStation", "(I)Z"⟩) ∈ lw_all := lw_g (lw_at lw_ms 17 rfl) rfl
theorem qs18 : (Cond.selects "TollOnVowels" ⟨"TollOnVowels", "tollOf", "(III)I"⟩ ⟨"TollOnVowels", "tollOf", "(III)I"⟩) ∈ lw_all := lw_g (lw_at lw_ms 18 rfl) rfl
theorem qs19 : (Cond.selects "TollOnVowels" ⟨"TollOnVowels", "vowelAt", "(II)I"⟩ ⟨"TollOnVowels", "vowelAt", "(II)I"⟩) ∈ lw_all := lw_g (lw_at lw_ms 19 rfl) rfl
theorem qs20 : (Cond.selects "TollOnVowels" ⟨"TollOnVowels", "tells", "(J)V"⟩ ⟨"TollOnVowels", "tells", "(J)V"⟩) ∈ lw_all := lw_g (lw_at lw_ms 20 rfl) rfl
theorem qs21 : (Cond.selects "TollOnVowels" ⟨"TollOnVowels", "walks", "(LTollOnVowels$Road;II)I"⟩ ⟨"TollOnVowels", "walks", "(LTollOnVowels$Road;II)I"⟩) ∈ lw_all := lw_g (lw_at lw_ms 21 rfl) rfl
theorem qs22 : (Cond.selects "TollOnVowels" ⟨"TollOnVowels", "isTraveller", "(I)Z"⟩ ⟨"TollOnVowels", "isTraveller", "(I)Z"⟩) ∈ lw_all := lw_g (lw_at lw_ms 22 rfl) rfl
theorem qs23 : (Cond.selects "TollOnVowels" ⟨"TollOnVowels", "counts", "(I)I"⟩ ⟨"TollOnVowels", "counts", "(I)I"⟩) ∈ lw_all := lw_g (lw_at lw_ms 23 rfl) rfl
theorem qs24 : (Cond.selects "TollOnVowels" ⟨"TollOnVowels", "putsBy", "(LTollOnVowels$Road;)V"⟩ ⟨"TollOnVowels", "putsBy", "(LTollOnVowels$Road;)V"⟩) ∈ lw_all := lw_g (lw_at lw_ms 24 rfl) rfl
theorem qs25 : (Cond.selects "TollOnVowels" ⟨"TollOnVowels", "says", "(LTollOnVowels$Road;II)I"⟩ ⟨"TollOnVowels", "says", "(LTollOnVowels$Road;II)I"⟩) ∈ lw_all := lw_g (lw_at lw_ms 25 rfl) rfl
theorem qs26 : (Cond.selects "TollOnVowels" ⟨"TollOnVowels", "doesBy", "(IIII)I"⟩ ⟨"TollOnVowels", "doesBy", "(IIII)I"⟩) ∈ lw_all := lw_g (lw_at lw_ms 26 rfl) rfl
theorem qs27 : (Cond.selects "TollOnVowels" ⟨"TollOnVowels", "means", "(II)Z"⟩ ⟨"TollOnVowels", "means", "(II)Z"⟩) ∈ lw_all := lw_g (lw_at lw_ms 27 rfl) rfl
theorem qs28 : (Cond.selects "TollOnVowels" ⟨"TollOnVowels", "givesAlms", "(III)I"⟩ ⟨"TollOnVowels", "givesAlms", "(III)I"⟩) ∈ lw_all := lw_g (lw_at lw_ms 28 rfl) rfl
theorem qs29 : (Cond.selects "TollOnVowels" ⟨"TollOnVowels", "readsAct", "()Z"⟩ ⟨"TollOnVowels", "readsAct", "()Z"⟩) ∈ lw_all := lw_g (lw_at lw_ms 29 rfl) rfl
theorem qs30 : (Cond.selects "TollOnVowels" ⟨"TollOnVowels", "does", "(I)Z"⟩ ⟨"TollOnVowels", "does", "(I)Z"⟩) ∈ lw_all := lw_g (lw_at lw_ms 30 rfl) rfl
theorem qs31 : (Cond.selects "TollOnVowels" ⟨"TollOnVowels", "wordFor", "(I)I"⟩ ⟨"TollOnVowels", "wordFor", "(I)I"⟩) ∈ lw_all := lw_g (lw_at lw_ms 31 rfl) rfl
theorem qs32 : (Cond.selects "TollOnVowels" ⟨"TollOnVowels", "errandsOf", "(I)I"⟩ ⟨"TollOnVowels", "errandsOf", "(I)I"⟩) ∈ lw_all := lw_g (lw_at lw_ms 32 rfl) rfl
theorem qs33 : (Cond.selects "TollOnVowels" ⟨"TollOnVowels", "cheapestFor", "(III)I"⟩ ⟨"TollOnVowels", "cheapestFor", "(III)I"⟩) ∈ lw_all := lw_g (lw_at lw_ms 33 rfl) rfl
theorem qs34 : (Cond.selects "TollOnVowels" ⟨"TollOnVowels", "tollNow", "(II)I"⟩ ⟨"TollOnVowels", "tollNow", "(II)I"⟩) ∈ lw_all := lw_g (lw_at lw_ms 34 rfl) rfl
theorem qs35 : (Cond.selects "TollOnVowels" ⟨"TollOnVowels", "vowelsOf", "(I)I"⟩ ⟨"TollOnVowels", "vowelsOf", "(I)I"⟩) ∈ lw_all := lw_g (lw_at lw_ms 35 rfl) rfl
theorem qs36 : (Cond.selects "TollOnVowels" ⟨"TollOnVowels", "paid", "(I)Z"⟩ ⟨"TollOnVowels", "paid", "(I)Z"⟩) ∈ lw_all := lw_g (lw_at lw_ms 36 rfl) rfl
theorem qs37 : (Cond.selects "TollOnVowels" ⟨"TollOnVowels", "costFrom", "(III)I"⟩ ⟨"TollOnVowels", "costFrom", "(III)I"⟩) ∈ lw_all := lw_g (lw_at lw_ms 37 rfl) rfl
theorem qs38 : (Cond.selects "TollOnVowels" ⟨"TollOnVowels", "tellsFrom", "(II)I"⟩ ⟨"TollOnVowels", "tellsFrom", "(II)I"⟩) ∈ lw_all := lw_g (lw_at lw_ms 38 rfl) rfl
theorem qs39 : (Cond.selects "TollOnVowels" ⟨"TollOnVowels", "changesOf", "(IIZ)I"⟩ ⟨"TollOnVowels", "changesOf", "(IIZ)I"⟩) ∈ lw_all := lw_g (lw_at lw_ms 39 rfl) rfl
theorem qs40 : (Cond.selects "TollOnVowels" ⟨"TollOnVowels", "laysRow", "(I[IZ)I"⟩ ⟨"TollOnVowels", "laysRow", "(I[IZ)I"⟩) ∈ lw_all := lw_g (lw_at lw_ms 40 rfl) rfl
theorem qs41 : (Cond.selects "TollOnVowels" ⟨"TollOnVowels", "areApart", "(II)Z"⟩ ⟨"TollOnVowels", "areApart", "(II)Z"⟩) ∈ lw_all := lw_g (lw_at lw_ms 41 rfl) rfl
theorem qs42 : (Cond.selects "TollOnVowels" ⟨"TollOnVowels", "tollOfAll", "(I)I"⟩ ⟨"TollOnVowels", "tollOfAll", "(I)I"⟩) ∈ lw_all := lw_g (lw_at lw_ms 42 rfl) rfl
theorem qs43 : (Cond.selects "TollOnVowels" ⟨"TollOnVowels", "laysTrip", "(II)V"⟩ ⟨"TollOnVowels", "laysTrip", "(II)V"⟩) ∈ lw_all := lw_g (lw_at lw_ms 43 rfl) rfl
theorem qs44 : (Cond.selects "TollOnVowels" ⟨"TollOnVowels", "laysSayings", "(III)V"⟩ ⟨"TollOnVowels", "laysSayings", "(III)V"⟩) ∈ lw_all := lw_g (lw_at lw_ms 44 rfl) rfl
theorem qs45 : (Cond.selects "TollOnVowels" ⟨"TollOnVowels", "lessens", "(II)V"⟩ ⟨"TollOnVowels", "lessens", "(II)V"⟩) ∈ lw_all := lw_g (lw_at lw_ms 45 rfl) rfl
theorem qs46 : (Cond.selects "TollOnVowels" ⟨"TollOnVowels", "goesOn", "(II)V"⟩ ⟨"TollOnVowels", "goesOn", "(II)V"⟩) ∈ lw_all := lw_g (lw_at lw_ms 46 rfl) rfl
theorem qs47 : (Cond.selects "TollOnVowels" ⟨"TollOnVowels", "doneIn", "(II)I"⟩ ⟨"TollOnVowels", "doneIn", "(II)I"⟩) ∈ lw_all := lw_g (lw_at lw_ms 47 rfl) rfl
theorem qs48 : (Cond.selects "TollOnVowels" ⟨"TollOnVowels", "costOf", "(II)I"⟩ ⟨"TollOnVowels", "costOf", "(II)I"⟩) ∈ lw_all := lw_g (lw_at lw_ms 48 rfl) rfl
theorem qs49 : (Cond.selects "TollOnVowels" ⟨"TollOnVowels", "worthOf", "(I)I"⟩ ⟨"TollOnVowels", "worthOf", "(I)I"⟩) ∈ lw_all := lw_g (lw_at lw_ms 49 rfl) rfl
theorem qs50 : (Cond.selects "TollOnVowels" ⟨"TollOnVowels", "comesIn", "(II)I"⟩ ⟨"TollOnVowels", "comesIn", "(II)I"⟩) ∈ lw_all := lw_g (lw_at lw_ms 50 rfl) rfl
theorem qs51 : (Cond.selects "TollOnVowels" ⟨"TollOnVowels", "saysFrom", "(III)V"⟩ ⟨"TollOnVowels", "saysFrom", "(III)V"⟩) ∈ lw_all := lw_g (lw_at lw_ms 51 rfl) rfl
theorem qs52 : (Cond.selects "TollOnVowels" ⟨"TollOnVowels", "isNothingLeft", "()Z"⟩ ⟨"TollOnVowels", "isNothingLeft", "()Z"⟩) ∈ lw_all := lw_g (lw_at lw_ms 52 rfl) rfl
theorem qs53 : (Cond.selects "TollOnVowels" ⟨"TollOnVowels", "changesLeft", "(II)Z"⟩ ⟨"TollOnVowels", "changesLeft", "(II)Z"⟩) ∈ lw_all := lw_g (lw_at lw_ms 53 rfl) rfl
theorem qs54 : (Cond.selects "TollOnVowels" ⟨"TollOnVowels", "vowelIn", "(II)I"⟩ ⟨"TollOnVowels", "vowelIn", "(II)I"⟩) ∈ lw_all := lw_g (lw_at lw_ms 54 rfl) rfl
theorem qs55 : (Cond.selects "TollOnVowels" ⟨"TollOnVowels", "leftBy", "(I)I"⟩ ⟨"TollOnVowels", "leftBy", "(I)I"⟩) ∈ lw_all := lw_g (lw_at lw_ms 55 rfl) rfl
theorem qs56 : (Cond.selects "TollOnVowels" ⟨"TollOnVowels", "draws", "(I)I"⟩ ⟨"TollOnVowels", "draws", "(I)I"⟩) ∈ lw_all := lw_g (lw_at lw_ms 56 rfl) rfl
theorem qs57 : (Cond.selects "TollOnVowels" ⟨"TollOnVowels", "purses", "()I"⟩ ⟨"TollOnVowels", "purses", "()I"⟩) ∈ lw_all := lw_g (lw_at lw_ms 57 rfl) rfl
theorem qs58 : (Cond.selects "TollOnVowels" ⟨"TollOnVowels", "compounds", "()I"⟩ ⟨"TollOnVowels", "compounds", "()I"⟩) ∈ lw_all := lw_g (lw_at lw_ms 58 rfl) rfl
theorem qs59 : (Cond.selects "java/lang/Throwable" ⟨"java/lang/Throwable", "fillInStackTrace", "(I)Ljava/lang/Throwable;"⟩ ⟨"java/lang/Throwable", "fillInStackTrace", "(I)Ljava/lang/Throwable;"⟩) ∈ lw_all := lw_g (lw_at lw_ms 59 rfl) rfl
theorem qs60 : (Cond.selects "TollOnVowelsModel" ⟨"TollOnVowelsModel", "beginText", "(I)V"⟩ ⟨"TollOnVowelsModel", "beginText", "(I)V"⟩) ∈ lw_all := lw_g (lw_at lw_ms 60 rfl) rfl
theorem qs61 : (Cond.selects "TollOnVowelsModel" ⟨"TollOnVowelsModel", "begin", "([BII)V"⟩ ⟨"TollOnVowelsModel", "begin", "([BII)V"⟩) ∈ lw_all := lw_g (lw_at lw_ms 61 rfl) rfl
theorem qs62 : (Cond.selects "TollOnVowelsModel" ⟨"TollOnVowelsModel", "fine", "()Z"⟩ ⟨"TollOnVowelsModel", "fine", "()Z"⟩) ∈ lw_all := lw_g (lw_at lw_ms 62 rfl) rfl
theorem qs63 : (Cond.selects "TollOnVowelsModel" ⟨"TollOnVowelsModel", "fault", "(I)V"⟩ ⟨"TollOnVowelsModel", "fault", "(I)V"⟩) ∈ lw_all := lw_g (lw_at lw_ms 63 rfl) rfl
theorem qs64 : (Cond.selects "TollOnVowelsModel" ⟨"TollOnVowelsModel", "readWord", "(I)V"⟩ ⟨"TollOnVowelsModel", "readWord", "(I)V"⟩) ∈ lw_all := lw_g (lw_at lw_ms 64 rfl) rfl
theorem qs65 : (Cond.selects "TollOnVowelsModel" ⟨"TollOnVowelsModel", "oneOf", "(CI)I"⟩ ⟨"TollOnVowelsModel", "oneOf", "(CI)I"⟩) ∈ lw_all := lw_g (lw_at lw_ms 65 rfl) rfl
theorem qs66 : (Cond.selects "TollOnVowelsModel" ⟨"TollOnVowelsModel", "here", "()I"⟩ ⟨"TollOnVowelsModel", "here", "()I"⟩) ∈ lw_all := lw_g (lw_at lw_ms 66 rfl) rfl
theorem qs67 : (Cond.selects "TollOnVowelsModel" ⟨"TollOnVowelsModel", "passes", "(C)Z"⟩ ⟨"TollOnVowelsModel", "passes", "(C)Z"⟩) ∈ lw_all := lw_g (lw_at lw_ms 67 rfl) rfl
theorem qs68 : (Cond.selects "TollOnVowelsModel" ⟨"TollOnVowelsModel", "wasRight", "()Z"⟩ ⟨"TollOnVowelsModel", "wasRight", "()Z"⟩) ∈ lw_all := lw_g (lw_at lw_ms 68 rfl) rfl
theorem qs69 : (Cond.selects "TollOnVowelsModel" ⟨"TollOnVowelsModel", "need", "(C)V"⟩ ⟨"TollOnVowelsModel", "need", "(C)V"⟩) ∈ lw_all := lw_g (lw_at lw_ms 69 rfl) rfl
theorem qs70 : (Cond.selects "TollOnVowelsModel" ⟨"TollOnVowelsModel", "number", "(I)I"⟩ ⟨"TollOnVowelsModel", "number", "(I)I"⟩) ∈ lw_all := lw_g (lw_at lw_ms 70 rfl) rfl
theorem qs71 : (Cond.selects "TollOnVowelsModel" ⟨"TollOnVowelsModel", "readRule", "()Z"⟩ ⟨"TollOnVowelsModel", "readRule", "()Z"⟩) ∈ lw_all := lw_g (lw_at lw_ms 71 rfl) rfl
theorem qs72 : (Cond.selects "TollOnVowelsModel" ⟨"TollOnVowelsModel", "held", "(I)I"⟩ ⟨"TollOnVowelsModel", "held", "(I)I"⟩) ∈ lw_all := lw_g (lw_at lw_ms 72 rfl) rfl
theorem qs73 : (Cond.selects "TollOnVowelsModel" ⟨"TollOnVowelsModel", "sum", "(I)I"⟩ ⟨"TollOnVowelsModel", "sum", "(I)I"⟩) ∈ lw_all := lw_g (lw_at lw_ms 73 rfl) rfl
theorem qs74 : (Cond.selects "TollOnVowelsModel" ⟨"TollOnVowelsModel", "product", "(I)I"⟩ ⟨"TollOnVowelsModel", "product", "(I)I"⟩) ∈ lw_all := lw_g (lw_at lw_ms 74 rfl) rfl
theorem qs75 : (Cond.selects "TollOnVowelsModel" ⟨"TollOnVowelsModel", "thing", "(I)I"⟩ ⟨"TollOnVowelsModel", "thing", "(I)I"⟩) ∈ lw_all := lw_g (lw_at lw_ms 75 rfl) rfl
theorem qs76 : (Cond.selects "TollOnVowelsModel" ⟨"TollOnVowelsModel", "isWord", "(I)Z"⟩ ⟨"TollOnVowelsModel", "isWord", "(I)Z"⟩) ∈ lw_all := lw_g (lw_at lw_ms 76 rfl) rfl
theorem qs77 : (Cond.selects "TollOnVowelsModel" ⟨"TollOnVowelsModel", "lost", "()I"⟩ ⟨"TollOnVowelsModel", "lost", "()I"⟩) ∈ lw_all := lw_g (lw_at lw_ms 77 rfl) rfl
theorem qs78 : (Cond.selects "TollOnVowelsModel" ⟨"TollOnVowelsModel", "vowelsIn", "(I)I"⟩ ⟨"TollOnVowelsModel", "vowelsIn", "(I)I"⟩) ∈ lw_all := lw_g (lw_at lw_ms 78 rfl) rfl
theorem qs79 : (Cond.selects "TollOnVowelsModel" ⟨"TollOnVowelsModel", "often", "(II)I"⟩ ⟨"TollOnVowelsModel", "often", "(II)I"⟩) ∈ lw_all := lw_g (lw_at lw_ms 79 rfl) rfl
theorem qs80 : (Cond.selects "TollOnVowelsModel" ⟨"TollOnVowelsModel", "letter", "(II)I"⟩ ⟨"TollOnVowelsModel", "letter", "(II)I"⟩) ∈ lw_all := lw_g (lw_at lw_ms 80 rfl) rfl
theorem qs81 : (Cond.selects "TollOnVowelsModel" ⟨"TollOnVowelsModel", "isOne", "(I)Z"⟩ ⟨"TollOnVowelsModel", "isOne", "(I)Z"⟩) ∈ lw_all := lw_g (lw_at lw_ms 81 rfl) rfl
theorem qs82 : (Cond.selects "TollOnVowelsModel" ⟨"TollOnVowelsModel", "openOf", "(I)I"⟩ ⟨"TollOnVowelsModel", "openOf", "(I)I"⟩) ∈ lw_all := lw_g (lw_at lw_ms 82 rfl) rfl
theorem qs83 : (Cond.selects "TollOnVowelsModel" ⟨"TollOnVowelsModel", "field", "(II)I"⟩ ⟨"TollOnVowelsModel", "field", "(II)I"⟩) ∈ lw_all := lw_g (lw_at lw_ms 83 rfl) rfl
theorem qs84 : (Cond.selects "TollOnVowelsModel" ⟨"TollOnVowelsModel", "isStation", "(I)Z"⟩ ⟨"TollOnVowelsModel", "isStation", "(I)Z"⟩) ∈ lw_all := lw_g (lw_at lw_ms 84 rfl) rfl
theorem qs85 : (Cond.selects "TollOnVowelsModel" ⟨"TollOnVowelsModel", "tollNow", "(II)I"⟩ ⟨"TollOnVowelsModel", "tollNow", "(II)I"⟩) ∈ lw_all := lw_g (lw_at lw_ms 85 rfl) rfl
theorem qs86 : (Cond.selects "TollOnVowelsModel" ⟨"TollOnVowelsModel", "tollOf", "(III)I"⟩ ⟨"TollOnVowelsModel", "tollOf", "(III)I"⟩) ∈ lw_all := lw_g (lw_at lw_ms 86 rfl) rfl
theorem qs87 : (Cond.selects "TollOnVowelsModel" ⟨"TollOnVowelsModel", "tell", "(J)V"⟩ ⟨"TollOnVowelsModel", "tell", "(J)V"⟩) ∈ lw_all := lw_g (lw_at lw_ms 87 rfl) rfl
theorem qs88 : (Cond.selects "TollOnVowelsModel" ⟨"TollOnVowelsModel", "refusesWalk", "([III)I"⟩ ⟨"TollOnVowelsModel", "refusesWalk", "([III)I"⟩) ∈ lw_all := lw_g (lw_at lw_ms 88 rfl) rfl
theorem qs89 : (Cond.selects "TollOnVowelsModel" ⟨"TollOnVowelsModel", "remember", "([I)V"⟩ ⟨"TollOnVowelsModel", "remember", "([I)V"⟩) ∈ lw_all := lw_g (lw_at lw_ms 89 rfl) rfl
theorem qs90 : (Cond.selects "TollOnVowelsModel" ⟨"TollOnVowelsModel", "refusesSay", "([III)I"⟩ ⟨"TollOnVowelsModel", "refusesSay", "([III)I"⟩) ∈ lw_all := lw_g (lw_at lw_ms 90 rfl) rfl
theorem qs91 : (Cond.selects "TollOnVowelsModel" ⟨"TollOnVowelsModel", "goSay", "([III)I"⟩ ⟨"TollOnVowelsModel", "goSay", "([III)I"⟩) ∈ lw_all := lw_g (lw_at lw_ms 91 rfl) rfl
theorem qs92 : (Cond.selects "TollOnVowelsModel" ⟨"TollOnVowelsModel", "means", "(II)Z"⟩ ⟨"TollOnVowelsModel", "means", "(II)Z"⟩) ∈ lw_all := lw_g (lw_at lw_ms 92 rfl) rfl
theorem qs93 : (Cond.selects "TollOnVowelsModel" ⟨"TollOnVowelsModel", "readAct", "(I)V"⟩ ⟨"TollOnVowelsModel", "readAct", "(I)V"⟩) ∈ lw_all := lw_g (lw_at lw_ms 93 rfl) rfl
theorem qs94 : (Cond.selects "TollOnVowelsModel" ⟨"TollOnVowelsModel", "act", "(III)Z"⟩ ⟨"TollOnVowelsModel", "act", "(III)Z"⟩) ∈ lw_all := lw_g (lw_at lw_ms 94 rfl) rfl
theorem qs95 : (Cond.selects "TollOnVowelsModel" ⟨"TollOnVowelsModel", "wordFor", "(I)I"⟩ ⟨"TollOnVowelsModel", "wordFor", "(I)I"⟩) ∈ lw_all := lw_g (lw_at lw_ms 95 rfl) rfl
theorem qs96 : (Cond.selects "TollOnVowelsModel" ⟨"TollOnVowelsModel", "cheapestOf", "(II)I"⟩ ⟨"TollOnVowelsModel", "cheapestOf", "(II)I"⟩) ∈ lw_all := lw_g (lw_at lw_ms 96 rfl) rfl
theorem qs97 : (Cond.selects "TollOnVowelsModel" ⟨"TollOnVowelsModel", "tells", "(III)I"⟩ ⟨"TollOnVowelsModel", "tells", "(III)I"⟩) ∈ lw_all := lw_g (lw_at lw_ms 97 rfl) rfl
theorem qs98 : (Cond.selects "TollOnVowelsModel" ⟨"TollOnVowelsModel", "differBy", "(IIZ)I"⟩ ⟨"TollOnVowelsModel", "differBy", "(IIZ)I"⟩) ∈ lw_all := lw_g (lw_at lw_ms 98 rfl) rfl
theorem qs99 : (Cond.selects "TollOnVowelsModel" ⟨"TollOnVowelsModel", "layWord", "(I[IZ)I"⟩ ⟨"TollOnVowelsModel", "layWord", "(I[IZ)I"⟩) ∈ lw_all := lw_g (lw_at lw_ms 99 rfl) rfl
theorem qs100 : (Cond.selects "TollOnVowelsModel" ⟨"TollOnVowelsModel", "changesOf", "(II)I"⟩ ⟨"TollOnVowelsModel", "changesOf", "(II)I"⟩) ∈ lw_all := lw_g (lw_at lw_ms 100 rfl) rfl
theorem qs101 : (Cond.selects "TollOnVowelsModel" ⟨"TollOnVowelsModel", "share", "(II)Z"⟩ ⟨"TollOnVowelsModel", "share", "(II)Z"⟩) ∈ lw_all := lw_g (lw_at lw_ms 101 rfl) rfl
theorem qs102 : (Cond.selects "TollOnVowelsModel" ⟨"TollOnVowelsModel", "tollsOf", "(II)I"⟩ ⟨"TollOnVowelsModel", "tollsOf", "(II)I"⟩) ∈ lw_all := lw_g (lw_at lw_ms 102 rfl) rfl
theorem qs103 : (Cond.selects "TollOnVowelsModel" ⟨"TollOnVowelsModel", "areApart", "(II)Z"⟩ ⟨"TollOnVowelsModel", "areApart", "(II)Z"⟩) ∈ lw_all := lw_g (lw_at lw_ms 103 rfl) rfl
theorem qs104 : (Cond.selects "TollOnVowelsModel" ⟨"TollOnVowelsModel", "leastTrip", "(II)I"⟩ ⟨"TollOnVowelsModel", "leastTrip", "(II)I"⟩) ∈ lw_all := lw_g (lw_at lw_ms 104 rfl) rfl
theorem qs105 : (Cond.selects "TollOnVowelsModel" ⟨"TollOnVowelsModel", "move", "()V"⟩ ⟨"TollOnVowelsModel", "move", "()V"⟩) ∈ lw_all := lw_g (lw_at lw_ms 105 rfl) rfl
theorem qs106 : (Cond.selects "TollOnVowelsModel" ⟨"TollOnVowelsModel", "speak", "(II)V"⟩ ⟨"TollOnVowelsModel", "speak", "(II)V"⟩) ∈ lw_all := lw_g (lw_at lw_ms 106 rfl) rfl
theorem qs107 : (Cond.selects "TollOnVowelsModel" ⟨"TollOnVowelsModel", "does", "(III)I"⟩ ⟨"TollOnVowelsModel", "does", "(III)I"⟩) ∈ lw_all := lw_g (lw_at lw_ms 107 rfl) rfl
theorem qs108 : (Cond.selects "TollOnVowelsModel" ⟨"TollOnVowelsModel", "takesBy", "(II)I"⟩ ⟨"TollOnVowelsModel", "takesBy", "(II)I"⟩) ∈ lw_all := lw_g (lw_at lw_ms 108 rfl) rfl
theorem qs109 : (Cond.selects "TollOnVowelsModel" ⟨"TollOnVowelsModel", "goSaid", "(II)V"⟩ ⟨"TollOnVowelsModel", "goSaid", "(II)V"⟩) ∈ lw_all := lw_g (lw_at lw_ms 109 rfl) rfl
theorem qs110 : (Cond.selects "TollOnVowelsModel" ⟨"TollOnVowelsModel", "isAll", "()Z"⟩ ⟨"TollOnVowelsModel", "isAll", "()Z"⟩) ∈ lw_all := lw_g (lw_at lw_ms 110 rfl) rfl
theorem qs111 : (Cond.selects "TollOnVowelsModel" ⟨"TollOnVowelsModel", "isFirst", "(I)Z"⟩ ⟨"TollOnVowelsModel", "isFirst", "(I)Z"⟩) ∈ lw_all := lw_g (lw_at lw_ms 111 rfl) rfl
theorem qs112 : (Cond.selects "TollOnVowelsModel" ⟨"TollOnVowelsModel", "take", "(II)V"⟩ ⟨"TollOnVowelsModel", "take", "(II)V"⟩) ∈ lw_all := lw_g (lw_at lw_ms 112 rfl) rfl
theorem qs113 : (Cond.selects "TollOnVowelsModel" ⟨"TollOnVowelsModel", "draw", "(I)I"⟩ ⟨"TollOnVowelsModel", "draw", "(I)I"⟩) ∈ lw_all := lw_g (lw_at lw_ms 113 rfl) rfl
theorem qs114 : (Cond.selects "TollOnVowelsModel" ⟨"TollOnVowelsModel", "sumOf", "(II)I"⟩ ⟨"TollOnVowelsModel", "sumOf", "(II)I"⟩) ∈ lw_all := lw_g (lw_at lw_ms 114 rfl) rfl
