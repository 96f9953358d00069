-- ===== PART A: goes FIRST, ahead of the names: the tables' words, and 'selects' of the private methods out of them =====
/-- a private method of a class that the tables say can be made, by its rows of tables_1 -/
def lw_okq (q : MethodName × Nat) : Prop := (q.1.cls ≠ "java/lang/invoke/MethodHandle" ∧ q.1.cls ≠ "java/lang/invoke/VarHandle") ∧ Cond.instantiable q.1.cls q.2 ∈ tables_1 ∧ Cond.privateMethod q.1 ∈ tables_1 ∧ Cond.instanceMethod q.1 ∈ tables_1
set_option maxRecDepth 100000
theorem lw_t1 {w : Cond} (h : w ∈ tables_1_1) : w ∈ tables_1 := List.mem_append_left _ h
theorem lw_t2 {w : Cond} (h : w ∈ tables_1_2) : w ∈ tables_1 := List.mem_append_right _ (List.mem_append_left _ h)
theorem lw_t3 {w : Cond} (h : w ∈ tables_1_3) : w ∈ tables_1 := List.mem_append_right _ (List.mem_append_right _ (List.mem_append_left _ h))
theorem lw_t4 {w : Cond} (h : w ∈ tables_1_4) : w ∈ tables_1 := List.mem_append_right _ (List.mem_append_right _ (List.mem_append_right _ (List.mem_append_left _ h)))
theorem lw_t5 {w : Cond} (h : w ∈ tables_1_5) : w ∈ tables_1 := List.mem_append_right _ (List.mem_append_right _ (List.mem_append_right _ (List.mem_append_right _ (List.mem_append_left _ h))))
theorem lw_t6 {w : Cond} (h : w ∈ tables_1_6) : w ∈ tables_1 := List.mem_append_right _ (List.mem_append_right _ (List.mem_append_right _ (List.mem_append_right _ (List.mem_append_right _ (List.mem_append_left _ h)))))
theorem lw_t7 {w : Cond} (h : w ∈ tables_1_7) : w ∈ tables_1 := List.mem_append_right _ (List.mem_append_right _ (List.mem_append_right _ (List.mem_append_right _ (List.mem_append_right _ (List.mem_append_right _ (List.mem_append_left _ h))))))
theorem lw_t8 {w : Cond} (h : w ∈ tables_1_8) : w ∈ tables_1 := List.mem_append_right _ (List.mem_append_right _ (List.mem_append_right _ (List.mem_append_right _ (List.mem_append_right _ (List.mem_append_right _ (List.mem_append_right _ h))))))
theorem lw_p0 : lw_okq (⟨"java/lang/Throwable", "fillInStackTrace", "(I)Ljava/lang/Throwable;"⟩, 6) := ⟨⟨by decide +kernel, by decide +kernel⟩, lw_t1 (List.mem_of_getElem? (i := 85) rfl), lw_t1 (List.mem_of_getElem? (i := 83) rfl), lw_t1 (List.mem_of_getElem? (i := 84) rfl)⟩
theorem lw_p1 : lw_okq (⟨"HatRank", "isPlace", "(I)Z"⟩, 36) := ⟨⟨by decide +kernel, by decide +kernel⟩, lw_t1 (List.mem_of_getElem? (i := 38) rfl), lw_t2 (List.mem_of_getElem? (i := 88) rfl), lw_t2 (List.mem_of_getElem? (i := 89) rfl)⟩
theorem lw_p2 : lw_okq (⟨"HatRank", "isWay", "(II)Z"⟩, 36) := ⟨⟨by decide +kernel, by decide +kernel⟩, lw_t1 (List.mem_of_getElem? (i := 38) rfl), lw_t2 (List.mem_of_getElem? (i := 92) rfl), lw_t2 (List.mem_of_getElem? (i := 93) rfl)⟩
theorem lw_p3 : lw_okq (⟨"HatRank", "mayBe", "(III)Z"⟩, 36) := ⟨⟨by decide +kernel, by decide +kernel⟩, lw_t1 (List.mem_of_getElem? (i := 38) rfl), lw_t2 (List.mem_of_getElem? (i := 100) rfl), lw_t2 (List.mem_of_getElem? (i := 101) rfl)⟩
theorem lw_p4 : lw_okq (⟨"HatRank", "add", "(III)V"⟩, 36) := ⟨⟨by decide +kernel, by decide +kernel⟩, lw_t1 (List.mem_of_getElem? (i := 38) rfl), lw_t2 (List.mem_of_getElem? (i := 104) rfl), lw_t2 (List.mem_of_getElem? (i := 105) rfl)⟩
theorem lw_p5 : lw_okq (⟨"HatRank", "toldIn", "(Ljava/lang/Object;J)I"⟩, 36) := ⟨⟨by decide +kernel, by decide +kernel⟩, lw_t1 (List.mem_of_getElem? (i := 38) rfl), lw_t2 (List.mem_of_getElem? (i := 142) rfl), lw_t2 (List.mem_of_getElem? (i := 143) rfl)⟩
theorem lw_p6 : lw_okq (⟨"HatRank", "isPerson", "(I)Z"⟩, 36) := ⟨⟨by decide +kernel, by decide +kernel⟩, lw_t1 (List.mem_of_getElem? (i := 38) rfl), lw_t2 (List.mem_of_getElem? (i := 151) rfl), lw_t2 (List.mem_of_getElem? (i := 152) rfl)⟩
theorem lw_p7 : lw_okq (⟨"HatRank", "become", "(LHatRank$Held;I)I"⟩, 36) := ⟨⟨by decide +kernel, by decide +kernel⟩, lw_t1 (List.mem_of_getElem? (i := 38) rfl), lw_t2 (List.mem_of_getElem? (i := 155) rfl), lw_t2 (List.mem_of_getElem? (i := 156) rfl)⟩
theorem lw_p8 : lw_okq (⟨"HatRank", "ofPerson", "(II)I"⟩, 36) := ⟨⟨by decide +kernel, by decide +kernel⟩, lw_t1 (List.mem_of_getElem? (i := 38) rfl), lw_t2 (List.mem_of_getElem? (i := 168) rfl), lw_t2 (List.mem_of_getElem? (i := 169) rfl)⟩
theorem lw_p9 : lw_okq (⟨"HatRank", "rankOf", "(I)I"⟩, 36) := ⟨⟨by decide +kernel, by decide +kernel⟩, lw_t1 (List.mem_of_getElem? (i := 38) rfl), lw_t2 (List.mem_of_getElem? (i := 172) rfl), lw_t2 (List.mem_of_getElem? (i := 173) rfl)⟩
theorem lw_p10 : lw_okq (⟨"HatRank", "isAbove", "(LHatRank$Town;II)Z"⟩, 36) := ⟨⟨by decide +kernel, by decide +kernel⟩, lw_t1 (List.mem_of_getElem? (i := 38) rfl), lw_t2 (List.mem_of_getElem? (i := 176) rfl), lw_t2 (List.mem_of_getElem? (i := 177) rfl)⟩
theorem lw_p11 : lw_okq (⟨"HatRank", "fallsOf", "(LHatRank$Town;II)I"⟩, 36) := ⟨⟨by decide +kernel, by decide +kernel⟩, lw_t1 (List.mem_of_getElem? (i := 38) rfl), lw_t2 (List.mem_of_getElem? (i := 183) rfl), lw_t2 (List.mem_of_getElem? (i := 184) rfl)⟩
theorem lw_p12 : lw_okq (⟨"HatRank", "fallsAt", "(LHatRank$Town;IIII)I"⟩, 36) := ⟨⟨by decide +kernel, by decide +kernel⟩, lw_t1 (List.mem_of_getElem? (i := 38) rfl), lw_t2 (List.mem_of_getElem? (i := 187) rfl), lw_t2 (List.mem_of_getElem? (i := 188) rfl)⟩
theorem lw_p13 : lw_okq (⟨"HatRank", "gustAt", "(II)I"⟩, 36) := ⟨⟨by decide +kernel, by decide +kernel⟩, lw_t1 (List.mem_of_getElem? (i := 38) rfl), lw_t2 (List.mem_of_getElem? (i := 191) rfl), lw_t2 (List.mem_of_getElem? (i := 192) rfl)⟩
theorem lw_p14 : lw_okq (⟨"HatRank", "othersAt", "(LHatRank$Town;II)I"⟩, 36) := ⟨⟨by decide +kernel, by decide +kernel⟩, lw_t1 (List.mem_of_getElem? (i := 38) rfl), lw_t2 (List.mem_of_getElem? (i := 202) rfl), lw_t2 (List.mem_of_getElem? (i := 203) rfl)⟩
theorem lw_p15 : lw_okq (⟨"HatRank", "ruled", "()I"⟩, 36) := ⟨⟨by decide +kernel, by decide +kernel⟩, lw_t1 (List.mem_of_getElem? (i := 38) rfl), lw_t2 (List.mem_of_getElem? (i := 206) rfl), lw_t2 (List.mem_of_getElem? (i := 207) rfl)⟩
def lw_privs_1 : List (MethodName × Nat) := [(⟨"java/lang/Throwable", "fillInStackTrace", "(I)Ljava/lang/Throwable;"⟩, 6), (⟨"HatRank", "isPlace", "(I)Z"⟩, 36), (⟨"HatRank", "isWay", "(II)Z"⟩, 36), (⟨"HatRank", "mayBe", "(III)Z"⟩, 36), (⟨"HatRank", "add", "(III)V"⟩, 36), (⟨"HatRank", "toldIn", "(Ljava/lang/Object;J)I"⟩, 36), (⟨"HatRank", "isPerson", "(I)Z"⟩, 36), (⟨"HatRank", "become", "(LHatRank$Held;I)I"⟩, 36), (⟨"HatRank", "ofPerson", "(II)I"⟩, 36), (⟨"HatRank", "rankOf", "(I)I"⟩, 36), (⟨"HatRank", "isAbove", "(LHatRank$Town;II)Z"⟩, 36), (⟨"HatRank", "fallsOf", "(LHatRank$Town;II)I"⟩, 36), (⟨"HatRank", "fallsAt", "(LHatRank$Town;IIII)I"⟩, 36), (⟨"HatRank", "gustAt", "(II)I"⟩, 36), (⟨"HatRank", "othersAt", "(LHatRank$Town;II)I"⟩, 36), (⟨"HatRank", "ruled", "()I"⟩, 36)]
theorem lw_r1 : ∀ q ∈ lw_privs_1, lw_okq q := List.forall_mem_cons.mpr ⟨lw_p0, List.forall_mem_cons.mpr ⟨lw_p1, List.forall_mem_cons.mpr ⟨lw_p2, List.forall_mem_cons.mpr ⟨lw_p3, List.forall_mem_cons.mpr ⟨lw_p4, List.forall_mem_cons.mpr ⟨lw_p5, List.forall_mem_cons.mpr ⟨lw_p6, List.forall_mem_cons.mpr ⟨lw_p7, List.forall_mem_cons.mpr ⟨lw_p8, List.forall_mem_cons.mpr ⟨lw_p9, List.forall_mem_cons.mpr ⟨lw_p10, List.forall_mem_cons.mpr ⟨lw_p11, List.forall_mem_cons.mpr ⟨lw_p12, List.forall_mem_cons.mpr ⟨lw_p13, List.forall_mem_cons.mpr ⟨lw_p14, List.forall_mem_cons.mpr ⟨lw_p15, fun _ h => absurd h List.not_mem_nil⟩⟩⟩⟩⟩⟩⟩⟩⟩⟩⟩⟩⟩⟩⟩⟩
theorem lw_p16 : lw_okq (⟨"HatRank", "ofPlace", "(II)I"⟩, 36) := ⟨⟨by decide +kernel, by decide +kernel⟩, lw_t1 (List.mem_of_getElem? (i := 38) rfl), lw_t2 (List.mem_of_getElem? (i := 234) rfl), lw_t2 (List.mem_of_getElem? (i := 235) rfl)⟩
theorem lw_p17 : lw_okq (⟨"HatRank", "readLaw", "()LHatRank$Line;"⟩, 36) := ⟨⟨by decide +kernel, by decide +kernel⟩, lw_t1 (List.mem_of_getElem? (i := 38) rfl), lw_t3 (List.mem_of_getElem? (i := 6) rfl), lw_t3 (List.mem_of_getElem? (i := 7) rfl)⟩
theorem lw_p18 : lw_okq (⟨"HatRank", "readLine", "()LHatRank$Line;"⟩, 36) := ⟨⟨by decide +kernel, by decide +kernel⟩, lw_t1 (List.mem_of_getElem? (i := 38) rfl), lw_t3 (List.mem_of_getElem? (i := 10) rfl), lw_t3 (List.mem_of_getElem? (i := 11) rfl)⟩
theorem lw_p19 : lw_okq (⟨"HatRank", "readEither", "()LHatRank$Term;"⟩, 36) := ⟨⟨by decide +kernel, by decide +kernel⟩, lw_t1 (List.mem_of_getElem? (i := 38) rfl), lw_t3 (List.mem_of_getElem? (i := 30) rfl), lw_t3 (List.mem_of_getElem? (i := 31) rfl)⟩
theorem lw_p20 : lw_okq (⟨"HatRank", "readAll", "()LHatRank$Term;"⟩, 36) := ⟨⟨by decide +kernel, by decide +kernel⟩, lw_t1 (List.mem_of_getElem? (i := 38) rfl), lw_t3 (List.mem_of_getElem? (i := 34) rfl), lw_t3 (List.mem_of_getElem? (i := 35) rfl)⟩
theorem lw_p21 : lw_okq (⟨"HatRank", "readLike", "()LHatRank$Term;"⟩, 36) := ⟨⟨by decide +kernel, by decide +kernel⟩, lw_t1 (List.mem_of_getElem? (i := 38) rfl), lw_t3 (List.mem_of_getElem? (i := 38) rfl), lw_t3 (List.mem_of_getElem? (i := 39) rfl)⟩
theorem lw_p22 : lw_okq (⟨"HatRank", "readPlus", "()LHatRank$Term;"⟩, 36) := ⟨⟨by decide +kernel, by decide +kernel⟩, lw_t1 (List.mem_of_getElem? (i := 38) rfl), lw_t3 (List.mem_of_getElem? (i := 42) rfl), lw_t3 (List.mem_of_getElem? (i := 43) rfl)⟩
theorem lw_p23 : lw_okq (⟨"HatRank", "readTimes", "()LHatRank$Term;"⟩, 36) := ⟨⟨by decide +kernel, by decide +kernel⟩, lw_t1 (List.mem_of_getElem? (i := 38) rfl), lw_t3 (List.mem_of_getElem? (i := 46) rfl), lw_t3 (List.mem_of_getElem? (i := 47) rfl)⟩
theorem lw_p24 : lw_okq (⟨"HatRank", "readOne", "()LHatRank$Term;"⟩, 36) := ⟨⟨by decide +kernel, by decide +kernel⟩, lw_t1 (List.mem_of_getElem? (i := 38) rfl), lw_t3 (List.mem_of_getElem? (i := 50) rfl), lw_t3 (List.mem_of_getElem? (i := 51) rfl)⟩
theorem lw_p25 : lw_okq (⟨"HatRank", "isDigit", "()Z"⟩, 36) := ⟨⟨by decide +kernel, by decide +kernel⟩, lw_t1 (List.mem_of_getElem? (i := 38) rfl), lw_t3 (List.mem_of_getElem? (i := 54) rfl), lw_t3 (List.mem_of_getElem? (i := 55) rfl)⟩
theorem lw_p26 : lw_okq (⟨"HatRank", "peek", "()I"⟩, 36) := ⟨⟨by decide +kernel, by decide +kernel⟩, lw_t1 (List.mem_of_getElem? (i := 38) rfl), lw_t3 (List.mem_of_getElem? (i := 58) rfl), lw_t3 (List.mem_of_getElem? (i := 59) rfl)⟩
theorem lw_p27 : lw_okq (⟨"HatRank", "expect", "(I)V"⟩, 36) := ⟨⟨by decide +kernel, by decide +kernel⟩, lw_t1 (List.mem_of_getElem? (i := 38) rfl), lw_t3 (List.mem_of_getElem? (i := 106) rfl), lw_t3 (List.mem_of_getElem? (i := 107) rfl)⟩
theorem lw_p28 : lw_okq (⟨"HatRank", "take", "(I)Z"⟩, 36) := ⟨⟨by decide +kernel, by decide +kernel⟩, lw_t1 (List.mem_of_getElem? (i := 38) rfl), lw_t3 (List.mem_of_getElem? (i := 110) rfl), lw_t3 (List.mem_of_getElem? (i := 111) rfl)⟩
theorem lw_p29 : lw_okq (⟨"HatRank", "goHour", "(LHatRank$Town;IZ)I"⟩, 36) := ⟨⟨by decide +kernel, by decide +kernel⟩, lw_t1 (List.mem_of_getElem? (i := 38) rfl), lw_t3 (List.mem_of_getElem? (i := 135) rfl), lw_t3 (List.mem_of_getElem? (i := 136) rfl)⟩
theorem lw_p30 : lw_okq (⟨"HatRank", "takeUp", "(LHatRank$Town;)V"⟩, 36) := ⟨⟨by decide +kernel, by decide +kernel⟩, lw_t1 (List.mem_of_getElem? (i := 38) rfl), lw_t3 (List.mem_of_getElem? (i := 139) rfl), lw_t3 (List.mem_of_getElem? (i := 140) rfl)⟩
theorem lw_p31 : lw_okq (⟨"HatRank", "draw", "()I"⟩, 36) := ⟨⟨by decide +kernel, by decide +kernel⟩, lw_t1 (List.mem_of_getElem? (i := 38) rfl), lw_t3 (List.mem_of_getElem? (i := 143) rfl), lw_t3 (List.mem_of_getElem? (i := 144) rfl)⟩
def lw_privs_2 : List (MethodName × Nat) := [(⟨"HatRank", "ofPlace", "(II)I"⟩, 36), (⟨"HatRank", "readLaw", "()LHatRank$Line;"⟩, 36), (⟨"HatRank", "readLine", "()LHatRank$Line;"⟩, 36), (⟨"HatRank", "readEither", "()LHatRank$Term;"⟩, 36), (⟨"HatRank", "readAll", "()LHatRank$Term;"⟩, 36), (⟨"HatRank", "readLike", "()LHatRank$Term;"⟩, 36), (⟨"HatRank", "readPlus", "()LHatRank$Term;"⟩, 36), (⟨"HatRank", "readTimes", "()LHatRank$Term;"⟩, 36), (⟨"HatRank", "readOne", "()LHatRank$Term;"⟩, 36), (⟨"HatRank", "isDigit", "()Z"⟩, 36), (⟨"HatRank", "peek", "()I"⟩, 36), (⟨"HatRank", "expect", "(I)V"⟩, 36), (⟨"HatRank", "take", "(I)Z"⟩, 36), (⟨"HatRank", "goHour", "(LHatRank$Town;IZ)I"⟩, 36), (⟨"HatRank", "takeUp", "(LHatRank$Town;)V"⟩, 36), (⟨"HatRank", "draw", "()I"⟩, 36)]
theorem lw_r2 : ∀ q ∈ lw_privs_2, lw_okq q := List.forall_mem_cons.mpr ⟨lw_p16, List.forall_mem_cons.mpr ⟨lw_p17, List.forall_mem_cons.mpr ⟨lw_p18, List.forall_mem_cons.mpr ⟨lw_p19, List.forall_mem_cons.mpr ⟨lw_p20, List.forall_mem_cons.mpr ⟨lw_p21, List.forall_mem_cons.mpr ⟨lw_p22, List.forall_mem_cons.mpr ⟨lw_p23, List.forall_mem_cons.mpr ⟨lw_p24, List.forall_mem_cons.mpr ⟨lw_p25, List.forall_mem_cons.mpr ⟨lw_p26, List.forall_mem_cons.mpr ⟨lw_p27, List.forall_mem_cons.mpr ⟨lw_p28, List.forall_mem_cons.mpr ⟨lw_p29, List.forall_mem_cons.mpr ⟨lw_p30, List.forall_mem_cons.mpr ⟨lw_p31, fun _ h => absurd h List.not_mem_nil⟩⟩⟩⟩⟩⟩⟩⟩⟩⟩⟩⟩⟩⟩⟩⟩
theorem lw_p32 : lw_okq (⟨"HatRank", "fall", "(LHatRank$Town;I)I"⟩, 36) := ⟨⟨by decide +kernel, by decide +kernel⟩, lw_t1 (List.mem_of_getElem? (i := 38) rfl), lw_t3 (List.mem_of_getElem? (i := 148) rfl), lw_t3 (List.mem_of_getElem? (i := 149) rfl)⟩
theorem lw_p33 : lw_okq (⟨"HatRank", "catcher", "(LHatRank$Town;III)I"⟩, 36) := ⟨⟨by decide +kernel, by decide +kernel⟩, lw_t1 (List.mem_of_getElem? (i := 38) rfl), lw_t3 (List.mem_of_getElem? (i := 152) rfl), lw_t3 (List.mem_of_getElem? (i := 153) rfl)⟩
theorem lw_p34 : lw_okq (⟨"HatRank", "firstIn", "(LHatRank$Town;)I"⟩, 36) := ⟨⟨by decide +kernel, by decide +kernel⟩, lw_t1 (List.mem_of_getElem? (i := 38) rfl), lw_t3 (List.mem_of_getElem? (i := 168) rfl), lw_t3 (List.mem_of_getElem? (i := 169) rfl)⟩
theorem lw_p35 : lw_okq (⟨"HatRank", "isPt", "(I)Z"⟩, 36) := ⟨⟨by decide +kernel, by decide +kernel⟩, lw_t1 (List.mem_of_getElem? (i := 38) rfl), lw_t3 (List.mem_of_getElem? (i := 180) rfl), lw_t3 (List.mem_of_getElem? (i := 181) rfl)⟩
theorem lw_p36 : lw_okq (⟨"HatRank", "measure", "(III)V"⟩, 36) := ⟨⟨by decide +kernel, by decide +kernel⟩, lw_t1 (List.mem_of_getElem? (i := 38) rfl), lw_t3 (List.mem_of_getElem? (i := 184) rfl), lw_t3 (List.mem_of_getElem? (i := 185) rfl)⟩
theorem lw_p37 : lw_okq (⟨"HatRank", "mayGo", "(II)Z"⟩, 36) := ⟨⟨by decide +kernel, by decide +kernel⟩, lw_t1 (List.mem_of_getElem? (i := 38) rfl), lw_t3 (List.mem_of_getElem? (i := 188) rfl), lw_t3 (List.mem_of_getElem? (i := 189) rfl)⟩
theorem lw_p38 : lw_okq (⟨"HatRank", "comes", "(II)I"⟩, 36) := ⟨⟨by decide +kernel, by decide +kernel⟩, lw_t1 (List.mem_of_getElem? (i := 38) rfl), lw_t3 (List.mem_of_getElem? (i := 192) rfl), lw_t3 (List.mem_of_getElem? (i := 193) rfl)⟩
theorem lw_p39 : lw_okq (⟨"HatRank", "mayAsk", "(III)Z"⟩, 36) := ⟨⟨by decide +kernel, by decide +kernel⟩, lw_t1 (List.mem_of_getElem? (i := 38) rfl), lw_t3 (List.mem_of_getElem? (i := 204) rfl), lw_t3 (List.mem_of_getElem? (i := 205) rfl)⟩
theorem lw_p40 : lw_okq (⟨"HatRank", "branchAll", "(III)V"⟩, 36) := ⟨⟨by decide +kernel, by decide +kernel⟩, lw_t1 (List.mem_of_getElem? (i := 38) rfl), lw_t3 (List.mem_of_getElem? (i := 210) rfl), lw_t3 (List.mem_of_getElem? (i := 211) rfl)⟩
theorem lw_p41 : lw_okq (⟨"HatRank", "count1", "(LHatRank$Town;J)V"⟩, 36) := ⟨⟨by decide +kernel, by decide +kernel⟩, lw_t1 (List.mem_of_getElem? (i := 38) rfl), lw_t3 (List.mem_of_getElem? (i := 221) rfl), lw_t3 (List.mem_of_getElem? (i := 222) rfl)⟩
theorem lw_p42 : lw_okq (⟨"HatRank", "branch", "(IIIIJ)V"⟩, 36) := ⟨⟨by decide +kernel, by decide +kernel⟩, lw_t1 (List.mem_of_getElem? (i := 38) rfl), lw_t3 (List.mem_of_getElem? (i := 225) rfl), lw_t3 (List.mem_of_getElem? (i := 226) rfl)⟩
theorem lw_p43 : lw_okq (⟨"HatRank", "wholeOf", "(I)J"⟩, 36) := ⟨⟨by decide +kernel, by decide +kernel⟩, lw_t1 (List.mem_of_getElem? (i := 38) rfl), lw_t3 (List.mem_of_getElem? (i := 230) rfl), lw_t3 (List.mem_of_getElem? (i := 231) rfl)⟩
theorem lw_p44 : lw_okq (⟨"HatRank", "thinkHours", "(II)V"⟩, 36) := ⟨⟨by decide +kernel, by decide +kernel⟩, lw_t1 (List.mem_of_getElem? (i := 38) rfl), lw_t4 (List.mem_of_getElem? (i := 16) rfl), lw_t4 (List.mem_of_getElem? (i := 17) rfl)⟩
theorem lw_p45 : lw_okq (⟨"HatRank", "allLying", "(LHatRank$Town;)I"⟩, 36) := ⟨⟨by decide +kernel, by decide +kernel⟩, lw_t1 (List.mem_of_getElem? (i := 38) rfl), lw_t4 (List.mem_of_getElem? (i := 20) rfl), lw_t4 (List.mem_of_getElem? (i := 21) rfl)⟩
theorem lw_p46 : lw_okq (⟨"HatRank", "isAsTold", "([B)Z"⟩, 36) := ⟨⟨by decide +kernel, by decide +kernel⟩, lw_t1 (List.mem_of_getElem? (i := 38) rfl), lw_t4 (List.mem_of_getElem? (i := 32) rfl), lw_t4 (List.mem_of_getElem? (i := 33) rfl)⟩
theorem lw_p47 : lw_okq (⟨"HatRank", "made", "(I)LHatRank$Body;"⟩, 36) := ⟨⟨by decide +kernel, by decide +kernel⟩, lw_t1 (List.mem_of_getElem? (i := 38) rfl), lw_t4 (List.mem_of_getElem? (i := 50) rfl), lw_t4 (List.mem_of_getElem? (i := 51) rfl)⟩
def lw_privs_3 : List (MethodName × Nat) := [(⟨"HatRank", "fall", "(LHatRank$Town;I)I"⟩, 36), (⟨"HatRank", "catcher", "(LHatRank$Town;III)I"⟩, 36), (⟨"HatRank", "firstIn", "(LHatRank$Town;)I"⟩, 36), (⟨"HatRank", "isPt", "(I)Z"⟩, 36), (⟨"HatRank", "measure", "(III)V"⟩, 36), (⟨"HatRank", "mayGo", "(II)Z"⟩, 36), (⟨"HatRank", "comes", "(II)I"⟩, 36), (⟨"HatRank", "mayAsk", "(III)Z"⟩, 36), (⟨"HatRank", "branchAll", "(III)V"⟩, 36), (⟨"HatRank", "count1", "(LHatRank$Town;J)V"⟩, 36), (⟨"HatRank", "branch", "(IIIIJ)V"⟩, 36), (⟨"HatRank", "wholeOf", "(I)J"⟩, 36), (⟨"HatRank", "thinkHours", "(II)V"⟩, 36), (⟨"HatRank", "allLying", "(LHatRank$Town;)I"⟩, 36), (⟨"HatRank", "isAsTold", "([B)Z"⟩, 36), (⟨"HatRank", "made", "(I)LHatRank$Body;"⟩, 36)]
theorem lw_r3 : ∀ q ∈ lw_privs_3, lw_okq q := List.forall_mem_cons.mpr ⟨lw_p32, List.forall_mem_cons.mpr ⟨lw_p33, List.forall_mem_cons.mpr ⟨lw_p34, List.forall_mem_cons.mpr ⟨lw_p35, List.forall_mem_cons.mpr ⟨lw_p36, List.forall_mem_cons.mpr ⟨lw_p37, List.forall_mem_cons.mpr ⟨lw_p38, List.forall_mem_cons.mpr ⟨lw_p39, List.forall_mem_cons.mpr ⟨lw_p40, List.forall_mem_cons.mpr ⟨lw_p41, List.forall_mem_cons.mpr ⟨lw_p42, List.forall_mem_cons.mpr ⟨lw_p43, List.forall_mem_cons.mpr ⟨lw_p44, List.forall_mem_cons.mpr ⟨lw_p45, List.forall_mem_cons.mpr ⟨lw_p46, List.forall_mem_cons.mpr ⟨lw_p47, fun _ h => absurd h List.not_mem_nil⟩⟩⟩⟩⟩⟩⟩⟩⟩⟩⟩⟩⟩⟩⟩⟩
theorem lw_p48 : lw_okq (⟨"HatRank", "isBody", "(I)Z"⟩, 36) := ⟨⟨by decide +kernel, by decide +kernel⟩, lw_t1 (List.mem_of_getElem? (i := 38) rfl), lw_t4 (List.mem_of_getElem? (i := 159) rfl), lw_t4 (List.mem_of_getElem? (i := 160) rfl)⟩
theorem lw_p49 : lw_okq (⟨"HatRank", "refusal", "(II)I"⟩, 36) := ⟨⟨by decide +kernel, by decide +kernel⟩, lw_t1 (List.mem_of_getElem? (i := 38) rfl), lw_t5 (List.mem_of_getElem? (i := 164) rfl), lw_t5 (List.mem_of_getElem? (i := 165) rfl)⟩
theorem lw_p50 : lw_okq (⟨"HatRankModel", "isPlace", "(I)Z"⟩, 63) := ⟨⟨by decide +kernel, by decide +kernel⟩, lw_t6 (List.mem_of_getElem? (i := 6) rfl), lw_t6 (List.mem_of_getElem? (i := 212) rfl), lw_t6 (List.mem_of_getElem? (i := 213) rfl)⟩
theorem lw_p51 : lw_okq (⟨"HatRankModel", "isWay", "(II)Z"⟩, 63) := ⟨⟨by decide +kernel, by decide +kernel⟩, lw_t6 (List.mem_of_getElem? (i := 6) rfl), lw_t6 (List.mem_of_getElem? (i := 216) rfl), lw_t6 (List.mem_of_getElem? (i := 217) rfl)⟩
theorem lw_p52 : lw_okq (⟨"HatRankModel", "addPerson", "(III)I"⟩, 63) := ⟨⟨by decide +kernel, by decide +kernel⟩, lw_t6 (List.mem_of_getElem? (i := 6) rfl), lw_t6 (List.mem_of_getElem? (i := 224) rfl), lw_t6 (List.mem_of_getElem? (i := 225) rfl)⟩
theorem lw_p53 : lw_okq (⟨"HatRankModel", "lays", "(III)V"⟩, 63) := ⟨⟨by decide +kernel, by decide +kernel⟩, lw_t6 (List.mem_of_getElem? (i := 6) rfl), lw_t7 (List.mem_of_getElem? (i := 0) rfl), lw_t7 (List.mem_of_getElem? (i := 1) rfl)⟩
theorem lw_p54 : lw_okq (⟨"HatRankModel", "isPerson", "(I)Z"⟩, 63) := ⟨⟨by decide +kernel, by decide +kernel⟩, lw_t6 (List.mem_of_getElem? (i := 6) rfl), lw_t7 (List.mem_of_getElem? (i := 12) rfl), lw_t7 (List.mem_of_getElem? (i := 13) rfl)⟩
theorem lw_p55 : lw_okq (⟨"HatRankModel", "changes", "(III)I"⟩, 63) := ⟨⟨by decide +kernel, by decide +kernel⟩, lw_t6 (List.mem_of_getElem? (i := 6) rfl), lw_t7 (List.mem_of_getElem? (i := 16) rfl), lw_t7 (List.mem_of_getElem? (i := 17) rfl)⟩
theorem lw_p56 : lw_okq (⟨"HatRankModel", "valueAt", "(II)I"⟩, 63) := ⟨⟨by decide +kernel, by decide +kernel⟩, lw_t6 (List.mem_of_getElem? (i := 6) rfl), lw_t7 (List.mem_of_getElem? (i := 20) rfl), lw_t7 (List.mem_of_getElem? (i := 21) rfl)⟩
theorem lw_p57 : lw_okq (⟨"HatRankModel", "readText", "(I)I"⟩, 63) := ⟨⟨by decide +kernel, by decide +kernel⟩, lw_t6 (List.mem_of_getElem? (i := 6) rfl), lw_t7 (List.mem_of_getElem? (i := 35) rfl), lw_t7 (List.mem_of_getElem? (i := 36) rfl)⟩
theorem lw_p58 : lw_okq (⟨"HatRankModel", "line", "()V"⟩, 63) := ⟨⟨by decide +kernel, by decide +kernel⟩, lw_t6 (List.mem_of_getElem? (i := 6) rfl), lw_t7 (List.mem_of_getElem? (i := 39) rfl), lw_t7 (List.mem_of_getElem? (i := 40) rfl)⟩
theorem lw_p59 : lw_okq (⟨"HatRankModel", "either", "()V"⟩, 63) := ⟨⟨by decide +kernel, by decide +kernel⟩, lw_t6 (List.mem_of_getElem? (i := 6) rfl), lw_t7 (List.mem_of_getElem? (i := 43) rfl), lw_t7 (List.mem_of_getElem? (i := 44) rfl)⟩
theorem lw_p60 : lw_okq (⟨"HatRankModel", "both", "()V"⟩, 63) := ⟨⟨by decide +kernel, by decide +kernel⟩, lw_t6 (List.mem_of_getElem? (i := 6) rfl), lw_t7 (List.mem_of_getElem? (i := 47) rfl), lw_t7 (List.mem_of_getElem? (i := 48) rfl)⟩
theorem lw_p61 : lw_okq (⟨"HatRankModel", "compared", "()V"⟩, 63) := ⟨⟨by decide +kernel, by decide +kernel⟩, lw_t6 (List.mem_of_getElem? (i := 6) rfl), lw_t7 (List.mem_of_getElem? (i := 51) rfl), lw_t7 (List.mem_of_getElem? (i := 52) rfl)⟩
theorem lw_p62 : lw_okq (⟨"HatRankModel", "sum", "()V"⟩, 63) := ⟨⟨by decide +kernel, by decide +kernel⟩, lw_t6 (List.mem_of_getElem? (i := 6) rfl), lw_t7 (List.mem_of_getElem? (i := 55) rfl), lw_t7 (List.mem_of_getElem? (i := 56) rfl)⟩
theorem lw_p63 : lw_okq (⟨"HatRankModel", "product", "()V"⟩, 63) := ⟨⟨by decide +kernel, by decide +kernel⟩, lw_t6 (List.mem_of_getElem? (i := 6) rfl), lw_t7 (List.mem_of_getElem? (i := 59) rfl), lw_t7 (List.mem_of_getElem? (i := 60) rfl)⟩
def lw_privs_4 : List (MethodName × Nat) := [(⟨"HatRank", "isBody", "(I)Z"⟩, 36), (⟨"HatRank", "refusal", "(II)I"⟩, 36), (⟨"HatRankModel", "isPlace", "(I)Z"⟩, 63), (⟨"HatRankModel", "isWay", "(II)Z"⟩, 63), (⟨"HatRankModel", "addPerson", "(III)I"⟩, 63), (⟨"HatRankModel", "lays", "(III)V"⟩, 63), (⟨"HatRankModel", "isPerson", "(I)Z"⟩, 63), (⟨"HatRankModel", "changes", "(III)I"⟩, 63), (⟨"HatRankModel", "valueAt", "(II)I"⟩, 63), (⟨"HatRankModel", "readText", "(I)I"⟩, 63), (⟨"HatRankModel", "line", "()V"⟩, 63), (⟨"HatRankModel", "either", "()V"⟩, 63), (⟨"HatRankModel", "both", "()V"⟩, 63), (⟨"HatRankModel", "compared", "()V"⟩, 63), (⟨"HatRankModel", "sum", "()V"⟩, 63), (⟨"HatRankModel", "product", "()V"⟩, 63)]
theorem lw_r4 : ∀ q ∈ lw_privs_4, lw_okq q := List.forall_mem_cons.mpr ⟨lw_p48, List.forall_mem_cons.mpr ⟨lw_p49, List.forall_mem_cons.mpr ⟨lw_p50, List.forall_mem_cons.mpr ⟨lw_p51, List.forall_mem_cons.mpr ⟨lw_p52, List.forall_mem_cons.mpr ⟨lw_p53, List.forall_mem_cons.mpr ⟨lw_p54, List.forall_mem_cons.mpr ⟨lw_p55, List.forall_mem_cons.mpr ⟨lw_p56, List.forall_mem_cons.mpr ⟨lw_p57, List.forall_mem_cons.mpr ⟨lw_p58, List.forall_mem_cons.mpr ⟨lw_p59, List.forall_mem_cons.mpr ⟨lw_p60, List.forall_mem_cons.mpr ⟨lw_p61, List.forall_mem_cons.mpr ⟨lw_p62, List.forall_mem_cons.mpr ⟨lw_p63, fun _ h => absurd h List.not_mem_nil⟩⟩⟩⟩⟩⟩⟩⟩⟩⟩⟩⟩⟩⟩⟩⟩
theorem lw_p64 : lw_okq (⟨"HatRankModel", "operand", "()V"⟩, 63) := ⟨⟨by decide +kernel, by decide +kernel⟩, lw_t6 (List.mem_of_getElem? (i := 6) rfl), lw_t7 (List.mem_of_getElem? (i := 63) rfl), lw_t7 (List.mem_of_getElem? (i := 64) rfl)⟩
theorem lw_p65 : lw_okq (⟨"HatRankModel", "look", "()I"⟩, 63) := ⟨⟨by decide +kernel, by decide +kernel⟩, lw_t6 (List.mem_of_getElem? (i := 6) rfl), lw_t7 (List.mem_of_getElem? (i := 67) rfl), lw_t7 (List.mem_of_getElem? (i := 68) rfl)⟩
theorem lw_p66 : lw_okq (⟨"HatRankModel", "addStep", "(II)V"⟩, 63) := ⟨⟨by decide +kernel, by decide +kernel⟩, lw_t6 (List.mem_of_getElem? (i := 6) rfl), lw_t7 (List.mem_of_getElem? (i := 74) rfl), lw_t7 (List.mem_of_getElem? (i := 75) rfl)⟩
theorem lw_p67 : lw_okq (⟨"HatRankModel", "opens", "()Z"⟩, 63) := ⟨⟨by decide +kernel, by decide +kernel⟩, lw_t6 (List.mem_of_getElem? (i := 6) rfl), lw_t7 (List.mem_of_getElem? (i := 78) rfl), lw_t7 (List.mem_of_getElem? (i := 79) rfl)⟩
theorem lw_p68 : lw_okq (⟨"HatRankModel", "faulty", "()V"⟩, 63) := ⟨⟨by decide +kernel, by decide +kernel⟩, lw_t6 (List.mem_of_getElem? (i := 6) rfl), lw_t7 (List.mem_of_getElem? (i := 82) rfl), lw_t7 (List.mem_of_getElem? (i := 83) rfl)⟩
theorem lw_p69 : lw_okq (⟨"HatRankModel", "figure", "()V"⟩, 63) := ⟨⟨by decide +kernel, by decide +kernel⟩, lw_t6 (List.mem_of_getElem? (i := 6) rfl), lw_t7 (List.mem_of_getElem? (i := 86) rfl), lw_t7 (List.mem_of_getElem? (i := 87) rfl)⟩
theorem lw_p70 : lw_okq (⟨"HatRankModel", "rankOf", "(I[I)I"⟩, 63) := ⟨⟨by decide +kernel, by decide +kernel⟩, lw_t6 (List.mem_of_getElem? (i := 6) rfl), lw_t7 (List.mem_of_getElem? (i := 94) rfl), lw_t7 (List.mem_of_getElem? (i := 95) rfl)⟩
theorem lw_p71 : lw_okq (⟨"HatRankModel", "think", "()V"⟩, 63) := ⟨⟨by decide +kernel, by decide +kernel⟩, lw_t6 (List.mem_of_getElem? (i := 6) rfl), lw_t7 (List.mem_of_getElem? (i := 98) rfl), lw_t7 (List.mem_of_getElem? (i := 99) rfl)⟩
theorem lw_p72 : lw_okq (⟨"HatRankModel", "falls", "(II)I"⟩, 63) := ⟨⟨by decide +kernel, by decide +kernel⟩, lw_t6 (List.mem_of_getElem? (i := 6) rfl), lw_t7 (List.mem_of_getElem? (i := 102) rfl), lw_t7 (List.mem_of_getElem? (i := 103) rfl)⟩
theorem lw_p73 : lw_okq (⟨"HatRankModel", "fallsBy", "(IIII)I"⟩, 63) := ⟨⟨by decide +kernel, by decide +kernel⟩, lw_t6 (List.mem_of_getElem? (i := 6) rfl), lw_t7 (List.mem_of_getElem? (i := 106) rfl), lw_t7 (List.mem_of_getElem? (i := 107) rfl)⟩
theorem lw_p74 : lw_okq (⟨"HatRankModel", "gustAt", "(II)I"⟩, 63) := ⟨⟨by decide +kernel, by decide +kernel⟩, lw_t6 (List.mem_of_getElem? (i := 6) rfl), lw_t7 (List.mem_of_getElem? (i := 110) rfl), lw_t7 (List.mem_of_getElem? (i := 111) rfl)⟩
theorem lw_p75 : lw_okq (⟨"HatRankModel", "gives", "(I)I"⟩, 63) := ⟨⟨by decide +kernel, by decide +kernel⟩, lw_t6 (List.mem_of_getElem? (i := 6) rfl), lw_t7 (List.mem_of_getElem? (i := 114) rfl), lw_t7 (List.mem_of_getElem? (i := 115) rfl)⟩
theorem lw_p76 : lw_okq (⟨"HatRankModel", "worked", "(III)I"⟩, 63) := ⟨⟨by decide +kernel, by decide +kernel⟩, lw_t6 (List.mem_of_getElem? (i := 6) rfl), lw_t7 (List.mem_of_getElem? (i := 118) rfl), lw_t7 (List.mem_of_getElem? (i := 119) rfl)⟩
theorem lw_p77 : lw_okq (⟨"HatRankModel", "goHour", "(I)I"⟩, 63) := ⟨⟨by decide +kernel, by decide +kernel⟩, lw_t6 (List.mem_of_getElem? (i := 6) rfl), lw_t7 (List.mem_of_getElem? (i := 129) rfl), lw_t7 (List.mem_of_getElem? (i := 130) rfl)⟩
theorem lw_p78 : lw_okq (⟨"HatRankModel", "takeUp", "()V"⟩, 63) := ⟨⟨by decide +kernel, by decide +kernel⟩, lw_t6 (List.mem_of_getElem? (i := 6) rfl), lw_t7 (List.mem_of_getElem? (i := 133) rfl), lw_t7 (List.mem_of_getElem? (i := 134) rfl)⟩
theorem lw_p79 : lw_okq (⟨"HatRankModel", "fall", "(I)V"⟩, 63) := ⟨⟨by decide +kernel, by decide +kernel⟩, lw_t6 (List.mem_of_getElem? (i := 6) rfl), lw_t7 (List.mem_of_getElem? (i := 138) rfl), lw_t7 (List.mem_of_getElem? (i := 139) rfl)⟩
def lw_privs_5 : List (MethodName × Nat) := [(⟨"HatRankModel", "operand", "()V"⟩, 63), (⟨"HatRankModel", "look", "()I"⟩, 63), (⟨"HatRankModel", "addStep", "(II)V"⟩, 63), (⟨"HatRankModel", "opens", "()Z"⟩, 63), (⟨"HatRankModel", "faulty", "()V"⟩, 63), (⟨"HatRankModel", "figure", "()V"⟩, 63), (⟨"HatRankModel", "rankOf", "(I[I)I"⟩, 63), (⟨"HatRankModel", "think", "()V"⟩, 63), (⟨"HatRankModel", "falls", "(II)I"⟩, 63), (⟨"HatRankModel", "fallsBy", "(IIII)I"⟩, 63), (⟨"HatRankModel", "gustAt", "(II)I"⟩, 63), (⟨"HatRankModel", "gives", "(I)I"⟩, 63), (⟨"HatRankModel", "worked", "(III)I"⟩, 63), (⟨"HatRankModel", "goHour", "(I)I"⟩, 63), (⟨"HatRankModel", "takeUp", "()V"⟩, 63), (⟨"HatRankModel", "fall", "(I)V"⟩, 63)]
theorem lw_r5 : ∀ q ∈ lw_privs_5, lw_okq q := List.forall_mem_cons.mpr ⟨lw_p64, List.forall_mem_cons.mpr ⟨lw_p65, List.forall_mem_cons.mpr ⟨lw_p66, List.forall_mem_cons.mpr ⟨lw_p67, List.forall_mem_cons.mpr ⟨lw_p68, List.forall_mem_cons.mpr ⟨lw_p69, List.forall_mem_cons.mpr ⟨lw_p70, List.forall_mem_cons.mpr ⟨lw_p71, List.forall_mem_cons.mpr ⟨lw_p72, List.forall_mem_cons.mpr ⟨lw_p73, List.forall_mem_cons.mpr ⟨lw_p74, List.forall_mem_cons.mpr ⟨lw_p75, List.forall_mem_cons.mpr ⟨lw_p76, List.forall_mem_cons.mpr ⟨lw_p77, List.forall_mem_cons.mpr ⟨lw_p78, List.forall_mem_cons.mpr ⟨lw_p79, fun _ h => absurd h List.not_mem_nil⟩⟩⟩⟩⟩⟩⟩⟩⟩⟩⟩⟩⟩⟩⟩⟩
theorem lw_p80 : lw_okq (⟨"HatRankModel", "catcher", "(I)I"⟩, 63) := ⟨⟨by decide +kernel, by decide +kernel⟩, lw_t6 (List.mem_of_getElem? (i := 6) rfl), lw_t7 (List.mem_of_getElem? (i := 142) rfl), lw_t7 (List.mem_of_getElem? (i := 143) rfl)⟩
theorem lw_p81 : lw_okq (⟨"HatRankModel", "firstOf", "([I)I"⟩, 63) := ⟨⟨by decide +kernel, by decide +kernel⟩, lw_t6 (List.mem_of_getElem? (i := 6) rfl), lw_t7 (List.mem_of_getElem? (i := 158) rfl), lw_t7 (List.mem_of_getElem? (i := 159) rfl)⟩
theorem lw_p82 : lw_okq (⟨"HatRankModel", "isWalk", "(II)Z"⟩, 63) := ⟨⟨by decide +kernel, by decide +kernel⟩, lw_t6 (List.mem_of_getElem? (i := 6) rfl), lw_t7 (List.mem_of_getElem? (i := 170) rfl), lw_t7 (List.mem_of_getElem? (i := 171) rfl)⟩
theorem lw_p83 : lw_okq (⟨"HatRankModel", "findRisk", "(III)V"⟩, 63) := ⟨⟨by decide +kernel, by decide +kernel⟩, lw_t6 (List.mem_of_getElem? (i := 6) rfl), lw_t7 (List.mem_of_getElem? (i := 174) rfl), lw_t7 (List.mem_of_getElem? (i := 175) rfl)⟩
theorem lw_p84 : lw_okq (⟨"HatRankModel", "mayGo", "(II)Z"⟩, 63) := ⟨⟨by decide +kernel, by decide +kernel⟩, lw_t6 (List.mem_of_getElem? (i := 6) rfl), lw_t7 (List.mem_of_getElem? (i := 179) rfl), lw_t7 (List.mem_of_getElem? (i := 180) rfl)⟩
theorem lw_p85 : lw_okq (⟨"HatRankModel", "findChance", "(III)V"⟩, 63) := ⟨⟨by decide +kernel, by decide +kernel⟩, lw_t6 (List.mem_of_getElem? (i := 6) rfl), lw_t7 (List.mem_of_getElem? (i := 193) rfl), lw_t7 (List.mem_of_getElem? (i := 194) rfl)⟩
theorem lw_p86 : lw_okq (⟨"HatRankModel", "goThrough", "(IIIJ)V"⟩, 63) := ⟨⟨by decide +kernel, by decide +kernel⟩, lw_t6 (List.mem_of_getElem? (i := 6) rfl), lw_t7 (List.mem_of_getElem? (i := 197) rfl), lw_t7 (List.mem_of_getElem? (i := 198) rfl)⟩
theorem lw_p87 : lw_okq (⟨"HatRankModel", "keepThen", "(I)V"⟩, 63) := ⟨⟨by decide +kernel, by decide +kernel⟩, lw_t6 (List.mem_of_getElem? (i := 6) rfl), lw_t7 (List.mem_of_getElem? (i := 202) rfl), lw_t7 (List.mem_of_getElem? (i := 203) rfl)⟩
theorem lw_p88 : lw_okq (⟨"HatRankModel", "layBack", "(I)V"⟩, 63) := ⟨⟨by decide +kernel, by decide +kernel⟩, lw_t6 (List.mem_of_getElem? (i := 6) rfl), lw_t7 (List.mem_of_getElem? (i := 206) rfl), lw_t7 (List.mem_of_getElem? (i := 207) rfl)⟩
theorem lw_p89 : lw_okq (⟨"HatRankModel", "asPart", "(JII)J"⟩, 63) := ⟨⟨by decide +kernel, by decide +kernel⟩, lw_t6 (List.mem_of_getElem? (i := 6) rfl), lw_t7 (List.mem_of_getElem? (i := 210) rfl), lw_t7 (List.mem_of_getElem? (i := 211) rfl)⟩
theorem lw_p90 : lw_okq (⟨"HatRankModel", "below", "(I)J"⟩, 63) := ⟨⟨by decide +kernel, by decide +kernel⟩, lw_t6 (List.mem_of_getElem? (i := 6) rfl), lw_t7 (List.mem_of_getElem? (i := 214) rfl), lw_t7 (List.mem_of_getElem? (i := 215) rfl)⟩
theorem lw_p91 : lw_okq (⟨"HatRankModel", "thinkOn", "(II)V"⟩, 63) := ⟨⟨by decide +kernel, by decide +kernel⟩, lw_t6 (List.mem_of_getElem? (i := 6) rfl), lw_t7 (List.mem_of_getElem? (i := 237) rfl), lw_t7 (List.mem_of_getElem? (i := 238) rfl)⟩
theorem lw_p92 : lw_okq (⟨"HatRankModel", "isBody", "(I)Z"⟩, 63) := ⟨⟨by decide +kernel, by decide +kernel⟩, lw_t6 (List.mem_of_getElem? (i := 6) rfl), lw_t8 (List.mem_of_getElem? (i := 29) rfl), lw_t8 (List.mem_of_getElem? (i := 30) rfl)⟩
theorem lw_p93 : lw_okq (⟨"HatRankModel", "sitting", "(II)I"⟩, 63) := ⟨⟨by decide +kernel, by decide +kernel⟩, lw_t6 (List.mem_of_getElem? (i := 6) rfl), lw_t8 (List.mem_of_getElem? (i := 33) rfl), lw_t8 (List.mem_of_getElem? (i := 34) rfl)⟩
theorem lw_p94 : lw_okq (⟨"HatRankModel", "ran", "(I)V"⟩, 63) := ⟨⟨by decide +kernel, by decide +kernel⟩, lw_t6 (List.mem_of_getElem? (i := 6) rfl), lw_t8 (List.mem_of_getElem? (i := 40) rfl), lw_t8 (List.mem_of_getElem? (i := 41) rfl)⟩
theorem lw_p95 : lw_okq (⟨"HatRankModel", "plainSits", "(II)I"⟩, 63) := ⟨⟨by decide +kernel, by decide +kernel⟩, lw_t6 (List.mem_of_getElem? (i := 6) rfl), lw_t8 (List.mem_of_getElem? (i := 44) rfl), lw_t8 (List.mem_of_getElem? (i := 45) rfl)⟩
def lw_privs_6 : List (MethodName × Nat) := [(⟨"HatRankModel", "catcher", "(I)I"⟩, 63), (⟨"HatRankModel", "firstOf", "([I)I"⟩, 63), (⟨"HatRankModel", "isWalk", "(II)Z"⟩, 63), (⟨"HatRankModel", "findRisk", "(III)V"⟩, 63), (⟨"HatRankModel", "mayGo", "(II)Z"⟩, 63), (⟨"HatRankModel", "findChance", "(III)V"⟩, 63), (⟨"HatRankModel", "goThrough", "(IIIJ)V"⟩, 63), (⟨"HatRankModel", "keepThen", "(I)V"⟩, 63), (⟨"HatRankModel", "layBack", "(I)V"⟩, 63), (⟨"HatRankModel", "asPart", "(JII)J"⟩, 63), (⟨"HatRankModel", "below", "(I)J"⟩, 63), (⟨"HatRankModel", "thinkOn", "(II)V"⟩, 63), (⟨"HatRankModel", "isBody", "(I)Z"⟩, 63), (⟨"HatRankModel", "sitting", "(II)I"⟩, 63), (⟨"HatRankModel", "ran", "(I)V"⟩, 63), (⟨"HatRankModel", "plainSits", "(II)I"⟩, 63)]
theorem lw_r6 : ∀ q ∈ lw_privs_6, lw_okq q := List.forall_mem_cons.mpr ⟨lw_p80, List.forall_mem_cons.mpr ⟨lw_p81, List.forall_mem_cons.mpr ⟨lw_p82, List.forall_mem_cons.mpr ⟨lw_p83, List.forall_mem_cons.mpr ⟨lw_p84, List.forall_mem_cons.mpr ⟨lw_p85, List.forall_mem_cons.mpr ⟨lw_p86, List.forall_mem_cons.mpr ⟨lw_p87, List.forall_mem_cons.mpr ⟨lw_p88, List.forall_mem_cons.mpr ⟨lw_p89, List.forall_mem_cons.mpr ⟨lw_p90, List.forall_mem_cons.mpr ⟨lw_p91, List.forall_mem_cons.mpr ⟨lw_p92, List.forall_mem_cons.mpr ⟨lw_p93, List.forall_mem_cons.mpr ⟨lw_p94, List.forall_mem_cons.mpr ⟨lw_p95, fun _ h => absurd h List.not_mem_nil⟩⟩⟩⟩⟩⟩⟩⟩⟩⟩⟩⟩⟩⟩⟩⟩
theorem lw_p96 : lw_okq (⟨"HatRankModel", "newSits", "(II)I"⟩, 63) := ⟨⟨by decide +kernel, by decide +kernel⟩, lw_t6 (List.mem_of_getElem? (i := 6) rfl), lw_t8 (List.mem_of_getElem? (i := 48) rfl), lw_t8 (List.mem_of_getElem? (i := 49) rfl)⟩
theorem lw_p97 : lw_okq (⟨"HatRankModel", "falling", "(II)I"⟩, 63) := ⟨⟨by decide +kernel, by decide +kernel⟩, lw_t6 (List.mem_of_getElem? (i := 6) rfl), lw_t8 (List.mem_of_getElem? (i := 52) rfl), lw_t8 (List.mem_of_getElem? (i := 53) rfl)⟩
theorem lw_p98 : lw_okq (⟨"HatRankModel", "blownFalls", "(II)I"⟩, 63) := ⟨⟨by decide +kernel, by decide +kernel⟩, lw_t6 (List.mem_of_getElem? (i := 6) rfl), lw_t8 (List.mem_of_getElem? (i := 56) rfl), lw_t8 (List.mem_of_getElem? (i := 57) rfl)⟩
theorem lw_p99 : lw_okq (⟨"HatRankModel", "plainFalls", "(II)I"⟩, 63) := ⟨⟨by decide +kernel, by decide +kernel⟩, lw_t6 (List.mem_of_getElem? (i := 6) rfl), lw_t8 (List.mem_of_getElem? (i := 60) rfl), lw_t8 (List.mem_of_getElem? (i := 61) rfl)⟩
theorem lw_p100 : lw_okq (⟨"HatRankModel", "landing", "(II)I"⟩, 63) := ⟨⟨by decide +kernel, by decide +kernel⟩, lw_t6 (List.mem_of_getElem? (i := 6) rfl), lw_t8 (List.mem_of_getElem? (i := 64) rfl), lw_t8 (List.mem_of_getElem? (i := 65) rfl)⟩
theorem lw_p101 : lw_okq (⟨"HatRankModel", "caughtLands", "(II)I"⟩, 63) := ⟨⟨by decide +kernel, by decide +kernel⟩, lw_t6 (List.mem_of_getElem? (i := 6) rfl), lw_t8 (List.mem_of_getElem? (i := 68) rfl), lw_t8 (List.mem_of_getElem? (i := 69) rfl)⟩
theorem lw_p102 : lw_okq (⟨"HatRankModel", "plainLands", "(II)I"⟩, 63) := ⟨⟨by decide +kernel, by decide +kernel⟩, lw_t6 (List.mem_of_getElem? (i := 6) rfl), lw_t8 (List.mem_of_getElem? (i := 72) rfl), lw_t8 (List.mem_of_getElem? (i := 73) rfl)⟩
theorem lw_p103 : lw_okq (⟨"HatRankModel", "ranking", "(II)I"⟩, 63) := ⟨⟨by decide +kernel, by decide +kernel⟩, lw_t6 (List.mem_of_getElem? (i := 6) rfl), lw_t8 (List.mem_of_getElem? (i := 76) rfl), lw_t8 (List.mem_of_getElem? (i := 77) rfl)⟩
theorem lw_p104 : lw_okq (⟨"HatRankModel", "plainRanks", "(II)I"⟩, 63) := ⟨⟨by decide +kernel, by decide +kernel⟩, lw_t6 (List.mem_of_getElem? (i := 6) rfl), lw_t8 (List.mem_of_getElem? (i := 80) rfl), lw_t8 (List.mem_of_getElem? (i := 81) rfl)⟩
theorem lw_p105 : lw_okq (⟨"HatRankModel", "whyNoPlace", "(II)I"⟩, 63) := ⟨⟨by decide +kernel, by decide +kernel⟩, lw_t6 (List.mem_of_getElem? (i := 6) rfl), lw_t8 (List.mem_of_getElem? (i := 100) rfl), lw_t8 (List.mem_of_getElem? (i := 101) rfl)⟩
def lw_privs_7 : List (MethodName × Nat) := [(⟨"HatRankModel", "newSits", "(II)I"⟩, 63), (⟨"HatRankModel", "falling", "(II)I"⟩, 63), (⟨"HatRankModel", "blownFalls", "(II)I"⟩, 63), (⟨"HatRankModel", "plainFalls", "(II)I"⟩, 63), (⟨"HatRankModel", "landing", "(II)I"⟩, 63), (⟨"HatRankModel", "caughtLands", "(II)I"⟩, 63), (⟨"HatRankModel", "plainLands", "(II)I"⟩, 63), (⟨"HatRankModel", "ranking", "(II)I"⟩, 63), (⟨"HatRankModel", "plainRanks", "(II)I"⟩, 63), (⟨"HatRankModel", "whyNoPlace", "(II)I"⟩, 63)]
theorem lw_r7 : ∀ q ∈ lw_privs_7, lw_okq q := List.forall_mem_cons.mpr ⟨lw_p96, List.forall_mem_cons.mpr ⟨lw_p97, List.forall_mem_cons.mpr ⟨lw_p98, List.forall_mem_cons.mpr ⟨lw_p99, List.forall_mem_cons.mpr ⟨lw_p100, List.forall_mem_cons.mpr ⟨lw_p101, List.forall_mem_cons.mpr ⟨lw_p102, List.forall_mem_cons.mpr ⟨lw_p103, List.forall_mem_cons.mpr ⟨lw_p104, List.forall_mem_cons.mpr ⟨lw_p105, fun _ h => absurd h List.not_mem_nil⟩⟩⟩⟩⟩⟩⟩⟩⟩⟩
def lw_privs : List (MethodName × Nat) := lw_privs_1 ++ (lw_privs_2 ++ (lw_privs_3 ++ (lw_privs_4 ++ (lw_privs_5 ++ (lw_privs_6 ++ (lw_privs_7))))))
def lw_tbl : List Cond := k2_sels lw_privs ++ tables_1
theorem lw_privs_ok : ∀ q ∈ lw_privs, lw_okq q := by
  show ∀ q ∈ lw_privs_1 ++ (lw_privs_2 ++ (lw_privs_3 ++ (lw_privs_4 ++ (lw_privs_5 ++ (lw_privs_6 ++ (lw_privs_7)))))), lw_okq q
  exact List.forall_mem_append.mpr ⟨lw_r1, List.forall_mem_append.mpr ⟨lw_r2, List.forall_mem_append.mpr ⟨lw_r3, List.forall_mem_append.mpr ⟨lw_r4, List.forall_mem_append.mpr ⟨lw_r5, List.forall_mem_append.mpr ⟨lw_r6, lw_r7⟩⟩⟩⟩⟩⟩
-- ===== ONE list of words for every method: the tables' words that hold all through a run =====
def lw_all : List Cond := lw_tbl.filter goodWord
/-- a word of the tables by its place: claim/WORDS.tsv -/
theorem lw_w {w : Cond} (i : Nat) (h : lw_tbl[i]? = some w) (g : goodWord w = true) : w ∈ lw_all := List.mem_filter.mpr ⟨List.mem_of_getElem? h, g⟩
theorem lw_all_tbl {w : Cond} (h : w ∈ lw_all) : w ∈ lw_tbl := (List.mem_filter.mp h).1
theorem lw_self : GoodIn lw_all lw_all := fun w h => ⟨h, good_of_word (List.mem_filter.mp h).2⟩
/-- a class's field words, by their places -/
theorem lw_in (ws : List Cond) (ps : List Nat) (hp : ws = ps.filterMap (fun i => lw_tbl[i]?)) (hg : ws.all goodWord = true) : ∀ w ∈ ws, w ∈ lw_all := by
  intro w h
  have h1 := List.all_eq_true.mp hg w h
  rw [hp] at h
  obtain ⟨i, -, hi⟩ := List.mem_filterMap.mp h
  exact lw_w i hi h1
/-- the words of a contract for the method y with code b, L locals, answer r -/
abbrev ws_ (y : MethodName) (b : ByteArray) (L : Nat) (r : Option FieldType) : List Cond := Cond.code y b L r :: lw_all
theorem lw_meth {y : MethodName} {b : ByteArray} {L : Nat} {r : Option FieldType} (h : Cond.code y b L r ∈ lw_all) : GoodIn lw_all (ws_ y b L r) := by
  intro w hw
  rcases List.mem_cons.mp hw with e | e
  · rw [e]
    exact lw_self _ h
  · exact lw_self _ e
theorem lw_app {a c : List Cond} (ha : ∀ w ∈ a, w ∈ lw_all) (hc : GoodIn lw_all c) : GoodIn lw_all (a ++ c) := by
  intro w hw
  rcases List.mem_append.mp hw with e | e
  · exact lw_self w (ha w e)
  · exact hc w e
/-- what a call through an object asks: cwV n hts (lw_V ..) -/
theorem lw_V {own : String} {idx : Nat} {C : String} {y : MethodName} {b : ByteArray} {L : Nat} {r : Option FieldType} (h1 : Cond.methodLink own idx y ∈ lw_all) (h2 : Cond.instanceMethod y ∈ lw_all) (h3 : Cond.selects C y y ∈ lw_all) (h4 : Cond.initialized C ∈ lw_all) (h5 : Cond.code y b L r ∈ lw_all) : GoodIn lw_all (wsV own idx C y (ws_ y b L r)) := by
  refine lw_app ?_ (lw_meth h5)
  intro w hw
  simp only [List.mem_cons, List.not_mem_nil, or_false] at hw
  rcases hw with e | e | e | e
  · rw [e]; exact h1
  · rw [e]; exact h2
  · rw [e]; exact h3
  · rw [e]; exact h4
/-- what a static call asks: va_cwS n hts (lw_S ..) -/
theorem lw_S {own : String} {idx : Nat} {y : MethodName} {b : ByteArray} {L : Nat} {r : Option FieldType} (h1 : Cond.methodLink own idx y ∈ lw_all) (h2 : Cond.static y ∈ lw_all) (h3 : Cond.initialized y.cls ∈ lw_all) (h4 : Cond.code y b L r ∈ lw_all) : GoodIn lw_all (va_wsS own idx y (ws_ y b L r)) := by
  refine lw_app ?_ (lw_meth h4)
  intro w hw
  simp only [List.mem_cons, List.not_mem_nil, or_false] at hw
  rcases hw with e | e | e
  · rw [e]; exact h1
  · rw [e]; exact h2
  · rw [e]; exact h3
/-- the words of a contract for a method WITH HANDLERS (hh: its table) -/
abbrev wsW_ (y : MethodName) (b : ByteArray) (L : Nat) (r : Option FieldType) (hh : List (Nat × Nat × Nat × Nat)) : List Cond := Cond.codeWith y b L r hh :: lw_all
theorem lw_methW {y : MethodName} {b : ByteArray} {L : Nat} {r : Option FieldType} {hh : List (Nat × Nat × Nat × Nat)} (h : Cond.codeWith y b L r hh ∈ lw_all) : GoodIn lw_all (wsW_ y b L r hh) := by
  intro w hw
  rcases List.mem_cons.mp hw with e | e
  · rw [e]
    exact lw_self _ h
  · exact lw_self _ e
/-- any list of words by their places (lw_in), good -/
theorem lw_good {ws : List Cond} (h : ∀ w ∈ ws, w ∈ lw_all) : GoodIn lw_all ws := fun w hw => lw_self w (h w hw)
/-- what a call of a method with handlers asks: vx_cwVW n hts (lw_VW ..), vx_cwSW n hts (lw_SW ..) -/
theorem lw_VW {own : String} {idx : Nat} {C : String} {y : MethodName} {b : ByteArray} {L : Nat} {r : Option FieldType} {hh : List (Nat × Nat × Nat × Nat)} (h1 : Cond.methodLink own idx y ∈ lw_all) (h2 : Cond.instanceMethod y ∈ lw_all) (h3 : Cond.selects C y y ∈ lw_all) (h4 : Cond.initialized C ∈ lw_all) (h5 : Cond.codeWith y b L r hh ∈ lw_all) : GoodIn lw_all (wsV own idx C y (wsW_ y b L r hh)) := by
  refine lw_app ?_ (lw_methW h5)
  intro w hw
  simp only [List.mem_cons, List.not_mem_nil, or_false] at hw
  rcases hw with e | e | e | e
  · rw [e]; exact h1
  · rw [e]; exact h2
  · rw [e]; exact h3
  · rw [e]; exact h4
theorem lw_SW {own : String} {idx : Nat} {y : MethodName} {b : ByteArray} {L : Nat} {r : Option FieldType} {hh : List (Nat × Nat × Nat × Nat)} (h1 : Cond.methodLink own idx y ∈ lw_all) (h2 : Cond.static y ∈ lw_all) (h3 : Cond.initialized y.cls ∈ lw_all) (h4 : Cond.codeWith y b L r hh ∈ lw_all) : GoodIn lw_all (va_wsS own idx y (wsW_ y b L r hh)) := by
  refine lw_app ?_ (lw_methW h4)
  intro w hw
  simp only [List.mem_cons, List.not_mem_nil, or_false] at hw
  rcases hw with e | e | e
  · rw [e]; exact h1
  · rw [e]; exact h2
  · rw [e]; exact h3
/-- a word by its place in its run of the tables -/
theorem lw_at {r : List Cond} (hr : ∀ w ∈ r, w ∈ lw_tbl) {w : Cond} (i : Nat) (h : r[i]? = some w) : w ∈ lw_tbl := hr w (List.mem_of_getElem? h)
theorem lw_g {w : Cond} (h : w ∈ lw_tbl) (g : goodWord w = true) : w ∈ lw_all := List.mem_filter.mpr ⟨h, g⟩
theorem lw_ms : ∀ w ∈ k2_sels lw_privs, w ∈ lw_tbl := fun w h => show w ∈ k2_sels lw_privs ++ tables_1 from List.mem_append_left _ h
theorem lw_m1 : ∀ w ∈ tables_1_1, w ∈ lw_tbl := fun w h => show w ∈ k2_sels lw_privs ++ tables_1 from List.mem_append_right (k2_sels lw_privs) (show w ∈ tables_1 from List.mem_append_left _ h)
theorem lw_m2 : ∀ w ∈ tables_1_2, w ∈ lw_tbl := fun w h => show w ∈ k2_sels lw_privs ++ tables_1 from List.mem_append_right (k2_sels lw_privs) (show w ∈ tables_1 from List.mem_append_right _ (List.mem_append_left _ h))
theorem lw_m3 : ∀ w ∈ tables_1_3, w ∈ lw_tbl := fun w h => show w ∈ k2_sels lw_privs ++ tables_1 from List.mem_append_right (k2_sels lw_privs) (show w ∈ tables_1 from List.mem_append_right _ (List.mem_append_right _ (List.mem_append_left _ h)))
theorem lw_m4 : ∀ w ∈ tables_1_4, w ∈ lw_tbl := fun w h => show w ∈ k2_sels lw_privs ++ tables_1 from List.mem_append_right (k2_sels lw_privs) (show w ∈ tables_1 from List.mem_append_right _ (List.mem_append_right _ (List.mem_append_right _ (List.mem_append_left _ h))))
theorem lw_m5 : ∀ w ∈ tables_1_5, w ∈ lw_tbl := fun w h => show w ∈ k2_sels lw_privs ++ tables_1 from List.mem_append_right (k2_sels lw_privs) (show w ∈ tables_1 from List.mem_append_right _ (List.mem_append_right _ (List.mem_append_right _ (List.mem_append_right _ (List.mem_append_left _ h)))))
theorem lw_m6 : ∀ w ∈ tables_1_6, w ∈ lw_tbl := fun w h => show w ∈ k2_sels lw_privs ++ tables_1 from List.mem_append_right (k2_sels lw_privs) (show w ∈ tables_1 from List.mem_append_right _ (List.mem_append_right _ (List.mem_append_right _ (List.mem_append_right _ (List.mem_append_right _ (List.mem_append_left _ h))))))
theorem lw_m7 : ∀ w ∈ tables_1_7, w ∈ lw_tbl := fun w h => show w ∈ k2_sels lw_privs ++ tables_1 from List.mem_append_right (k2_sels lw_privs) (show w ∈ tables_1 from List.mem_append_right _ (List.mem_append_right _ (List.mem_append_right _ (List.mem_append_right _ (List.mem_append_right _ (List.mem_append_right _ (List.mem_append_left _ h)))))))
theorem lw_m8 : ∀ w ∈ tables_1_8, w ∈ lw_tbl := fun w h => show w ∈ k2_sels lw_privs ++ tables_1 from List.mem_append_right (k2_sels lw_privs) (show w ∈ tables_1 from List.mem_append_right _ (List.mem_append_right _ (List.mem_append_right _ (List.mem_append_right _ (List.mem_append_right _ (List.mem_append_right _ (List.mem_append_right _ h)))))))
theorem qs0 : (Cond.selects "java/lang/Throwable" ⟨"java/lang/Throwable", "fillInStackTrace", "(I)Ljava/lang/Throwable;"⟩ ⟨"java/lang/Throwable", "fillInStackTrace", "(I)Ljava/lang/Throwable;"⟩) ∈ lw_all := lw_g (lw_at lw_ms 0 rfl) rfl
theorem qs1 : (Cond.selects "HatRank" ⟨"HatRank", "isPlace", "(I)Z"⟩ ⟨"HatRank", "isPlace", "(I)Z"⟩) ∈ lw_all := lw_g (lw_at lw_ms 1 rfl) rfl
theorem qs2 : (Cond.selects "HatRank" ⟨"HatRank", "isWay", "(II)Z"⟩ ⟨"HatRank", "isWay", "(II)Z"⟩) ∈ lw_all := lw_g (lw_at lw_ms 2 rfl) rfl
theorem qs3 : (Cond.selects "HatRank" ⟨"HatRank", "mayBe", "(III)Z"⟩ ⟨"HatRank", "mayBe", "(III)Z"⟩) ∈ lw_all := lw_g (lw_at lw_ms 3 rfl) rfl
theorem qs4 : (Cond.selects "HatRank" ⟨"HatRank", "add", "(III)V"⟩ ⟨"HatRank", "add", "(III)V"⟩) ∈ lw_all := lw_g (lw_at lw_ms 4 rfl) rfl
theorem qs5 : (Cond.selects "HatRank" ⟨"HatRank", "toldIn", "(Ljava/lang/Object;J)I"⟩ ⟨"HatRank", "toldIn", "(Ljava/lang/Object;J)I"⟩) ∈ lw_all := lw_g (lw_at lw_ms 5 rfl) rfl
theorem qs6 : (Cond.selects "HatRank" ⟨"HatRank", "isPerson", "(I)Z"⟩ ⟨"HatRank", "isPerson", "(I)Z"⟩) ∈ lw_all := lw_g (lw_at lw_ms 6 rfl) rfl
theorem qs7 : (Cond.selects "HatRank" ⟨"HatRank", "become", "(LHatRank$Held;I)I"⟩ ⟨"HatRank", "become", "(LHatRank$Held;I)I"⟩) ∈ lw_all := lw_g (lw_at lw_ms 7 rfl) rfl
theorem qs8 : (Cond.selects "HatRank" ⟨"HatRank", "ofPerson", "(II)I"⟩ ⟨"HatRank", "ofPerson", "(II)I"⟩) ∈ lw_all := lw_g (lw_at lw_ms 8 rfl) rfl
theorem qs9 : (Cond.selects "HatRank" ⟨"HatRank", "rankOf", "(I)I"⟩ ⟨"HatRank", "rankOf", "(I)I"⟩) ∈ lw_all := lw_g (lw_at lw_ms 9 rfl) rfl
theorem qs10 : (Cond.selects "HatRank" ⟨"HatRank", "isAbove", "(LHatRank$Town;II)Z"⟩ ⟨"HatRank", "isAbove", "(LHatRank$Town;II)Z"⟩) ∈ lw_all := lw_g (lw_at lw_ms 10 rfl) rfl
theorem qs11 : (Cond.selects "HatRank" ⟨"HatRank", "fallsOf", "(LHatRank$Town;II)I"⟩ ⟨"HatRank", "fallsOf", "(LHatRank$Town;II)I"⟩) ∈ lw_all := lw_g (lw_at lw_ms 11 rfl) rfl
theorem qs12 : (Cond.selects "HatRank" ⟨"HatRank", "fallsAt", "(LHatRank$Town;IIII)I"⟩ ⟨"HatRank", "fallsAt", "(LHatRank$Town;IIII)I"⟩) ∈ lw_all := lw_g (lw_at lw_ms 12 rfl) rfl
theorem qs13 : (Cond.selects "HatRank" ⟨"HatRank", "gustAt", "(II)I"⟩ ⟨"HatRank", "gustAt", "(II)I"⟩) ∈ lw_all := lw_g (lw_at lw_ms 13 rfl) rfl
theorem qs14 : (Cond.selects "HatRank" ⟨"HatRank", "othersAt", "(LHatRank$Town;II)I"⟩ ⟨"HatRank", "othersAt", "(LHatRank$Town;II)I"⟩) ∈ lw_all := lw_g (lw_at lw_ms 14 rfl) rfl
theorem qs15 : (Cond.selects "HatRank" ⟨"HatRank", "ruled", "()I"⟩ ⟨"HatRank", "ruled", "()I"⟩) ∈ lw_all := lw_g (lw_at lw_ms 15 rfl) rfl
theorem qs16 : (Cond.selects "HatRank" ⟨"HatRank", "ofPlace", "(II)I"⟩ ⟨"HatRank", "ofPlace", "(II)I"⟩) ∈ lw_all := lw_g (lw_at lw_ms 16 rfl) rfl
theorem qs17 : (Cond.selects "HatRank" ⟨"HatRank", "readLaw", "()LHatRank$Line;"⟩ ⟨"HatRank", "readLaw", "()LHatRank$Line;"⟩) ∈ lw_all := lw_g (lw_at lw_ms 17 rfl) rfl
theorem qs18 : (Cond.selects "HatRank" ⟨"HatRank", "readLine", "()LHatRank$Line;"⟩ ⟨"HatRank", "readLine", "()LHatRank$Line;"⟩) ∈ lw_all := lw_g (lw_at lw_ms 18 rfl) rfl
theorem qs19 : (Cond.selects "HatRank" ⟨"HatRank", "readEither", "()LHatRank$Term;"⟩ ⟨"HatRank", "readEither", "()LHatRank$Term;"⟩) ∈ lw_all := lw_g (lw_at lw_ms 19 rfl) rfl
theorem qs20 : (Cond.selects "HatRank" ⟨"HatRank", "readAll", "()LHatRank$Term;"⟩ ⟨"HatRank", "readAll", "()LHatRank$Term;"⟩) ∈ lw_all := lw_g (lw_at lw_ms 20 rfl) rfl
theorem qs21 : (Cond.selects "HatRank" ⟨"HatRank", "readLike", "()LHatRank$Term;"⟩ ⟨"HatRank", "readLike", "()LHatRank$Term;"⟩) ∈ lw_all := lw_g (lw_at lw_ms 21 rfl) rfl
theorem qs22 : (Cond.selects "HatRank" ⟨"HatRank", "readPlus", "()LHatRank$Term;"⟩ ⟨"HatRank", "readPlus", "()LHatRank$Term;"⟩) ∈ lw_all := lw_g (lw_at lw_ms 22 rfl) rfl
theorem qs23 : (Cond.selects "HatRank" ⟨"HatRank", "readTimes", "()LHatRank$Term;"⟩ ⟨"HatRank", "readTimes", "()LHatRank$Term;"⟩) ∈ lw_all := lw_g (lw_at lw_ms 23 rfl) rfl
theorem qs24 : (Cond.selects "HatRank" ⟨"HatRank", "readOne", "()LHatRank$Term;"⟩ ⟨"HatRank", "readOne", "()LHatRank$Term;"⟩) ∈ lw_all := lw_g (lw_at lw_ms 24 rfl) rfl
theorem qs25 : (Cond.selects "HatRank" ⟨"HatRank", "isDigit", "()Z"⟩ ⟨"HatRank", "isDigit", "()Z"⟩) ∈ lw_all := lw_g (lw_at lw_ms 25 rfl) rfl
theorem qs26 : (Cond.selects "HatRank" ⟨"HatRank", "peek", "()I"⟩ ⟨"HatRank", "peek", "()I"⟩) ∈ lw_all := lw_g (lw_at lw_ms 26 rfl) rfl
theorem qs27 : (Cond.selects "HatRank" ⟨"HatRank", "expect", "(I)V"⟩ ⟨"HatRank", "expect", "(I)V"⟩) ∈ lw_all := lw_g (lw_at lw_ms 27 rfl) rfl
theorem qs28 : (Cond.selects "HatRank" ⟨"HatRank", "take", "(I)Z"⟩ ⟨"HatRank", "take", "(I)Z"⟩) ∈ lw_all := lw_g (lw_at lw_ms 28 rfl) rfl
theorem qs29 : (Cond.selects "HatRank" ⟨"HatRank", "goHour", "(LHatRank$Town;IZ)I"⟩ ⟨"HatRank", "goHour", "(LHatRank$Town;IZ)I"⟩) ∈ lw_all := lw_g (lw_at lw_ms 29 rfl) rfl
theorem qs30 : (Cond.selects "HatRank" ⟨"HatRank", "takeUp", "(LHatRank$Town;)V"⟩ ⟨"HatRank", "takeUp", "(LHatRank$Town;)V"⟩) ∈ lw_all := lw_g (lw_at lw_ms 30 rfl) rfl
theorem qs31 : (Cond.selects "HatRank" ⟨"HatRank", "draw", "()I"⟩ ⟨"HatRank", "draw", "()I"⟩) ∈ lw_all := lw_g (lw_at lw_ms 31 rfl) rfl
theorem qs32 : (Cond.selects "HatRank" ⟨"HatRank", "fall", "(LHatRank$Town;I)I"⟩ ⟨"HatRank", "fall", "(LHatRank$Town;I)I"⟩) ∈ lw_all := lw_g (lw_at lw_ms 32 rfl) rfl
theorem qs33 : (Cond.selects "HatRank" ⟨"HatRank", "catcher", "(LHatRank$Town;III)I"⟩ ⟨"HatRank", "catcher", "(LHatRank$Town;III)I"⟩) ∈ lw_all := lw_g (lw_at lw_ms 33 rfl) rfl
theorem qs34 : (Cond.selects "HatRank" ⟨"HatRank", "firstIn", "(LHatRank$Town;)I"⟩ ⟨"HatRank", "firstIn", "(LHatRank$Town;)I"⟩) ∈ lw_all := lw_g (lw_at lw_ms 34 rfl) rfl
theorem qs35 : (Cond.selects "HatRank" ⟨"HatRank", "isPt", "(I)Z"⟩ ⟨"HatRank", "isPt", "(I)Z"⟩) ∈ lw_all := lw_g (lw_at lw_ms 35 rfl) rfl
theorem qs36 : (Cond.selects "HatRank" ⟨"HatRank", "measure", "(III)V"⟩ ⟨"HatRank", "measure", "(III)V"⟩) ∈ lw_all := lw_g (lw_at lw_ms 36 rfl) rfl
theorem qs37 : (Cond.selects "HatRank" ⟨"HatRank", "mayGo", "(II)Z"⟩ ⟨"HatRank", "mayGo", "(II)Z"⟩) ∈ lw_all := lw_g (lw_at lw_ms 37 rfl) rfl
theorem qs38 : (Cond.selects "HatRank" ⟨"HatRank", "comes", "(II)I"⟩ ⟨"HatRank", "comes", "(II)I"⟩) ∈ lw_all := lw_g (lw_at lw_ms 38 rfl) rfl
theorem qs39 : (Cond.selects "HatRank" ⟨"HatRank", "mayAsk", "(III)Z"⟩ ⟨"HatRank", "mayAsk", "(III)Z"⟩) ∈ lw_all := lw_g (lw_at lw_ms 39 rfl) rfl
theorem qs40 : (Cond.selects "HatRank" ⟨"HatRank", "branchAll", "(III)V"⟩ ⟨"HatRank", "branchAll", "(III)V"⟩) ∈ lw_all := lw_g (lw_at lw_ms 40 rfl) rfl
theorem qs41 : (Cond.selects "HatRank" ⟨"HatRank", "count1", "(LHatRank$Town;J)V"⟩ ⟨"HatRank", "count1", "(LHatRank$Town;J)V"⟩) ∈ lw_all := lw_g (lw_at lw_ms 41 rfl) rfl
theorem qs42 : (Cond.selects "HatRank" ⟨"HatRank", "branch", "(IIIIJ)V"⟩ ⟨"HatRank", "branch", "(IIIIJ)V"⟩) ∈ lw_all := lw_g (lw_at lw_ms 42 rfl) rfl
theorem qs43 : (Cond.selects "HatRank" ⟨"HatRank", "wholeOf", "(I)J"⟩ ⟨"HatRank", "wholeOf", "(I)J"⟩) ∈ lw_all := lw_g (lw_at lw_ms 43 rfl) rfl
theorem qs44 : (Cond.selects "HatRank" ⟨"HatRank", "thinkHours", "(II)V"⟩ ⟨"HatRank", "thinkHours", "(II)V"⟩) ∈ lw_all := lw_g (lw_at lw_ms 44 rfl) rfl
theorem qs45 : (Cond.selects "HatRank" ⟨"HatRank", "allLying", "(LHatRank$Town;)I"⟩ ⟨"HatRank", "allLying", "(LHatRank$Town;)I"⟩) ∈ lw_all := lw_g (lw_at lw_ms 45 rfl) rfl
theorem qs46 : (Cond.selects "HatRank" ⟨"HatRank", "isAsTold", "([B)Z"⟩ ⟨"HatRank", "isAsTold", "([B)Z"⟩) ∈ lw_all := lw_g (lw_at lw_ms 46 rfl) rfl
theorem qs47 : (Cond.selects "HatRank" ⟨"HatRank", "made", "(I)LHatRank$Body;"⟩ ⟨"HatRank", "made", "(I)LHatRank$Body;"⟩) ∈ lw_all := lw_g (lw_at lw_ms 47 rfl) rfl
theorem qs48 : (Cond.selects "HatRank" ⟨"HatRank", "isBody", "(I)Z"⟩ ⟨"HatRank", "isBody", "(I)Z"⟩) ∈ lw_all := lw_g (lw_at lw_ms 48 rfl) rfl
theorem qs49 : (Cond.selects "HatRank" ⟨"HatRank", "refusal", "(II)I"⟩ ⟨"HatRank", "refusal", "(II)I"⟩) ∈ lw_all := lw_g (lw_at lw_ms 49 rfl) rfl
theorem qs50 : (Cond.selects "HatRankModel" ⟨"HatRankModel", "isPlace", "(I)Z"⟩ ⟨"HatRankModel", "isPlace", "(I)Z"⟩) ∈ lw_all := lw_g (lw_at lw_ms 50 rfl) rfl
theorem qs51 : (Cond.selects "HatRankModel" ⟨"HatRankModel", "isWay", "(II)Z"⟩ ⟨"HatRankModel", "isWay", "(II)Z"⟩) ∈ lw_all := lw_g (lw_at lw_ms 51 rfl) rfl
theorem qs52 : (Cond.selects "HatRankModel" ⟨"HatRankModel", "addPerson", "(III)I"⟩ ⟨"HatRankModel", "addPerson", "(III)I"⟩) ∈ lw_all := lw_g (lw_at lw_ms 52 rfl) rfl
theorem qs53 : (Cond.selects "HatRankModel" ⟨"HatRankModel", "lays", "(III)V"⟩ ⟨"HatRankModel", "lays", "(III)V"⟩) ∈ lw_all := lw_g (lw_at lw_ms 53 rfl) rfl
theorem qs54 : (Cond.selects "HatRankModel" ⟨"HatRankModel", "isPerson", "(I)Z"⟩ ⟨"HatRankModel", "isPerson", "(I)Z"⟩) ∈ lw_all := lw_g (lw_at lw_ms 54 rfl) rfl
theorem qs55 : (Cond.selects "HatRankModel" ⟨"HatRankModel", "changes", "(III)I"⟩ ⟨"HatRankModel", "changes", "(III)I"⟩) ∈ lw_all := lw_g (lw_at lw_ms 55 rfl) rfl
theorem qs56 : (Cond.selects "HatRankModel" ⟨"HatRankModel", "valueAt", "(II)I"⟩ ⟨"HatRankModel", "valueAt", "(II)I"⟩) ∈ lw_all := lw_g (lw_at lw_ms 56 rfl) rfl
theorem qs57 : (Cond.selects "HatRankModel" ⟨"HatRankModel", "readText", "(I)I"⟩ ⟨"HatRankModel", "readText", "(I)I"⟩) ∈ lw_all := lw_g (lw_at lw_ms 57 rfl) rfl
theorem qs58 : (Cond.selects "HatRankModel" ⟨"HatRankModel", "line", "()V"⟩ ⟨"HatRankModel", "line", "()V"⟩) ∈ lw_all := lw_g (lw_at lw_ms 58 rfl) rfl
theorem qs59 : (Cond.selects "HatRankModel" ⟨"HatRankModel", "either", "()V"⟩ ⟨"HatRankModel", "either", "()V"⟩) ∈ lw_all := lw_g (lw_at lw_ms 59 rfl) rfl
theorem qs60 : (Cond.selects "HatRankModel" ⟨"HatRankModel", "both", "()V"⟩ ⟨"HatRankModel", "both", "()V"⟩) ∈ lw_all := lw_g (lw_at lw_ms 60 rfl) rfl
theorem qs61 : (Cond.selects "HatRankModel" ⟨"HatRankModel", "compared", "()V"⟩ ⟨"HatRankModel", "compared", "()V"⟩) ∈ lw_all := lw_g (lw_at lw_ms 61 rfl) rfl
theorem qs62 : (Cond.selects "HatRankModel" ⟨"HatRankModel", "sum", "()V"⟩ ⟨"HatRankModel", "sum", "()V"⟩) ∈ lw_all := lw_g (lw_at lw_ms 62 rfl) rfl
theorem qs63 : (Cond.selects "HatRankModel" ⟨"HatRankModel", "product", "()V"⟩ ⟨"HatRankModel", "product", "()V"⟩) ∈ lw_all := lw_g (lw_at lw_ms 63 rfl) rfl
theorem qs64 : (Cond.selects "HatRankModel" ⟨"HatRankModel", "operand", "()V"⟩ ⟨"HatRankModel", "operand", "()V"⟩) ∈ lw_all := lw_g (lw_at lw_ms 64 rfl) rfl
theorem qs65 : (Cond.selects "HatRankModel" ⟨"HatRankModel", "look", "()I"⟩ ⟨"HatRankModel", "look", "()I"⟩) ∈ lw_all := lw_g (lw_at lw_ms 65 rfl) rfl
theorem qs66 : (Cond.selects "HatRankModel" ⟨"HatRankModel", "addStep", "(II)V"⟩ ⟨"HatRankModel", "addStep", "(II)V"⟩) ∈ lw_all := lw_g (lw_at lw_ms 66 rfl) rfl
theorem qs67 : (Cond.selects "HatRankModel" ⟨"HatRankModel", "opens", "()Z"⟩ ⟨"HatRankModel", "opens", "()Z"⟩) ∈ lw_all := lw_g (lw_at lw_ms 67 rfl) rfl
theorem qs68 : (Cond.selects "HatRankModel" ⟨"HatRankModel", "faulty", "()V"⟩ ⟨"HatRankModel", "faulty", "()V"⟩) ∈ lw_all := lw_g (lw_at lw_ms 68 rfl) rfl
theorem qs69 : (Cond.selects "HatRankModel" ⟨"HatRankModel", "figure", "()V"⟩ ⟨"HatRankModel", "figure", "()V"⟩) ∈ lw_all := lw_g (lw_at lw_ms 69 rfl) rfl
theorem qs70 : (Cond.selects "HatRankModel" ⟨"HatRankModel", "rankOf", "(I[I)I"⟩ ⟨"HatRankModel", "rankOf", "(I[I)I"⟩) ∈ lw_all := lw_g (lw_at lw_ms 70 rfl) rfl
theorem qs71 : (Cond.selects "HatRankModel" ⟨"HatRankModel", "think", "()V"⟩ ⟨"HatRankModel", "think", "()V"⟩) ∈ lw_all := lw_g (lw_at lw_ms 71 rfl) rfl
theorem qs72 : (Cond.selects "HatRankModel" ⟨"HatRankModel", "falls", "(II)I"⟩ ⟨"HatRankModel", "falls", "(II)I"⟩) ∈ lw_all := lw_g (lw_at lw_ms 72 rfl) rfl
theorem qs73 : (Cond.selects "HatRankModel" ⟨"HatRankModel", "fallsBy", "(IIII)I"⟩ ⟨"HatRankModel", "fallsBy", "(IIII)I"⟩) ∈ lw_all := lw_g (lw_at lw_ms 73 rfl) rfl
theorem qs74 : (Cond.selects "HatRankModel" ⟨"HatRankModel", "gustAt", "(II)I"⟩ ⟨"HatRankModel", "gustAt", "(II)I"⟩) ∈ lw_all := lw_g (lw_at lw_ms 74 rfl) rfl
theorem qs75 : (Cond.selects "HatRankModel" ⟨"HatRankModel", "gives", "(I)I"⟩ ⟨"HatRankModel", "gives", "(I)I"⟩) ∈ lw_all := lw_g (lw_at lw_ms 75 rfl) rfl
theorem qs76 : (Cond.selects "HatRankModel" ⟨"HatRankModel", "worked", "(III)I"⟩ ⟨"HatRankModel", "worked", "(III)I"⟩) ∈ lw_all := lw_g (lw_at lw_ms 76 rfl) rfl
theorem qs77 : (Cond.selects "HatRankModel" ⟨"HatRankModel", "goHour", "(I)I"⟩ ⟨"HatRankModel", "goHour", "(I)I"⟩) ∈ lw_all := lw_g (lw_at lw_ms 77 rfl) rfl
theorem qs78 : (Cond.selects "HatRankModel" ⟨"HatRankModel", "takeUp", "()V"⟩ ⟨"HatRankModel", "takeUp", "()V"⟩) ∈ lw_all := lw_g (lw_at lw_ms 78 rfl) rfl
theorem qs79 : (Cond.selects "HatRankModel" ⟨"HatRankModel", "fall", "(I)V"⟩ ⟨"HatRankModel", "fall", "(I)V"⟩) ∈ lw_all := lw_g (lw_at lw_ms 79 rfl) rfl
theorem qs80 : (Cond.selects "HatRankModel" ⟨"HatRankModel", "catcher", "(I)I"⟩ ⟨"HatRankModel", "catcher", "(I)I"⟩) ∈ lw_all := lw_g (lw_at lw_ms 80 rfl) rfl
theorem qs81 : (Cond.selects "HatRankModel" ⟨"HatRankModel", "firstOf", "([I)I"⟩ ⟨"HatRankModel", "firstOf", "([I)I"⟩) ∈ lw_all := lw_g (lw_at lw_ms 81 rfl) rfl
theorem qs82 : (Cond.selects "HatRankModel" ⟨"HatRankModel", "isWalk", "(II)Z"⟩ ⟨"HatRankModel", "isWalk", "(II)Z"⟩) ∈ lw_all := lw_g (lw_at lw_ms 82 rfl) rfl
theorem qs83 : (Cond.selects "HatRankModel" ⟨"HatRankModel", "findRisk", "(III)V"⟩ ⟨"HatRankModel", "findRisk", "(III)V"⟩) ∈ lw_all := lw_g (lw_at lw_ms 83 rfl) rfl
theorem qs84 : (Cond.selects "HatRankModel" ⟨"HatRankModel", "mayGo", "(II)Z"⟩ ⟨"HatRankModel", "mayGo", "(II)Z"⟩) ∈ lw_all := lw_g (lw_at lw_ms 84 rfl) rfl
theorem qs85 : (Cond.selects "HatRankModel" ⟨"HatRankModel", "findChance", "(III)V"⟩ ⟨"HatRankModel", "findChance", "(III)V"⟩) ∈ lw_all := lw_g (lw_at lw_ms 85 rfl) rfl
theorem qs86 : (Cond.selects "HatRankModel" ⟨"HatRankModel", "goThrough", "(IIIJ)V"⟩ ⟨"HatRankModel", "goThrough", "(IIIJ)V"⟩) ∈ lw_all := lw_g (lw_at lw_ms 86 rfl) rfl
theorem qs87 : (Cond.selects "HatRankModel" ⟨"HatRankModel", "keepThen", "(I)V"⟩ ⟨"HatRankModel", "keepThen", "(I)V"⟩) ∈ lw_all := lw_g (lw_at lw_ms 87 rfl) rfl
theorem qs88 : (Cond.selects "HatRankModel" ⟨"HatRankModel", "layBack", "(I)V"⟩ ⟨"HatRankModel", "layBack", "(I)V"⟩) ∈ lw_all := lw_g (lw_at lw_ms 88 rfl) rfl
theorem qs89 : (Cond.selects "HatRankModel" ⟨"HatRankModel", "asPart", "(JII)J"⟩ ⟨"HatRankModel", "asPart", "(JII)J"⟩) ∈ lw_all := lw_g (lw_at lw_ms 89 rfl) rfl
theorem qs90 : (Cond.selects "HatRankModel" ⟨"HatRankModel", "below", "(I)J"⟩ ⟨"HatRankModel", "below", "(I)J"⟩) ∈ lw_all := lw_g (lw_at lw_ms 90 rfl) rfl
theorem qs91 : (Cond.selects "HatRankModel" ⟨"HatRankModel", "thinkOn", "(II)V"⟩ ⟨"HatRankModel", "thinkOn", "(II)V"⟩) ∈ lw_all := lw_g (lw_at lw_ms 91 rfl) rfl
theorem qs92 : (Cond.selects "HatRankModel" ⟨"HatRankModel", "isBody", "(I)Z"⟩ ⟨"HatRankModel", "isBody", "(I)Z"⟩) ∈ lw_all := lw_g (lw_at lw_ms 92 rfl) rfl
theorem qs93 : (Cond.selects "HatRankModel" ⟨"HatRankModel", "sitting", "(II)I"⟩ ⟨"HatRankModel", "sitting", "(II)I"⟩) ∈ lw_all := lw_g (lw_at lw_ms 93 rfl) rfl
theorem qs94 : (Cond.selects "HatRankModel" ⟨"HatRankModel", "ran", "(I)V"⟩ ⟨"HatRankModel", "ran", "(I)V"⟩) ∈ lw_all := lw_g (lw_at lw_ms 94 rfl) rfl
theorem qs95 : (Cond.selects "HatRankModel" ⟨"HatRankModel", "plainSits", "(II)I"⟩ ⟨"HatRankModel", "plainSits", "(II)I"⟩) ∈ lw_all := lw_g (lw_at lw_ms 95 rfl) rfl
theorem qs96 : (Cond.selects "HatRankModel" ⟨"HatRankModel", "newSits", "(II)I"⟩ ⟨"HatRankModel", "newSits", "(II)I"⟩) ∈ lw_all := lw_g (lw_at lw_ms 96 rfl) rfl
theorem qs97 : (Cond.selects "HatRankModel" ⟨"HatRankModel", "falling", "(II)I"⟩ ⟨"HatRankModel", "falling", "(II)I"⟩) ∈ lw_all := lw_g (lw_at lw_ms 97 rfl) rfl
theorem qs98 : (Cond.selects "HatRankModel" ⟨"HatRankModel", "blownFalls", "(II)I"⟩ ⟨"HatRankModel", "blownFalls", "(II)I"⟩) ∈ lw_all := lw_g (lw_at lw_ms 98 rfl) rfl
theorem qs99 : (Cond.selects "HatRankModel" ⟨"HatRankModel", "plainFalls", "(II)I"⟩ ⟨"HatRankModel", "plainFalls", "(II)I"⟩) ∈ lw_all := lw_g (lw_at lw_ms 99 rfl) rfl
theorem qs100 : (Cond.selects "HatRankModel" ⟨"HatRankModel", "landing", "(II)I"⟩ ⟨"HatRankModel", "landing", "(II)I"⟩) ∈ lw_all := lw_g (lw_at lw_ms 100 rfl) rfl
theorem qs101 : (Cond.selects "HatRankModel" ⟨"HatRankModel", "caughtLands", "(II)I"⟩ ⟨"HatRankModel", "caughtLands", "(II)I"⟩) ∈ lw_all := lw_g (lw_at lw_ms 101 rfl) rfl
theorem qs102 : (Cond.selects "HatRankModel" ⟨"HatRankModel", "plainLands", "(II)I"⟩ ⟨"HatRankModel", "plainLands", "(II)I"⟩) ∈ lw_all := lw_g (lw_at lw_ms 102 rfl) rfl
theorem qs103 : (Cond.selects "HatRankModel" ⟨"HatRankModel", "ranking", "(II)I"⟩ ⟨"HatRankModel", "ranking", "(II)I"⟩) ∈ lw_all := lw_g (lw_at lw_ms 103 rfl) rfl
theorem qs104 : (Cond.selects "HatRankModel" ⟨"HatRankModel", "plainRanks", "(II)I"⟩ ⟨"HatRankModel", "plainRanks", "(II)I"⟩) ∈ lw_all := lw_g (lw_at lw_ms 104 rfl) rfl
theorem qs105 : (Cond.selects "HatRankModel" ⟨"HatRankModel", "whyNoPlace", "(II)I"⟩ ⟨"HatRankModel", "whyNoPlace", "(II)I"⟩) ∈ lw_all := lw_g (lw_at lw_ms 105 rfl) rfl
-- ===== end of PART A; then your names; then what follows =====
