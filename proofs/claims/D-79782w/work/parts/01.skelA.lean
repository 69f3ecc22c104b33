-- ===== PART A: goes FIRST, ahead of the names: the tables' words, and 'selects' of the private methods out of them =====
/-- a private method of a class that the tables say can be made, by its rows of tables_1 -/
def lw_okq (q : MethodName × Nat) : Prop := (q.1.cls ≠ "java/lang/invoke/MethodHandle" ∧ q.1.cls ≠ "java/lang/invoke/VarHandle") ∧ Cond.instantiable q.1.cls q.2 ∈ tables_1 ∧ Cond.privateMethod q.1 ∈ tables_1 ∧ Cond.instanceMethod q.1 ∈ tables_1
set_option maxRecDepth 100000
theorem lw_t1 {w : Cond} (h : w ∈ tables_1_1) : w ∈ tables_1 := List.mem_append_left _ h
theorem lw_t2 {w : Cond} (h : w ∈ tables_1_2) : w ∈ tables_1 := List.mem_append_right _ (List.mem_append_left _ h)
theorem lw_t3 {w : Cond} (h : w ∈ tables_1_3) : w ∈ tables_1 := List.mem_append_right _ (List.mem_append_right _ (List.mem_append_left _ h))
theorem lw_t4 {w : Cond} (h : w ∈ tables_1_4) : w ∈ tables_1 := List.mem_append_right _ (List.mem_append_right _ (List.mem_append_right _ (List.mem_append_left _ h)))
theorem lw_t5 {w : Cond} (h : w ∈ tables_1_5) : w ∈ tables_1 := List.mem_append_right _ (List.mem_append_right _ (List.mem_append_right _ (List.mem_append_right _ (List.mem_append_left _ h))))
theorem lw_t6 {w : Cond} (h : w ∈ tables_1_6) : w ∈ tables_1 := List.mem_append_right _ (List.mem_append_right _ (List.mem_append_right _ (List.mem_append_right _ (List.mem_append_right _ (List.mem_append_left _ h)))))
theorem lw_t7 {w : Cond} (h : w ∈ tables_1_7) : w ∈ tables_1 := List.mem_append_right _ (List.mem_append_right _ (List.mem_append_right _ (List.mem_append_right _ (List.mem_append_right _ (List.mem_append_right _ (List.mem_append_left _ h))))))
theorem lw_t8 {w : Cond} (h : w ∈ tables_1_8) : w ∈ tables_1 := List.mem_append_right _ (List.mem_append_right _ (List.mem_append_right _ (List.mem_append_right _ (List.mem_append_right _ (List.mem_append_right _ (List.mem_append_right _ (List.mem_append_left _ h)))))))
theorem lw_t9 {w : Cond} (h : w ∈ tables_1_9) : w ∈ tables_1 := List.mem_append_right _ (List.mem_append_right _ (List.mem_append_right _ (List.mem_append_right _ (List.mem_append_right _ (List.mem_append_right _ (List.mem_append_right _ (List.mem_append_right _ (List.mem_append_left _ h))))))))
theorem lw_t10 {w : Cond} (h : w ∈ tables_1_10) : w ∈ tables_1 := List.mem_append_right _ (List.mem_append_right _ (List.mem_append_right _ (List.mem_append_right _ (List.mem_append_right _ (List.mem_append_right _ (List.mem_append_right _ (List.mem_append_right _ (List.mem_append_right _ h))))))))
theorem lw_p0 : lw_okq (⟨"java/lang/Throwable", "fillInStackTrace", "(I)Ljava/lang/Throwable;"⟩, 6) := ⟨⟨by decide +kernel, by decide +kernel⟩, lw_t2 (List.mem_of_getElem? (i := 115) rfl), lw_t2 (List.mem_of_getElem? (i := 113) rfl), lw_t2 (List.mem_of_getElem? (i := 114) rfl)⟩
theorem lw_p1 : lw_okq (⟨"QueryHarbor", "sourceAt", "(I)LQueryHarbor$Source;"⟩, 16) := ⟨⟨by decide +kernel, by decide +kernel⟩, lw_t1 (List.mem_of_getElem? (i := 44) rfl), lw_t2 (List.mem_of_getElem? (i := 167) rfl), lw_t2 (List.mem_of_getElem? (i := 168) rfl)⟩
theorem lw_p2 : lw_okq (⟨"java/util/ArrayList", "rangeCheckForAdd", "(I)V"⟩, 3) := ⟨⟨by decide +kernel, by decide +kernel⟩, lw_t1 (List.mem_of_getElem? (i := 121) rfl), lw_t3 (List.mem_of_getElem? (i := 97) rfl), lw_t3 (List.mem_of_getElem? (i := 98) rfl)⟩
theorem lw_p3 : lw_okq (⟨"java/util/ArrayList", "outOfBoundsMsg", "(I)Ljava/lang/String;"⟩, 3) := ⟨⟨by decide +kernel, by decide +kernel⟩, lw_t1 (List.mem_of_getElem? (i := 121) rfl), lw_t3 (List.mem_of_getElem? (i := 102) rfl), lw_t3 (List.mem_of_getElem? (i := 103) rfl)⟩
theorem lw_p4 : lw_okq (⟨"java/util/ArrayList", "grow", "()[Ljava/lang/Object;"⟩, 3) := ⟨⟨by decide +kernel, by decide +kernel⟩, lw_t1 (List.mem_of_getElem? (i := 121) rfl), lw_t4 (List.mem_of_getElem? (i := 104) rfl), lw_t4 (List.mem_of_getElem? (i := 105) rfl)⟩
theorem lw_p5 : lw_okq (⟨"java/util/ArrayList", "grow", "(I)[Ljava/lang/Object;"⟩, 3) := ⟨⟨by decide +kernel, by decide +kernel⟩, lw_t1 (List.mem_of_getElem? (i := 121) rfl), lw_t4 (List.mem_of_getElem? (i := 108) rfl), lw_t4 (List.mem_of_getElem? (i := 109) rfl)⟩
theorem lw_p6 : lw_okq (⟨"QueryHarbor", "written", "(LQueryHarbor$Source;)V"⟩, 16) := ⟨⟨by decide +kernel, by decide +kernel⟩, lw_t1 (List.mem_of_getElem? (i := 44) rfl), lw_t4 (List.mem_of_getElem? (i := 155) rfl), lw_t4 (List.mem_of_getElem? (i := 156) rfl)⟩
theorem lw_p7 : lw_okq (⟨"java/util/ArrayList", "add", "(Ljava/lang/Object;[Ljava/lang/Object;I)V"⟩, 3) := ⟨⟨by decide +kernel, by decide +kernel⟩, lw_t1 (List.mem_of_getElem? (i := 121) rfl), lw_t4 (List.mem_of_getElem? (i := 183) rfl), lw_t4 (List.mem_of_getElem? (i := 184) rfl)⟩
theorem lw_p8 : lw_okq (⟨"QueryHarbor", "goTo", "(I)V"⟩, 16) := ⟨⟨by decide +kernel, by decide +kernel⟩, lw_t1 (List.mem_of_getElem? (i := 44) rfl), lw_t4 (List.mem_of_getElem? (i := 206) rfl), lw_t4 (List.mem_of_getElem? (i := 207) rfl)⟩
theorem lw_p9 : lw_okq (⟨"java/util/ArrayList", "fastRemove", "([Ljava/lang/Object;I)V"⟩, 3) := ⟨⟨by decide +kernel, by decide +kernel⟩, lw_t1 (List.mem_of_getElem? (i := 121) rfl), lw_t4 (List.mem_of_getElem? (i := 215) rfl), lw_t4 (List.mem_of_getElem? (i := 216) rfl)⟩
theorem lw_p10 : lw_okq (⟨"QueryHarbor", "drop", "(LQueryHarbor$Message;)V"⟩, 16) := ⟨⟨by decide +kernel, by decide +kernel⟩, lw_t1 (List.mem_of_getElem? (i := 44) rfl), lw_t4 (List.mem_of_getElem? (i := 219) rfl), lw_t4 (List.mem_of_getElem? (i := 220) rfl)⟩
theorem lw_p11 : lw_okq (⟨"QueryHarbor", "replace", "(LQueryHarbor$Source;LQueryHarbor$Row;)V"⟩, 16) := ⟨⟨by decide +kernel, by decide +kernel⟩, lw_t1 (List.mem_of_getElem? (i := 44) rfl), lw_t5 (List.mem_of_getElem? (i := 15) rfl), lw_t5 (List.mem_of_getElem? (i := 16) rfl)⟩
theorem lw_p12 : lw_okq (⟨"QueryHarbor", "lineAt", "(I)LQueryHarbor$Line;"⟩, 16) := ⟨⟨by decide +kernel, by decide +kernel⟩, lw_t1 (List.mem_of_getElem? (i := 44) rfl), lw_t5 (List.mem_of_getElem? (i := 51) rfl), lw_t5 (List.mem_of_getElem? (i := 52) rfl)⟩
theorem lw_p13 : lw_okq (⟨"QueryHarbor", "knownColumn", "(II)V"⟩, 16) := ⟨⟨by decide +kernel, by decide +kernel⟩, lw_t1 (List.mem_of_getElem? (i := 44) rfl), lw_t5 (List.mem_of_getElem? (i := 107) rfl), lw_t5 (List.mem_of_getElem? (i := 108) rfl)⟩
theorem lw_p14 : lw_okq (⟨"QueryHarbor", "seatAt", "(I)LQueryHarbor$Source;"⟩, 16) := ⟨⟨by decide +kernel, by decide +kernel⟩, lw_t1 (List.mem_of_getElem? (i := 44) rfl), lw_t5 (List.mem_of_getElem? (i := 111) rfl), lw_t5 (List.mem_of_getElem? (i := 112) rfl)⟩
theorem lw_p15 : lw_okq (⟨"QueryHarbor", "next", "([LQueryHarbor$Seat;)LQueryHarbor$Seat;"⟩, 16) := ⟨⟨by decide +kernel, by decide +kernel⟩, lw_t1 (List.mem_of_getElem? (i := 44) rfl), lw_t6 (List.mem_of_getElem? (i := 43) rfl), lw_t6 (List.mem_of_getElem? (i := 44) rfl)⟩
def lw_privs_1 : List (MethodName × Nat) := [(⟨"java/lang/Throwable", "fillInStackTrace", "(I)Ljava/lang/Throwable;"⟩, 6), (⟨"QueryHarbor", "sourceAt", "(I)LQueryHarbor$Source;"⟩, 16), (⟨"java/util/ArrayList", "rangeCheckForAdd", "(I)V"⟩, 3), (⟨"java/util/ArrayList", "outOfBoundsMsg", "(I)Ljava/lang/String;"⟩, 3), (⟨"java/util/ArrayList", "grow", "()[Ljava/lang/Object;"⟩, 3), (⟨"java/util/ArrayList", "grow", "(I)[Ljava/lang/Object;"⟩, 3), (⟨"QueryHarbor", "written", "(LQueryHarbor$Source;)V"⟩, 16), (⟨"java/util/ArrayList", "add", "(Ljava/lang/Object;[Ljava/lang/Object;I)V"⟩, 3), (⟨"QueryHarbor", "goTo", "(I)V"⟩, 16), (⟨"java/util/ArrayList", "fastRemove", "([Ljava/lang/Object;I)V"⟩, 3), (⟨"QueryHarbor", "drop", "(LQueryHarbor$Message;)V"⟩, 16), (⟨"QueryHarbor", "replace", "(LQueryHarbor$Source;LQueryHarbor$Row;)V"⟩, 16), (⟨"QueryHarbor", "lineAt", "(I)LQueryHarbor$Line;"⟩, 16), (⟨"QueryHarbor", "knownColumn", "(II)V"⟩, 16), (⟨"QueryHarbor", "seatAt", "(I)LQueryHarbor$Source;"⟩, 16), (⟨"QueryHarbor", "next", "([LQueryHarbor$Seat;)LQueryHarbor$Seat;"⟩, 16)]
theorem lw_r1 : ∀ q ∈ lw_privs_1, lw_okq q := List.forall_mem_cons.mpr ⟨lw_p0, List.forall_mem_cons.mpr ⟨lw_p1, List.forall_mem_cons.mpr ⟨lw_p2, List.forall_mem_cons.mpr ⟨lw_p3, List.forall_mem_cons.mpr ⟨lw_p4, List.forall_mem_cons.mpr ⟨lw_p5, List.forall_mem_cons.mpr ⟨lw_p6, List.forall_mem_cons.mpr ⟨lw_p7, List.forall_mem_cons.mpr ⟨lw_p8, List.forall_mem_cons.mpr ⟨lw_p9, List.forall_mem_cons.mpr ⟨lw_p10, List.forall_mem_cons.mpr ⟨lw_p11, List.forall_mem_cons.mpr ⟨lw_p12, List.forall_mem_cons.mpr ⟨lw_p13, List.forall_mem_cons.mpr ⟨lw_p14, List.forall_mem_cons.mpr ⟨lw_p15, fun _ h => absurd h List.not_mem_nil⟩⟩⟩⟩⟩⟩⟩⟩⟩⟩⟩⟩⟩⟩⟩⟩
theorem lw_p16 : lw_okq (⟨"QueryHarbor", "linkOf", "(LQueryHarbor$Seat;[LQueryHarbor$Seat;)LQueryHarbor$Link;"⟩, 16) := ⟨⟨by decide +kernel, by decide +kernel⟩, lw_t1 (List.mem_of_getElem? (i := 44) rfl), lw_t6 (List.mem_of_getElem? (i := 47) rfl), lw_t6 (List.mem_of_getElem? (i := 48) rfl)⟩
theorem lw_p17 : lw_okq (⟨"QueryHarbor", "take", "(LQueryHarbor$Seat;[LQueryHarbor$Seat;III)V"⟩, 16) := ⟨⟨by decide +kernel, by decide +kernel⟩, lw_t1 (List.mem_of_getElem? (i := 44) rfl), lw_t6 (List.mem_of_getElem? (i := 60) rfl), lw_t6 (List.mem_of_getElem? (i := 61) rfl)⟩
theorem lw_p18 : lw_okq (⟨"QueryHarbor", "entryFor", "(LQueryHarbor$Seat;I)LQueryHarbor$Entry;"⟩, 16) := ⟨⟨by decide +kernel, by decide +kernel⟩, lw_t1 (List.mem_of_getElem? (i := 44) rfl), lw_t6 (List.mem_of_getElem? (i := 64) rfl), lw_t6 (List.mem_of_getElem? (i := 65) rfl)⟩
theorem lw_p19 : lw_okq (⟨"QueryHarbor", "bind", "(LQueryHarbor$Seat;LQueryHarbor$Seat;LQueryHarbor$Link;II)Z"⟩, 16) := ⟨⟨by decide +kernel, by decide +kernel⟩, lw_t1 (List.mem_of_getElem? (i := 44) rfl), lw_t6 (List.mem_of_getElem? (i := 75) rfl), lw_t6 (List.mem_of_getElem? (i := 76) rfl)⟩
theorem lw_p20 : lw_okq (⟨"QueryHarbor", "ship", "(LQueryHarbor$Seat;ILjava/util/ArrayList;IIII)V"⟩, 16) := ⟨⟨by decide +kernel, by decide +kernel⟩, lw_t1 (List.mem_of_getElem? (i := 44) rfl), lw_t6 (List.mem_of_getElem? (i := 133) rfl), lw_t6 (List.mem_of_getElem? (i := 134) rfl)⟩
theorem lw_p21 : lw_okq (⟨"QueryHarbor", "request", "(LQueryHarbor$Line;IILQueryHarbor$Answer;)V"⟩, 16) := ⟨⟨by decide +kernel, by decide +kernel⟩, lw_t1 (List.mem_of_getElem? (i := 44) rfl), lw_t6 (List.mem_of_getElem? (i := 137) rfl), lw_t6 (List.mem_of_getElem? (i := 138) rfl)⟩
theorem lw_p22 : lw_okq (⟨"QueryHarbor", "attempt", "(LQueryHarbor$Line;IILQueryHarbor$Answer;)V"⟩, 16) := ⟨⟨by decide +kernel, by decide +kernel⟩, lw_t1 (List.mem_of_getElem? (i := 44) rfl), lw_t6 (List.mem_of_getElem? (i := 142) rfl), lw_t6 (List.mem_of_getElem? (i := 143) rfl)⟩
theorem lw_p23 : lw_okq (⟨"QueryHarbor", "scan", "(LQueryHarbor$Seat;II)V"⟩, 16) := ⟨⟨by decide +kernel, by decide +kernel⟩, lw_t1 (List.mem_of_getElem? (i := 44) rfl), lw_t6 (List.mem_of_getElem? (i := 193) rfl), lw_t6 (List.mem_of_getElem? (i := 194) rfl)⟩
theorem lw_p24 : lw_okq (⟨"QueryHarbor", "walk", "(Ljava/util/ArrayList;LQueryHarbor$Answer;)V"⟩, 16) := ⟨⟨by decide +kernel, by decide +kernel⟩, lw_t1 (List.mem_of_getElem? (i := 44) rfl), lw_t7 (List.mem_of_getElem? (i := 0) rfl), lw_t7 (List.mem_of_getElem? (i := 1) rfl)⟩
theorem lw_p25 : lw_okq (⟨"QueryHarbor", "step", "(Ljava/util/ArrayList;[LQueryHarbor$Row;ILQueryHarbor$Answer;)V"⟩, 16) := ⟨⟨by decide +kernel, by decide +kernel⟩, lw_t1 (List.mem_of_getElem? (i := 44) rfl), lw_t7 (List.mem_of_getElem? (i := 5) rfl), lw_t7 (List.mem_of_getElem? (i := 6) rfl)⟩
theorem lw_p26 : lw_okq (⟨"QueryHarbor", "tell", "([LQueryHarbor$Row;LQueryHarbor$Answer;)V"⟩, 16) := ⟨⟨by decide +kernel, by decide +kernel⟩, lw_t1 (List.mem_of_getElem? (i := 44) rfl), lw_t7 (List.mem_of_getElem? (i := 9) rfl), lw_t7 (List.mem_of_getElem? (i := 10) rfl)⟩
theorem lw_p27 : lw_okq (⟨"QueryHarbor", "areLinked", "([LQueryHarbor$Row;I)Z"⟩, 16) := ⟨⟨by decide +kernel, by decide +kernel⟩, lw_t1 (List.mem_of_getElem? (i := 44) rfl), lw_t7 (List.mem_of_getElem? (i := 17) rfl), lw_t7 (List.mem_of_getElem? (i := 18) rfl)⟩
theorem lw_p28 : lw_okq (⟨"QueryHarbor", "cut", "(LQueryHarbor$Answer;)V"⟩, 16) := ⟨⟨by decide +kernel, by decide +kernel⟩, lw_t1 (List.mem_of_getElem? (i := 44) rfl), lw_t7 (List.mem_of_getElem? (i := 26) rfl), lw_t7 (List.mem_of_getElem? (i := 27) rfl)⟩
theorem lw_p29 : lw_okq (⟨"QueryHarbor", "cellOf", "(LQueryHarbor$Answer;II)I"⟩, 16) := ⟨⟨by decide +kernel, by decide +kernel⟩, lw_t1 (List.mem_of_getElem? (i := 44) rfl), lw_t7 (List.mem_of_getElem? (i := 37) rfl), lw_t7 (List.mem_of_getElem? (i := 38) rfl)⟩
theorem lw_p30 : lw_okq (⟨"QueryHarbor", "anew", "()LQueryHarbor$Answer;"⟩, 16) := ⟨⟨by decide +kernel, by decide +kernel⟩, lw_t1 (List.mem_of_getElem? (i := 44) rfl), lw_t7 (List.mem_of_getElem? (i := 62) rfl), lw_t7 (List.mem_of_getElem? (i := 63) rfl)⟩
theorem lw_p31 : lw_okq (⟨"QueryHarbor", "isDone", "([ILjava/util/ArrayList;)Z"⟩, 16) := ⟨⟨by decide +kernel, by decide +kernel⟩, lw_t1 (List.mem_of_getElem? (i := 44) rfl), lw_t7 (List.mem_of_getElem? (i := 87) rfl), lw_t7 (List.mem_of_getElem? (i := 88) rfl)⟩
def lw_privs_2 : List (MethodName × Nat) := [(⟨"QueryHarbor", "linkOf", "(LQueryHarbor$Seat;[LQueryHarbor$Seat;)LQueryHarbor$Link;"⟩, 16), (⟨"QueryHarbor", "take", "(LQueryHarbor$Seat;[LQueryHarbor$Seat;III)V"⟩, 16), (⟨"QueryHarbor", "entryFor", "(LQueryHarbor$Seat;I)LQueryHarbor$Entry;"⟩, 16), (⟨"QueryHarbor", "bind", "(LQueryHarbor$Seat;LQueryHarbor$Seat;LQueryHarbor$Link;II)Z"⟩, 16), (⟨"QueryHarbor", "ship", "(LQueryHarbor$Seat;ILjava/util/ArrayList;IIII)V"⟩, 16), (⟨"QueryHarbor", "request", "(LQueryHarbor$Line;IILQueryHarbor$Answer;)V"⟩, 16), (⟨"QueryHarbor", "attempt", "(LQueryHarbor$Line;IILQueryHarbor$Answer;)V"⟩, 16), (⟨"QueryHarbor", "scan", "(LQueryHarbor$Seat;II)V"⟩, 16), (⟨"QueryHarbor", "walk", "(Ljava/util/ArrayList;LQueryHarbor$Answer;)V"⟩, 16), (⟨"QueryHarbor", "step", "(Ljava/util/ArrayList;[LQueryHarbor$Row;ILQueryHarbor$Answer;)V"⟩, 16), (⟨"QueryHarbor", "tell", "([LQueryHarbor$Row;LQueryHarbor$Answer;)V"⟩, 16), (⟨"QueryHarbor", "areLinked", "([LQueryHarbor$Row;I)Z"⟩, 16), (⟨"QueryHarbor", "cut", "(LQueryHarbor$Answer;)V"⟩, 16), (⟨"QueryHarbor", "cellOf", "(LQueryHarbor$Answer;II)I"⟩, 16), (⟨"QueryHarbor", "anew", "()LQueryHarbor$Answer;"⟩, 16), (⟨"QueryHarbor", "isDone", "([ILjava/util/ArrayList;)Z"⟩, 16)]
theorem lw_r2 : ∀ q ∈ lw_privs_2, lw_okq q := List.forall_mem_cons.mpr ⟨lw_p16, List.forall_mem_cons.mpr ⟨lw_p17, List.forall_mem_cons.mpr ⟨lw_p18, List.forall_mem_cons.mpr ⟨lw_p19, List.forall_mem_cons.mpr ⟨lw_p20, List.forall_mem_cons.mpr ⟨lw_p21, List.forall_mem_cons.mpr ⟨lw_p22, List.forall_mem_cons.mpr ⟨lw_p23, List.forall_mem_cons.mpr ⟨lw_p24, List.forall_mem_cons.mpr ⟨lw_p25, List.forall_mem_cons.mpr ⟨lw_p26, List.forall_mem_cons.mpr ⟨lw_p27, List.forall_mem_cons.mpr ⟨lw_p28, List.forall_mem_cons.mpr ⟨lw_p29, List.forall_mem_cons.mpr ⟨lw_p30, List.forall_mem_cons.mpr ⟨lw_p31, fun _ h => absurd h List.not_mem_nil⟩⟩⟩⟩⟩⟩⟩⟩⟩⟩⟩⟩⟩⟩⟩⟩
theorem lw_p32 : lw_okq (⟨"QueryHarbor", "done", "([I)LQueryHarbor$Done;"⟩, 16) := ⟨⟨by decide +kernel, by decide +kernel⟩, lw_t1 (List.mem_of_getElem? (i := 44) rfl), lw_t7 (List.mem_of_getElem? (i := 91) rfl), lw_t7 (List.mem_of_getElem? (i := 92) rfl)⟩
theorem lw_p33 : lw_okq (⟨"QueryHarborModel", "canAdd", "(IIIII)I"⟩, 94) := ⟨⟨by decide +kernel, by decide +kernel⟩, lw_t7 (List.mem_of_getElem? (i := 128) rfl), lw_t8 (List.mem_of_getElem? (i := 191) rfl), lw_t8 (List.mem_of_getElem? (i := 192) rfl)⟩
theorem lw_p34 : lw_okq (⟨"QueryHarborModel", "placeOf", "(II)I"⟩, 94) := ⟨⟨by decide +kernel, by decide +kernel⟩, lw_t7 (List.mem_of_getElem? (i := 128) rfl), lw_t8 (List.mem_of_getElem? (i := 207) rfl), lw_t8 (List.mem_of_getElem? (i := 208) rfl)⟩
theorem lw_p35 : lw_okq (⟨"QueryHarborModel", "adds", "(IIIII)I"⟩, 94) := ⟨⟨by decide +kernel, by decide +kernel⟩, lw_t7 (List.mem_of_getElem? (i := 128) rfl), lw_t8 (List.mem_of_getElem? (i := 211) rfl), lw_t8 (List.mem_of_getElem? (i := 212) rfl)⟩
theorem lw_p36 : lw_okq (⟨"QueryHarborModel", "kept", "(III)I"⟩, 94) := ⟨⟨by decide +kernel, by decide +kernel⟩, lw_t7 (List.mem_of_getElem? (i := 128) rfl), lw_t8 (List.mem_of_getElem? (i := 215) rfl), lw_t8 (List.mem_of_getElem? (i := 216) rfl)⟩
theorem lw_p37 : lw_okq (⟨"QueryHarborModel", "inserts", "(IIIIII)V"⟩, 94) := ⟨⟨by decide +kernel, by decide +kernel⟩, lw_t7 (List.mem_of_getElem? (i := 128) rfl), lw_t8 (List.mem_of_getElem? (i := 219) rfl), lw_t8 (List.mem_of_getElem? (i := 220) rfl)⟩
theorem lw_p38 : lw_okq (⟨"QueryHarborModel", "writes", "(I)V"⟩, 94) := ⟨⟨by decide +kernel, by decide +kernel⟩, lw_t7 (List.mem_of_getElem? (i := 128) rfl), lw_t8 (List.mem_of_getElem? (i := 223) rfl), lw_t8 (List.mem_of_getElem? (i := 224) rfl)⟩
theorem lw_p39 : lw_okq (⟨"QueryHarborModel", "drops", "()V"⟩, 94) := ⟨⟨by decide +kernel, by decide +kernel⟩, lw_t7 (List.mem_of_getElem? (i := 128) rfl), lw_t8 (List.mem_of_getElem? (i := 227) rfl), lw_t8 (List.mem_of_getElem? (i := 228) rfl)⟩
theorem lw_p40 : lw_okq (⟨"QueryHarborModel", "moves", "(II)V"⟩, 94) := ⟨⟨by decide +kernel, by decide +kernel⟩, lw_t7 (List.mem_of_getElem? (i := 128) rfl), lw_t8 (List.mem_of_getElem? (i := 231) rfl), lw_t8 (List.mem_of_getElem? (i := 232) rfl)⟩
theorem lw_p41 : lw_okq (⟨"QueryHarborModel", "canChange", "(IIII)I"⟩, 94) := ⟨⟨by decide +kernel, by decide +kernel⟩, lw_t7 (List.mem_of_getElem? (i := 128) rfl), lw_t8 (List.mem_of_getElem? (i := 239) rfl), lw_t9 (List.mem_of_getElem? (i := 0) rfl)⟩
theorem lw_p42 : lw_okq (⟨"QueryHarborModel", "puts", "(IIII)I"⟩, 94) := ⟨⟨by decide +kernel, by decide +kernel⟩, lw_t7 (List.mem_of_getElem? (i := 128) rfl), lw_t9 (List.mem_of_getElem? (i := 3) rfl), lw_t9 (List.mem_of_getElem? (i := 4) rfl)⟩
theorem lw_p43 : lw_okq (⟨"QueryHarborModel", "takesOut", "(II)V"⟩, 94) := ⟨⟨by decide +kernel, by decide +kernel⟩, lw_t7 (List.mem_of_getElem? (i := 128) rfl), lw_t9 (List.mem_of_getElem? (i := 11) rfl), lw_t9 (List.mem_of_getElem? (i := 12) rfl)⟩
theorem lw_p44 : lw_okq (⟨"QueryHarborModel", "isForbidden", "(II)Z"⟩, 94) := ⟨⟨by decide +kernel, by decide +kernel⟩, lw_t7 (List.mem_of_getElem? (i := 128) rfl), lw_t9 (List.mem_of_getElem? (i := 54) rfl), lw_t9 (List.mem_of_getElem? (i := 55) rfl)⟩
theorem lw_p45 : lw_okq (⟨"QueryHarborModel", "goes", "(I)V"⟩, 94) := ⟨⟨by decide +kernel, by decide +kernel⟩, lw_t7 (List.mem_of_getElem? (i := 128) rfl), lw_t9 (List.mem_of_getElem? (i := 62) rfl), lw_t9 (List.mem_of_getElem? (i := 63) rfl)⟩
theorem lw_p46 : lw_okq (⟨"QueryHarborModel", "isSeatColumn", "(II)Z"⟩, 94) := ⟨⟨by decide +kernel, by decide +kernel⟩, lw_t7 (List.mem_of_getElem? (i := 128) rfl), lw_t9 (List.mem_of_getElem? (i := 78) rfl), lw_t9 (List.mem_of_getElem? (i := 79) rfl)⟩
theorem lw_p47 : lw_okq (⟨"QueryHarborModel", "isSeat", "(I)Z"⟩, 94) := ⟨⟨by decide +kernel, by decide +kernel⟩, lw_t7 (List.mem_of_getElem? (i := 128) rfl), lw_t9 (List.mem_of_getElem? (i := 82) rfl), lw_t9 (List.mem_of_getElem? (i := 83) rfl)⟩
def lw_privs_3 : List (MethodName × Nat) := [(⟨"QueryHarbor", "done", "([I)LQueryHarbor$Done;"⟩, 16), (⟨"QueryHarborModel", "canAdd", "(IIIII)I"⟩, 94), (⟨"QueryHarborModel", "placeOf", "(II)I"⟩, 94), (⟨"QueryHarborModel", "adds", "(IIIII)I"⟩, 94), (⟨"QueryHarborModel", "kept", "(III)I"⟩, 94), (⟨"QueryHarborModel", "inserts", "(IIIIII)V"⟩, 94), (⟨"QueryHarborModel", "writes", "(I)V"⟩, 94), (⟨"QueryHarborModel", "drops", "()V"⟩, 94), (⟨"QueryHarborModel", "moves", "(II)V"⟩, 94), (⟨"QueryHarborModel", "canChange", "(IIII)I"⟩, 94), (⟨"QueryHarborModel", "puts", "(IIII)I"⟩, 94), (⟨"QueryHarborModel", "takesOut", "(II)V"⟩, 94), (⟨"QueryHarborModel", "isForbidden", "(II)Z"⟩, 94), (⟨"QueryHarborModel", "goes", "(I)V"⟩, 94), (⟨"QueryHarborModel", "isSeatColumn", "(II)Z"⟩, 94), (⟨"QueryHarborModel", "isSeat", "(I)Z"⟩, 94)]
theorem lw_r3 : ∀ q ∈ lw_privs_3, lw_okq q := List.forall_mem_cons.mpr ⟨lw_p32, List.forall_mem_cons.mpr ⟨lw_p33, List.forall_mem_cons.mpr ⟨lw_p34, List.forall_mem_cons.mpr ⟨lw_p35, List.forall_mem_cons.mpr ⟨lw_p36, List.forall_mem_cons.mpr ⟨lw_p37, List.forall_mem_cons.mpr ⟨lw_p38, List.forall_mem_cons.mpr ⟨lw_p39, List.forall_mem_cons.mpr ⟨lw_p40, List.forall_mem_cons.mpr ⟨lw_p41, List.forall_mem_cons.mpr ⟨lw_p42, List.forall_mem_cons.mpr ⟨lw_p43, List.forall_mem_cons.mpr ⟨lw_p44, List.forall_mem_cons.mpr ⟨lw_p45, List.forall_mem_cons.mpr ⟨lw_p46, List.forall_mem_cons.mpr ⟨lw_p47, fun _ h => absurd h List.not_mem_nil⟩⟩⟩⟩⟩⟩⟩⟩⟩⟩⟩⟩⟩⟩⟩⟩
theorem lw_p48 : lw_okq (⟨"QueryHarborModel", "isDrafted", "()Z"⟩, 94) := ⟨⟨by decide +kernel, by decide +kernel⟩, lw_t7 (List.mem_of_getElem? (i := 128) rfl), lw_t9 (List.mem_of_getElem? (i := 106) rfl), lw_t9 (List.mem_of_getElem? (i := 107) rfl)⟩
theorem lw_p49 : lw_okq (⟨"QueryHarborModel", "nextSeat", "()I"⟩, 94) := ⟨⟨by decide +kernel, by decide +kernel⟩, lw_t7 (List.mem_of_getElem? (i := 128) rfl), lw_t9 (List.mem_of_getElem? (i := 110) rfl), lw_t9 (List.mem_of_getElem? (i := 111) rfl)⟩
theorem lw_p50 : lw_okq (⟨"QueryHarborModel", "linkOf", "(I)I"⟩, 94) := ⟨⟨by decide +kernel, by decide +kernel⟩, lw_t7 (List.mem_of_getElem? (i := 128) rfl), lw_t9 (List.mem_of_getElem? (i := 114) rfl), lw_t9 (List.mem_of_getElem? (i := 115) rfl)⟩
theorem lw_p51 : lw_okq (⟨"QueryHarborModel", "guess", "(I)I"⟩, 94) := ⟨⟨by decide +kernel, by decide +kernel⟩, lw_t7 (List.mem_of_getElem? (i := 128) rfl), lw_t9 (List.mem_of_getElem? (i := 118) rfl), lw_t9 (List.mem_of_getElem? (i := 119) rfl)⟩
theorem lw_p52 : lw_okq (⟨"QueryHarborModel", "manySent", "(I)I"⟩, 94) := ⟨⟨by decide +kernel, by decide +kernel⟩, lw_t7 (List.mem_of_getElem? (i := 128) rfl), lw_t9 (List.mem_of_getElem? (i := 122) rfl), lw_t9 (List.mem_of_getElem? (i := 123) rfl)⟩
theorem lw_p53 : lw_okq (⟨"QueryHarborModel", "isSent", "(II)Z"⟩, 94) := ⟨⟨by decide +kernel, by decide +kernel⟩, lw_t7 (List.mem_of_getElem? (i := 128) rfl), lw_t9 (List.mem_of_getElem? (i := 126) rfl), lw_t9 (List.mem_of_getElem? (i := 127) rfl)⟩
theorem lw_p54 : lw_okq (⟨"QueryHarborModel", "takes", "(I)V"⟩, 94) := ⟨⟨by decide +kernel, by decide +kernel⟩, lw_t7 (List.mem_of_getElem? (i := 128) rfl), lw_t9 (List.mem_of_getElem? (i := 133) rfl), lw_t9 (List.mem_of_getElem? (i := 134) rfl)⟩
theorem lw_p55 : lw_okq (⟨"QueryHarborModel", "entryFor", "(I)I"⟩, 94) := ⟨⟨by decide +kernel, by decide +kernel⟩, lw_t7 (List.mem_of_getElem? (i := 128) rfl), lw_t9 (List.mem_of_getElem? (i := 137) rfl), lw_t9 (List.mem_of_getElem? (i := 138) rfl)⟩
theorem lw_p56 : lw_okq (⟨"QueryHarborModel", "canServe", "(II)Z"⟩, 94) := ⟨⟨by decide +kernel, by decide +kernel⟩, lw_t7 (List.mem_of_getElem? (i := 128) rfl), lw_t9 (List.mem_of_getElem? (i := 141) rfl), lw_t9 (List.mem_of_getElem? (i := 142) rfl)⟩
theorem lw_p57 : lw_okq (⟨"QueryHarborModel", "serves", "(II)V"⟩, 94) := ⟨⟨by decide +kernel, by decide +kernel⟩, lw_t7 (List.mem_of_getElem? (i := 128) rfl), lw_t9 (List.mem_of_getElem? (i := 148) rfl), lw_t9 (List.mem_of_getElem? (i := 149) rfl)⟩
theorem lw_p58 : lw_okq (⟨"QueryHarborModel", "canBind", "(II)Z"⟩, 94) := ⟨⟨by decide +kernel, by decide +kernel⟩, lw_t7 (List.mem_of_getElem? (i := 128) rfl), lw_t9 (List.mem_of_getElem? (i := 152) rfl), lw_t9 (List.mem_of_getElem? (i := 153) rfl)⟩
theorem lw_p59 : lw_okq (⟨"QueryHarborModel", "laysKeys", "(II)V"⟩, 94) := ⟨⟨by decide +kernel, by decide +kernel⟩, lw_t7 (List.mem_of_getElem? (i := 128) rfl), lw_t9 (List.mem_of_getElem? (i := 156) rfl), lw_t9 (List.mem_of_getElem? (i := 157) rfl)⟩
theorem lw_p60 : lw_okq (⟨"QueryHarborModel", "holdHere", "(II)Z"⟩, 94) := ⟨⟨by decide +kernel, by decide +kernel⟩, lw_t7 (List.mem_of_getElem? (i := 128) rfl), lw_t9 (List.mem_of_getElem? (i := 160) rfl), lw_t9 (List.mem_of_getElem? (i := 161) rfl)⟩
theorem lw_p61 : lw_okq (⟨"QueryHarborModel", "isKey", "(III)Z"⟩, 94) := ⟨⟨by decide +kernel, by decide +kernel⟩, lw_t7 (List.mem_of_getElem? (i := 128) rfl), lw_t9 (List.mem_of_getElem? (i := 167) rfl), lw_t9 (List.mem_of_getElem? (i := 168) rfl)⟩
theorem lw_p62 : lw_okq (⟨"QueryHarborModel", "binds", "(II)I"⟩, 94) := ⟨⟨by decide +kernel, by decide +kernel⟩, lw_t7 (List.mem_of_getElem? (i := 128) rfl), lw_t9 (List.mem_of_getElem? (i := 171) rfl), lw_t9 (List.mem_of_getElem? (i := 172) rfl)⟩
theorem lw_p63 : lw_okq (⟨"QueryHarborModel", "requests", "(I)Z"⟩, 94) := ⟨⟨by decide +kernel, by decide +kernel⟩, lw_t7 (List.mem_of_getElem? (i := 128) rfl), lw_t9 (List.mem_of_getElem? (i := 175) rfl), lw_t9 (List.mem_of_getElem? (i := 176) rfl)⟩
def lw_privs_4 : List (MethodName × Nat) := [(⟨"QueryHarborModel", "isDrafted", "()Z"⟩, 94), (⟨"QueryHarborModel", "nextSeat", "()I"⟩, 94), (⟨"QueryHarborModel", "linkOf", "(I)I"⟩, 94), (⟨"QueryHarborModel", "guess", "(I)I"⟩, 94), (⟨"QueryHarborModel", "manySent", "(I)I"⟩, 94), (⟨"QueryHarborModel", "isSent", "(II)Z"⟩, 94), (⟨"QueryHarborModel", "takes", "(I)V"⟩, 94), (⟨"QueryHarborModel", "entryFor", "(I)I"⟩, 94), (⟨"QueryHarborModel", "canServe", "(II)Z"⟩, 94), (⟨"QueryHarborModel", "serves", "(II)V"⟩, 94), (⟨"QueryHarborModel", "canBind", "(II)Z"⟩, 94), (⟨"QueryHarborModel", "laysKeys", "(II)V"⟩, 94), (⟨"QueryHarborModel", "holdHere", "(II)Z"⟩, 94), (⟨"QueryHarborModel", "isKey", "(III)Z"⟩, 94), (⟨"QueryHarborModel", "binds", "(II)I"⟩, 94), (⟨"QueryHarborModel", "requests", "(I)Z"⟩, 94)]
theorem lw_r4 : ∀ q ∈ lw_privs_4, lw_okq q := List.forall_mem_cons.mpr ⟨lw_p48, List.forall_mem_cons.mpr ⟨lw_p49, List.forall_mem_cons.mpr ⟨lw_p50, List.forall_mem_cons.mpr ⟨lw_p51, List.forall_mem_cons.mpr ⟨lw_p52, List.forall_mem_cons.mpr ⟨lw_p53, List.forall_mem_cons.mpr ⟨lw_p54, List.forall_mem_cons.mpr ⟨lw_p55, List.forall_mem_cons.mpr ⟨lw_p56, List.forall_mem_cons.mpr ⟨lw_p57, List.forall_mem_cons.mpr ⟨lw_p58, List.forall_mem_cons.mpr ⟨lw_p59, List.forall_mem_cons.mpr ⟨lw_p60, List.forall_mem_cons.mpr ⟨lw_p61, List.forall_mem_cons.mpr ⟨lw_p62, List.forall_mem_cons.mpr ⟨lw_p63, fun _ h => absurd h List.not_mem_nil⟩⟩⟩⟩⟩⟩⟩⟩⟩⟩⟩⟩⟩⟩⟩⟩
theorem lw_p64 : lw_okq (⟨"QueryHarborModel", "tries", "(IZ)I"⟩, 94) := ⟨⟨by decide +kernel, by decide +kernel⟩, lw_t7 (List.mem_of_getElem? (i := 128) rfl), lw_t9 (List.mem_of_getElem? (i := 179) rfl), lw_t9 (List.mem_of_getElem? (i := 180) rfl)⟩
theorem lw_p65 : lw_okq (⟨"QueryHarborModel", "pays", "(I)V"⟩, 94) := ⟨⟨by decide +kernel, by decide +kernel⟩, lw_t7 (List.mem_of_getElem? (i := 128) rfl), lw_t9 (List.mem_of_getElem? (i := 183) rfl), lw_t9 (List.mem_of_getElem? (i := 184) rfl)⟩
theorem lw_p66 : lw_okq (⟨"QueryHarborModel", "comes", "(IIII)V"⟩, 94) := ⟨⟨by decide +kernel, by decide +kernel⟩, lw_t7 (List.mem_of_getElem? (i := 128) rfl), lw_t9 (List.mem_of_getElem? (i := 187) rfl), lw_t9 (List.mem_of_getElem? (i := 188) rfl)⟩
theorem lw_p67 : lw_okq (⟨"QueryHarborModel", "holdSent", "(II)Z"⟩, 94) := ⟨⟨by decide +kernel, by decide +kernel⟩, lw_t7 (List.mem_of_getElem? (i := 128) rfl), lw_t9 (List.mem_of_getElem? (i := 191) rfl), lw_t9 (List.mem_of_getElem? (i := 192) rfl)⟩
theorem lw_p68 : lw_okq (⟨"QueryHarborModel", "lays", "(II)V"⟩, 94) := ⟨⟨by decide +kernel, by decide +kernel⟩, lw_t7 (List.mem_of_getElem? (i := 128) rfl), lw_t9 (List.mem_of_getElem? (i := 195) rfl), lw_t9 (List.mem_of_getElem? (i := 196) rfl)⟩
theorem lw_p69 : lw_okq (⟨"QueryHarborModel", "scans", "(I)Z"⟩, 94) := ⟨⟨by decide +kernel, by decide +kernel⟩, lw_t7 (List.mem_of_getElem? (i := 128) rfl), lw_t9 (List.mem_of_getElem? (i := 199) rfl), lw_t9 (List.mem_of_getElem? (i := 200) rfl)⟩
theorem lw_p70 : lw_okq (⟨"QueryHarborModel", "remembers", "(I)V"⟩, 94) := ⟨⟨by decide +kernel, by decide +kernel⟩, lw_t7 (List.mem_of_getElem? (i := 128) rfl), lw_t9 (List.mem_of_getElem? (i := 203) rfl), lw_t9 (List.mem_of_getElem? (i := 204) rfl)⟩
theorem lw_p71 : lw_okq (⟨"QueryHarborModel", "makes", "(Z)V"⟩, 94) := ⟨⟨by decide +kernel, by decide +kernel⟩, lw_t7 (List.mem_of_getElem? (i := 128) rfl), lw_t9 (List.mem_of_getElem? (i := 207) rfl), lw_t9 (List.mem_of_getElem? (i := 208) rfl)⟩
theorem lw_p72 : lw_okq (⟨"QueryHarborModel", "laysRow", "(IZI)V"⟩, 94) := ⟨⟨by decide +kernel, by decide +kernel⟩, lw_t7 (List.mem_of_getElem? (i := 128) rfl), lw_t9 (List.mem_of_getElem? (i := 211) rfl), lw_t9 (List.mem_of_getElem? (i := 212) rfl)⟩
theorem lw_p73 : lw_okq (⟨"QueryHarborModel", "areLinked", "()Z"⟩, 94) := ⟨⟨by decide +kernel, by decide +kernel⟩, lw_t7 (List.mem_of_getElem? (i := 128) rfl), lw_t9 (List.mem_of_getElem? (i := 215) rfl), lw_t9 (List.mem_of_getElem? (i := 216) rfl)⟩
theorem lw_p74 : lw_okq (⟨"QueryHarborModel", "cellAt", "(II)I"⟩, 94) := ⟨⟨by decide +kernel, by decide +kernel⟩, lw_t7 (List.mem_of_getElem? (i := 128) rfl), lw_t9 (List.mem_of_getElem? (i := 219) rfl), lw_t9 (List.mem_of_getElem? (i := 220) rfl)⟩
theorem lw_p75 : lw_okq (⟨"QueryHarborModel", "addsToGroup", "()V"⟩, 94) := ⟨⟨by decide +kernel, by decide +kernel⟩, lw_t7 (List.mem_of_getElem? (i := 128) rfl), lw_t9 (List.mem_of_getElem? (i := 223) rfl), lw_t9 (List.mem_of_getElem? (i := 224) rfl)⟩
theorem lw_p76 : lw_okq (⟨"QueryHarborModel", "addsMatch", "()V"⟩, 94) := ⟨⟨by decide +kernel, by decide +kernel⟩, lw_t7 (List.mem_of_getElem? (i := 128) rfl), lw_t9 (List.mem_of_getElem? (i := 227) rfl), lw_t9 (List.mem_of_getElem? (i := 228) rfl)⟩
theorem lw_p77 : lw_okq (⟨"QueryHarborModel", "goesOn", "()Z"⟩, 94) := ⟨⟨by decide +kernel, by decide +kernel⟩, lw_t7 (List.mem_of_getElem? (i := 128) rfl), lw_t9 (List.mem_of_getElem? (i := 231) rfl), lw_t9 (List.mem_of_getElem? (i := 232) rfl)⟩
theorem lw_p78 : lw_okq (⟨"QueryHarborModel", "makesGroups", "()V"⟩, 94) := ⟨⟨by decide +kernel, by decide +kernel⟩, lw_t7 (List.mem_of_getElem? (i := 128) rfl), lw_t9 (List.mem_of_getElem? (i := 235) rfl), lw_t9 (List.mem_of_getElem? (i := 236) rfl)⟩
theorem lw_p79 : lw_okq (⟨"QueryHarborModel", "claimed", "()I"⟩, 94) := ⟨⟨by decide +kernel, by decide +kernel⟩, lw_t7 (List.mem_of_getElem? (i := 128) rfl), lw_t10 (List.mem_of_getElem? (i := 2) rfl), lw_t10 (List.mem_of_getElem? (i := 3) rfl)⟩
def lw_privs_5 : List (MethodName × Nat) := [(⟨"QueryHarborModel", "tries", "(IZ)I"⟩, 94), (⟨"QueryHarborModel", "pays", "(I)V"⟩, 94), (⟨"QueryHarborModel", "comes", "(IIII)V"⟩, 94), (⟨"QueryHarborModel", "holdSent", "(II)Z"⟩, 94), (⟨"QueryHarborModel", "lays", "(II)V"⟩, 94), (⟨"QueryHarborModel", "scans", "(I)Z"⟩, 94), (⟨"QueryHarborModel", "remembers", "(I)V"⟩, 94), (⟨"QueryHarborModel", "makes", "(Z)V"⟩, 94), (⟨"QueryHarborModel", "laysRow", "(IZI)V"⟩, 94), (⟨"QueryHarborModel", "areLinked", "()Z"⟩, 94), (⟨"QueryHarborModel", "cellAt", "(II)I"⟩, 94), (⟨"QueryHarborModel", "addsToGroup", "()V"⟩, 94), (⟨"QueryHarborModel", "addsMatch", "()V"⟩, 94), (⟨"QueryHarborModel", "goesOn", "()Z"⟩, 94), (⟨"QueryHarborModel", "makesGroups", "()V"⟩, 94), (⟨"QueryHarborModel", "claimed", "()I"⟩, 94)]
theorem lw_r5 : ∀ q ∈ lw_privs_5, lw_okq q := List.forall_mem_cons.mpr ⟨lw_p64, List.forall_mem_cons.mpr ⟨lw_p65, List.forall_mem_cons.mpr ⟨lw_p66, List.forall_mem_cons.mpr ⟨lw_p67, List.forall_mem_cons.mpr ⟨lw_p68, List.forall_mem_cons.mpr ⟨lw_p69, List.forall_mem_cons.mpr ⟨lw_p70, List.forall_mem_cons.mpr ⟨lw_p71, List.forall_mem_cons.mpr ⟨lw_p72, List.forall_mem_cons.mpr ⟨lw_p73, List.forall_mem_cons.mpr ⟨lw_p74, List.forall_mem_cons.mpr ⟨lw_p75, List.forall_mem_cons.mpr ⟨lw_p76, List.forall_mem_cons.mpr ⟨lw_p77, List.forall_mem_cons.mpr ⟨lw_p78, List.forall_mem_cons.mpr ⟨lw_p79, fun _ h => absurd h List.not_mem_nil⟩⟩⟩⟩⟩⟩⟩⟩⟩⟩⟩⟩⟩⟩⟩⟩
theorem lw_p80 : lw_okq (⟨"QueryHarborModel", "runs", "(I)I"⟩, 94) := ⟨⟨by decide +kernel, by decide +kernel⟩, lw_t7 (List.mem_of_getElem? (i := 128) rfl), lw_t10 (List.mem_of_getElem? (i := 62) rfl), lw_t10 (List.mem_of_getElem? (i := 63) rfl)⟩
theorem lw_p81 : lw_okq (⟨"QueryHarborModel", "canStep", "(I)Z"⟩, 94) := ⟨⟨by decide +kernel, by decide +kernel⟩, lw_t7 (List.mem_of_getElem? (i := 128) rfl), lw_t10 (List.mem_of_getElem? (i := 66) rfl), lw_t10 (List.mem_of_getElem? (i := 67) rfl)⟩
theorem lw_p82 : lw_okq (⟨"QueryHarborModel", "doesStep", "(I)V"⟩, 94) := ⟨⟨by decide +kernel, by decide +kernel⟩, lw_t7 (List.mem_of_getElem? (i := 128) rfl), lw_t10 (List.mem_of_getElem? (i := 70) rfl), lw_t10 (List.mem_of_getElem? (i := 71) rfl)⟩
theorem lw_p83 : lw_okq (⟨"QueryHarborModel", "takesBack", "(I)V"⟩, 94) := ⟨⟨by decide +kernel, by decide +kernel⟩, lw_t7 (List.mem_of_getElem? (i := 128) rfl), lw_t10 (List.mem_of_getElem? (i := 74) rfl), lw_t10 (List.mem_of_getElem? (i := 75) rfl)⟩
def lw_privs_6 : List (MethodName × Nat) := [(⟨"QueryHarborModel", "runs", "(I)I"⟩, 94), (⟨"QueryHarborModel", "canStep", "(I)Z"⟩, 94), (⟨"QueryHarborModel", "doesStep", "(I)V"⟩, 94), (⟨"QueryHarborModel", "takesBack", "(I)V"⟩, 94)]
theorem lw_r6 : ∀ q ∈ lw_privs_6, lw_okq q := List.forall_mem_cons.mpr ⟨lw_p80, List.forall_mem_cons.mpr ⟨lw_p81, List.forall_mem_cons.mpr ⟨lw_p82, List.forall_mem_cons.mpr ⟨lw_p83, fun _ h => absurd h List.not_mem_nil⟩⟩⟩⟩
def lw_privs : List (MethodName × Nat) := lw_privs_1 ++ (lw_privs_2 ++ (lw_privs_3 ++ (lw_privs_4 ++ (lw_privs_5 ++ (lw_privs_6)))))
def lw_tbl : List Cond := k2_sels lw_privs ++ tables_1
theorem lw_privs_ok : ∀ q ∈ lw_privs, lw_okq q := by
  show ∀ q ∈ lw_privs_1 ++ (lw_privs_2 ++ (lw_privs_3 ++ (lw_privs_4 ++ (lw_privs_5 ++ (lw_privs_6))))), lw_okq q
  exact List.forall_mem_append.mpr ⟨lw_r1, List.forall_mem_append.mpr ⟨lw_r2, List.forall_mem_append.mpr ⟨lw_r3, List.forall_mem_append.mpr ⟨lw_r4, List.forall_mem_append.mpr ⟨lw_r5, lw_r6⟩⟩⟩⟩⟩
-- ===== ONE list of words for every method: the tables' words that hold all through a run =====
def lw_all : List Cond := lw_tbl.filter goodWord
/-- a word of the tables by its place: claim/WORDS.tsv -/
theorem lw_w {w : Cond} (i : Nat) (h : lw_tbl[i]? = some w) (g : goodWord w = true) : w ∈ lw_all := List.mem_filter.mpr ⟨List.mem_of_getElem? h, g⟩
theorem lw_all_tbl {w : Cond} (h : w ∈ lw_all) : w ∈ lw_tbl := (List.mem_filter.mp h).1
theorem lw_self : GoodIn lw_all lw_all := fun w h => ⟨h, good_of_word (List.mem_filter.mp h).2⟩
/-- a class's field words, by their places -/
theorem lw_in (ws : List Cond) (ps : List Nat) (hp : ws = ps.filterMap (fun i => lw_tbl[i]?)) (hg : ws.all goodWord = true) : ∀ w ∈ ws, w ∈ lw_all := by
  intro w h
  have h1 := List.all_eq_true.mp hg w h
  rw [hp] at h
  obtain ⟨i, -, hi⟩ := List.mem_filterMap.mp h
  exact lw_w i hi h1
/-- the words of a contract for the method y with code b, L locals, answer r -/
abbrev ws_ (y : MethodName) (b : ByteArray) (L : Nat) (r : Option FieldType) : List Cond := Cond.code y b L r :: lw_all
theorem lw_meth {y : MethodName} {b : ByteArray} {L : Nat} {r : Option FieldType} (h : Cond.code y b L r ∈ lw_all) : GoodIn lw_all (ws_ y b L r) := by
  intro w hw
  rcases List.mem_cons.mp hw with e | e
  · rw [e]
    exact lw_self _ h
  · exact lw_self _ e
theorem lw_app {a c : List Cond} (ha : ∀ w ∈ a, w ∈ lw_all) (hc : GoodIn lw_all c) : GoodIn lw_all (a ++ c) := by
  intro w hw
  rcases List.mem_append.mp hw with e | e
  · exact lw_self w (ha w e)
  · exact hc w e
/-- what a call through an object asks: cwV n hts (lw_V ..) -/
theorem lw_V {own : String} {idx : Nat} {C : String} {y : MethodName} {b : ByteArray} {L : Nat} {r : Option FieldType} (h1 : Cond.methodLink own idx y ∈ lw_all) (h2 : Cond.instanceMethod y ∈ lw_all) (h3 : Cond.selects C y y ∈ lw_all) (h4 : Cond.initialized C ∈ lw_all) (h5 : Cond.code y b L r ∈ lw_all) : GoodIn lw_all (wsV own idx C y (ws_ y b L r)) := by
  refine lw_app ?_ (lw_meth h5)
  intro w hw
  simp only [List.mem_cons, List.not_mem_nil, or_false] at hw
  rcases hw with e | e | e | e
  · rw [e]; exact h1
  · rw [e]; exact h2
  · rw [e]; exact h3
  · rw [e]; exact h4
/-- what a static call asks: va_cwS n hts (lw_S ..) -/
theorem lw_S {own : String} {idx : Nat} {y : MethodName} {b : ByteArray} {L : Nat} {r : Option FieldType} (h1 : Cond.methodLink own idx y ∈ lw_all) (h2 : Cond.static y ∈ lw_all) (h3 : Cond.initialized y.cls ∈ lw_all) (h4 : Cond.code y b L r ∈ lw_all) : GoodIn lw_all (va_wsS own idx y (ws_ y b L r)) := by
  refine lw_app ?_ (lw_meth h4)
  intro w hw
  simp only [List.mem_cons, List.not_mem_nil, or_false] at hw
  rcases hw with e | e | e
  · rw [e]; exact h1
  · rw [e]; exact h2
  · rw [e]; exact h3
/-- the words of a contract for a method WITH HANDLERS (hh: its table) -/
abbrev wsW_ (y : MethodName) (b : ByteArray) (L : Nat) (r : Option FieldType) (hh : List (Nat × Nat × Nat × Nat)) : List Cond := Cond.codeWith y b L r hh :: lw_all
theorem lw_methW {y : MethodName} {b : ByteArray} {L : Nat} {r : Option FieldType} {hh : List (Nat × Nat × Nat × Nat)} (h : Cond.codeWith y b L r hh ∈ lw_all) : GoodIn lw_all (wsW_ y b L r hh) := by
  intro w hw
  rcases List.mem_cons.mp hw with e | e
  · rw [e]
    exact lw_self _ h
  · exact lw_self _ e
/-- any list of words by their places (lw_in), good -/
theorem lw_good {ws : List Cond} (h : ∀ w ∈ ws, w ∈ lw_all) : GoodIn lw_all ws := fun w hw => lw_self w (h w hw)
/-- what a call of a method with handlers asks: vx_cwVW n hts (lw_VW ..), vx_cwSW n hts (lw_SW ..) -/
theorem lw_VW {own : String} {idx : Nat} {C : String} {y : MethodName} {b : ByteArray} {L : Nat} {r : Option FieldType} {hh : List (Nat × Nat × Nat × Nat)} (h1 : Cond.methodLink own idx y ∈ lw_all) (h2 : Cond.instanceMethod y ∈ lw_all) (h3 : Cond.selects C y y ∈ lw_all) (h4 : Cond.initialized C ∈ lw_all) (h5 : Cond.codeWith y b L r hh ∈ lw_all) : GoodIn lw_all (wsV own idx C y (wsW_ y b L r hh)) := by
  refine lw_app ?_ (lw_methW h5)
  intro w hw
  simp only [List.mem_cons, List.not_mem_nil, or_false] at hw
  rcases hw with e | e | e | e
  · rw [e]; exact h1
  · rw [e]; exact h2
  · rw [e]; exact h3
  · rw [e]; exact h4
theorem lw_SW {own : String} {idx : Nat} {y : MethodName} {b : ByteArray} {L : Nat} {r : Option FieldType} {hh : List (Nat × Nat × Nat × Nat)} (h1 : Cond.methodLink own idx y ∈ lw_all) (h2 : Cond.static y ∈ lw_all) (h3 : Cond.initialized y.cls ∈ lw_all) (h4 : Cond.codeWith y b L r hh ∈ lw_all) : GoodIn lw_all (va_wsS own idx y (wsW_ y b L r hh)) := by
  refine lw_app ?_ (lw_methW h4)
  intro w hw
  simp only [List.mem_cons, List.not_mem_nil, or_false] at hw
  rcases hw with e | e | e
  · rw [e]; exact h1
  · rw [e]; exact h2
  · rw [e]; exact h3
/-- a word by its place in its run of the tables -/
theorem lw_at {r : List Cond} (hr : ∀ w ∈ r, w ∈ lw_tbl) {w : Cond} (i : Nat) (h : r[i]? = some w) : w ∈ lw_tbl := hr w (List.mem_of_getElem? h)
theorem lw_g {w : Cond} (h : w ∈ lw_tbl) (g : goodWord w = true) : w ∈ lw_all := List.mem_filter.mpr ⟨h, g⟩
theorem lw_ms : ∀ w ∈ k2_sels lw_privs, w ∈ lw_tbl := fun w h => show w ∈ k2_sels lw_privs ++ tables_1 from List.mem_append_left _ h
theorem lw_m1 : ∀ w ∈ tables_1_1, w ∈ lw_tbl := fun w h => show w ∈ k2_sels lw_privs ++ tables_1 from List.mem_append_right (k2_sels lw_privs) (show w ∈ tables_1 from List.mem_append_left _ h)
theorem lw_m2 : ∀ w ∈ tables_1_2, w ∈ lw_tbl := fun w h => show w ∈ k2_sels lw_privs ++ tables_1 from List.mem_append_right (k2_sels lw_privs) (show w ∈ tables_1 from List.mem_append_right _ (List.mem_append_left _ h))
theorem lw_m3 : ∀ w ∈ tables_1_3, w ∈ lw_tbl := fun w h => show w ∈ k2_sels lw_privs ++ tables_1 from List.mem_append_right (k2_sels lw_privs) (show w ∈ tables_1 from List.mem_append_right _ (List.mem_append_right _ (List.mem_append_left _ h)))
theorem lw_m4 : ∀ w ∈ tables_1_4, w ∈ lw_tbl := fun w h => show w ∈ k2_sels lw_privs ++ tables_1 from List.mem_append_right (k2_sels lw_privs) (show w ∈ tables_1 from List.mem_append_right _ (List.mem_append_right _ (List.mem_append_right _ (List.mem_append_left _ h))))
theorem lw_m5 : ∀ w ∈ tables_1_5, w ∈ lw_tbl := fun w h => show w ∈ k2_sels lw_privs ++ tables_1 from List.mem_append_right (k2_sels lw_privs) (show w ∈ tables_1 from List.mem_append_right _ (List.mem_append_right _ (List.mem_append_right _ (List.mem_append_right _ (List.mem_append_left _ h)))))
theorem lw_m6 : ∀ w ∈ tables_1_6, w ∈ lw_tbl := fun w h => show w ∈ k2_sels lw_privs ++ tables_1 from List.mem_append_right (k2_sels lw_privs) (show w ∈ tables_1 from List.mem_append_right _ (List.mem_append_right _ (List.mem_append_right _ (List.mem_append_right _ (List.mem_append_right _ (List.mem_append_left _ h))))))
theorem lw_m7 : ∀ w ∈ tables_1_7, w ∈ lw_tbl := fun w h => show w ∈ k2_sels lw_privs ++ tables_1 from List.mem_append_right (k2_sels lw_privs) (show w ∈ tables_1 from List.mem_append_right _ (List.mem_append_right _ (List.mem_append_right _ (List.mem_append_right _ (List.mem_append_right _ (List.mem_append_right _ (List.mem_append_left _ h)))))))
theorem lw_m8 : ∀ w ∈ tables_1_8, w ∈ lw_tbl := fun w h => show w ∈ k2_sels lw_privs ++ tables_1 from List.mem_append_right (k2_sels lw_privs) (show w ∈ tables_1 from List.mem_append_right _ (List.mem_append_right _ (List.mem_append_right _ (List.mem_append_right _ (List.mem_append_right _ (List.mem_append_right _ (List.mem_append_right _ (List.mem_append_left _ h))))))))
theorem lw_m9 : ∀ w ∈ tables_1_9, w ∈ lw_tbl := fun w h => show w ∈ k2_sels lw_privs ++ tables_1 from List.mem_append_right (k2_sels lw_privs) (show w ∈ tables_1 from List.mem_append_right _ (List.mem_append_right _ (List.mem_append_right _ (List.mem_append_right _ (List.mem_append_right _ (List.mem_append_right _ (List.mem_append_right _ (List.mem_append_right _ (List.mem_append_left _ h)))))))))
theorem lw_m10 : ∀ w ∈ tables_1_10, w ∈ lw_tbl := fun w h => show w ∈ k2_sels lw_privs ++ tables_1 from List.mem_append_right (k2_sels lw_privs) (show w ∈ tables_1 from List.mem_append_right _ (List.mem_append_right _ (List.mem_append_right _ (List.mem_append_right _ (List.mem_append_right _ (List.mem_append_right _ (List.mem_append_right _ (List.mem_append_right _ (List.mem_append_right _ h)))))))))
theorem qs0 : (Cond.selects "java/lang/Throwable" ⟨"java/lang/Throwable", "fillInStackTrace", "(I)Ljava/lang/Throwable;"⟩ ⟨"java/lang/Throwable", "fillInStackTrace", "(I)Ljava/lang/Throwable;"⟩) ∈ lw_all := lw_g (lw_at lw_ms 0 rfl) rfl
theorem qs1 : (Cond.selects "QueryHarbor" ⟨"QueryHarbor", "sourceAt", "(I)LQueryHarbor$Source;"⟩ ⟨"QueryHarbor", "sourceAt", "(I)LQueryHarbor$Source;"⟩) ∈ lw_all := lw_g (lw_at lw_ms 1 rfl) rfl
theorem qs2 : (Cond.selects "java/util/ArrayList" ⟨"java/util/ArrayList", "rangeCheckForAdd", "(I)V"⟩ ⟨"java/util/ArrayList", "rangeCheckForAdd", "(I)V"⟩) ∈ lw_all := lw_g (lw_at lw_ms 2 rfl) rfl
theorem qs3 : (Cond.selects "java/util/ArrayList" ⟨"java/util/ArrayList", "outOfBoundsMsg", "(I)Ljava/lang/String;"⟩ ⟨"java/util/ArrayList", "outOfBoundsMsg", "(I)Ljava/lang/String;"⟩) ∈ lw_all := lw_g (lw_at lw_ms 3 rfl) rfl
theorem qs4 : (Cond.selects "java/util/ArrayList" ⟨"java/util/ArrayList", "grow", "()[Ljava/lang/Object;"⟩ ⟨"java/util/ArrayList", "grow", "()[Ljava/lang/Object;"⟩) ∈ lw_all := lw_g (lw_at lw_ms 4 rfl) rfl
theorem qs5 : (Cond.selects "java/util/ArrayList" ⟨"java/util/ArrayList", "grow", "(I)[Ljava/lang/Object;"⟩ ⟨"java/util/ArrayList", "grow", "(I)[Ljava/lang/Object;"⟩) ∈ lw_all := lw_g (lw_at lw_ms 5 rfl) rfl
theorem qs6 : (Cond.selects "QueryHarbor" ⟨"QueryHarbor", "written", "(LQueryHarbor$Source;)V"⟩ ⟨"QueryHarbor", "written", "(LQueryHarbor$Source;)V"⟩) ∈ lw_all := lw_g (lw_at lw_ms 6 rfl) rfl
theorem qs7 : (Cond.selects "java/util/ArrayList" ⟨"java/util/ArrayList", "add", "(Ljava/lang/Object;[Ljava/lang/Object;I)V"⟩ ⟨"java/util/ArrayList", "add", "(Ljava/lang/Object;[Ljava/lang/Object;I)V"⟩) ∈ lw_all := lw_g (lw_at lw_ms 7 rfl) rfl
theorem qs8 : (Cond.selects "QueryHarbor" ⟨"QueryHarbor", "goTo", "(I)V"⟩ ⟨"QueryHarbor", "goTo", "(I)V"⟩) ∈ lw_all := lw_g (lw_at lw_ms 8 rfl) rfl
theorem qs9 : (Cond.selects "java/util/ArrayList" ⟨"java/util/ArrayList", "fastRemove", "([Ljava/lang/Object;I)V"⟩ ⟨"java/util/ArrayList", "fastRemove", "([Ljava/lang/Object;I)V"⟩) ∈ lw_all := lw_g (lw_at lw_ms 9 rfl) rfl
theorem qs10 : (Cond.selects "QueryHarbor" ⟨"QueryHarbor", "drop", "(LQueryHarbor$Message;)V"⟩ ⟨"QueryHarbor", "drop", "(LQueryHarbor$Message;)V"⟩) ∈ lw_all := lw_g (lw_at lw_ms 10 rfl) rfl
theorem qs11 : (Cond.selects "QueryHarbor" ⟨"QueryHarbor", "replace", "(LQueryHarbor$Source;LQueryHarbor$Row;)V"⟩ ⟨"QueryHarbor", "replace", "(LQueryHarbor$Source;LQueryHarbor$Row;)V"⟩) ∈ lw_all := lw_g (lw_at lw_ms 11 rfl) rfl
theorem qs12 : (Cond.selects "QueryHarbor" ⟨"QueryHarbor", "lineAt", "(I)LQueryHarbor$Line;"⟩ ⟨"QueryHarbor", "lineAt", "(I)LQueryHarbor$Line;"⟩) ∈ lw_all := lw_g (lw_at lw_ms 12 rfl) rfl
theorem qs13 : (Cond.selects "QueryHarbor" ⟨"QueryHarbor", "knownColumn", "(II)V"⟩ ⟨"QueryHarbor", "knownColumn", "(II)V"⟩) ∈ lw_all := lw_g (lw_at lw_ms 13 rfl) rfl
theorem qs14 : (Cond.selects "QueryHarbor" ⟨"QueryHarbor", "seatAt", "(I)LQueryHarbor$Source;"⟩ ⟨"QueryHarbor", "seatAt", "(I)LQueryHarbor$Source;"⟩) ∈ lw_all := lw_g (lw_at lw_ms 14 rfl) rfl
theorem qs15 : (Cond.selects "QueryHarbor" ⟨"QueryHarbor", "next", "([LQueryHarbor$Seat;)LQueryHarbor$Seat;"⟩ ⟨"QueryHarbor", "next", "([LQueryHarbor$Seat;)LQueryHarbor$Seat;"⟩) ∈ lw_all := lw_g (lw_at lw_ms 15 rfl) rfl
theorem qs16 : (Cond.selects "QueryHarbor" ⟨"QueryHarbor", "linkOf", "(LQueryHarbor$Seat;[LQueryHarbor$Seat;)LQueryHarbor$Link;"⟩ ⟨"QueryHarbor", "linkOf", "(LQueryHarbor$Seat;[LQueryHarbor$Seat;)LQueryHarbor$Link;"⟩) ∈ lw_all := lw_g (lw_at lw_ms 16 rfl) rfl
theorem qs17 : (Cond.selects "QueryHarbor" ⟨"QueryHarbor", "take", "(LQueryHarbor$Seat;[LQueryHarbor$Seat;III)V"⟩ ⟨"QueryHarbor", "take", "(LQueryHarbor$Seat;[LQueryHarbor$Seat;III)V"⟩) ∈ lw_all := lw_g (lw_at lw_ms 17 rfl) rfl
theorem qs18 : (Cond.selects "QueryHarbor" ⟨"QueryHarbor", "entryFor", "(LQueryHarbor$Seat;I)LQueryHarbor$Entry;"⟩ ⟨"QueryHarbor", "entryFor", "(LQueryHarbor$Seat;I)LQueryHarbor$Entry;"⟩) ∈ lw_all := lw_g (lw_at lw_ms 18 rfl) rfl
theorem qs19 : (Cond.selects "QueryHarbor" ⟨"QueryHarbor", "bind", "(LQueryHarbor$Seat;LQueryHarbor$Seat;LQueryHarbor$Link;II)Z"⟩ ⟨"QueryHarbor", "bind", "(LQueryHarbor$Seat;LQueryHarbor$Seat;LQueryHarbor$Link;II)Z"⟩) ∈ lw_all := lw_g (lw_at lw_ms 19 rfl) rfl
theorem qs20 : (Cond.selects "QueryHarbor" ⟨"QueryHarbor", "ship", "(LQueryHarbor$Seat;ILjava/util/ArrayList;IIII)V"⟩ ⟨"QueryHarbor", "ship", "(LQueryHarbor$Seat;ILjava/util/ArrayList;IIII)V"⟩) ∈ lw_all := lw_g (lw_at lw_ms 20 rfl) rfl
theorem qs21 : (Cond.selects "QueryHarbor" ⟨"QueryHarbor", "request", "(LQueryHarbor$Line;IILQueryHarbor$Answer;)V"⟩ ⟨"QueryHarbor", "request", "(LQueryHarbor$Line;IILQueryHarbor$Answer;)V"⟩) ∈ lw_all := lw_g (lw_at lw_ms 21 rfl) rfl
theorem qs22 : (Cond.selects "QueryHarbor" ⟨"QueryHarbor", "attempt", "(LQueryHarbor$Line;IILQueryHarbor$Answer;)V"⟩ ⟨"QueryHarbor", "attempt", "(LQueryHarbor$Line;IILQueryHarbor$Answer;)V"⟩) ∈ lw_all := lw_g (lw_at lw_ms 22 rfl) rfl
theorem qs23 : (Cond.selects "QueryHarbor" ⟨"QueryHarbor", "scan", "(LQueryHarbor$Seat;II)V"⟩ ⟨"QueryHarbor", "scan", "(LQueryHarbor$Seat;II)V"⟩) ∈ lw_all := lw_g (lw_at lw_ms 23 rfl) rfl
theorem qs24 : (Cond.selects "QueryHarbor" ⟨"QueryHarbor", "walk", "(Ljava/util/ArrayList;LQueryHarbor$Answer;)V"⟩ ⟨"QueryHarbor", "walk", "(Ljava/util/ArrayList;LQueryHarbor$Answer;)V"⟩) ∈ lw_all := lw_g (lw_at lw_ms 24 rfl) rfl
theorem qs25 : (Cond.selects "QueryHarbor" ⟨"QueryHarbor", "step", "(Ljava/util/ArrayList;[LQueryHarbor$Row;ILQueryHarbor$Answer;)V"⟩ ⟨"QueryHarbor", "step", "(Ljava/util/ArrayList;[LQueryHarbor$Row;ILQueryHarbor$Answer;)V"⟩) ∈ lw_all := lw_g (lw_at lw_ms 25 rfl) rfl
theorem qs26 : (Cond.selects "QueryHarbor" ⟨"QueryHarbor", "tell", "([LQueryHarbor$Row;LQueryHarbor$Answer;)V"⟩ ⟨"QueryHarbor", "tell", "([LQueryHarbor$Row;LQueryHarbor$Answer;)V"⟩) ∈ lw_all := lw_g (lw_at lw_ms 26 rfl) rfl
theorem qs27 : (Cond.selects "QueryHarbor" ⟨"QueryHarbor", "areLinked", "([LQueryHarbor$Row;I)Z"⟩ ⟨"QueryHarbor", "areLinked", "([LQueryHarbor$Row;I)Z"⟩) ∈ lw_all := lw_g (lw_at lw_ms 27 rfl) rfl
theorem qs28 : (Cond.selects "QueryHarbor" ⟨"QueryHarbor", "cut", "(LQueryHarbor$Answer;)V"⟩ ⟨"QueryHarbor", "cut", "(LQueryHarbor$Answer;)V"⟩) ∈ lw_all := lw_g (lw_at lw_ms 28 rfl) rfl
theorem qs29 : (Cond.selects "QueryHarbor" ⟨"QueryHarbor", "cellOf", "(LQueryHarbor$Answer;II)I"⟩ ⟨"QueryHarbor", "cellOf", "(LQueryHarbor$Answer;II)I"⟩) ∈ lw_all := lw_g (lw_at lw_ms 29 rfl) rfl
theorem qs30 : (Cond.selects "QueryHarbor" ⟨"QueryHarbor", "anew", "()LQueryHarbor$Answer;"⟩ ⟨"QueryHarbor", "anew", "()LQueryHarbor$Answer;"⟩) ∈ lw_all := lw_g (lw_at lw_ms 30 rfl) rfl
theorem qs31 : (Cond.selects "QueryHarbor" ⟨"QueryHarbor", "isDone", "([ILjava/util/ArrayList;)Z"⟩ ⟨"QueryHarbor", "isDone", "([ILjava/util/ArrayList;)Z"⟩) ∈ lw_all := lw_g (lw_at lw_ms 31 rfl) rfl
theorem qs32 : (Cond.selects "QueryHarbor" ⟨"QueryHarbor", "done", "([I)LQueryHarbor$Done;"⟩ ⟨"QueryHarbor", "done", "([I)LQueryHarbor$Done;"⟩) ∈ lw_all := lw_g (lw_at lw_ms 32 rfl) rfl
theorem qs33 : (Cond.selects "QueryHarborModel" ⟨"QueryHarborModel", "canAdd", "(IIIII)I"⟩ ⟨"QueryHarborModel", "canAdd", "(IIIII)I"⟩) ∈ lw_all := lw_g (lw_at lw_ms 33 rfl) rfl
theorem qs34 : (Cond.selects "QueryHarborModel" ⟨"QueryHarborModel", "placeOf", "(II)I"⟩ ⟨"QueryHarborModel", "placeOf", "(II)I"⟩) ∈ lw_all := lw_g (lw_at lw_ms 34 rfl) rfl
theorem qs35 : (Cond.selects "QueryHarborModel" ⟨"QueryHarborModel", "adds", "(IIIII)I"⟩ ⟨"QueryHarborModel", "adds", "(IIIII)I"⟩) ∈ lw_all := lw_g (lw_at lw_ms 35 rfl) rfl
theorem qs36 : (Cond.selects "QueryHarborModel" ⟨"QueryHarborModel", "kept", "(III)I"⟩ ⟨"QueryHarborModel", "kept", "(III)I"⟩) ∈ lw_all := lw_g (lw_at lw_ms 36 rfl) rfl
theorem qs37 : (Cond.selects "QueryHarborModel" ⟨"QueryHarborModel", "inserts", "(IIIIII)V"⟩ ⟨"QueryHarborModel", "inserts", "(IIIIII)V"⟩) ∈ lw_all := lw_g (lw_at lw_ms 37 rfl) rfl
theorem qs38 : (Cond.selects "QueryHarborModel" ⟨"QueryHarborModel", "writes", "(I)V"⟩ ⟨"QueryHarborModel", "writes", "(I)V"⟩) ∈ lw_all := lw_g (lw_at lw_ms 38 rfl) rfl
theorem qs39 : (Cond.selects "QueryHarborModel" ⟨"QueryHarborModel", "drops", "()V"⟩ ⟨"QueryHarborModel", "drops", "()V"⟩) ∈ lw_all := lw_g (lw_at lw_ms 39 rfl) rfl
theorem qs40 : (Cond.selects "QueryHarborModel" ⟨"QueryHarborModel", "moves", "(II)V"⟩ ⟨"QueryHarborModel", "moves", "(II)V"⟩) ∈ lw_all := lw_g (lw_at lw_ms 40 rfl) rfl
theorem qs41 : (Cond.selects "QueryHarborModel" ⟨"QueryHarborModel", "canChange", "(IIII)I"⟩ ⟨"QueryHarborModel", "canChange", "(IIII)I"⟩) ∈ lw_all := lw_g (lw_at lw_ms 41 rfl) rfl
theorem qs42 : (Cond.selects "QueryHarborModel" ⟨"QueryHarborModel", "puts", "(IIII)I"⟩ ⟨"QueryHarborModel", "puts", "(IIII)I"⟩) ∈ lw_all := lw_g (lw_at lw_ms 42 rfl) rfl
theorem qs43 : (Cond.selects "QueryHarborModel" ⟨"QueryHarborModel", "takesOut", "(II)V"⟩ ⟨"QueryHarborModel", "takesOut", "(II)V"⟩) ∈ lw_all := lw_g (lw_at lw_ms 43 rfl) rfl
theorem qs44 : (Cond.selects "QueryHarborModel" ⟨"QueryHarborModel", "isForbidden", "(II)Z"⟩ ⟨"QueryHarborModel", "isForbidden", "(II)Z"⟩) ∈ lw_all := lw_g (lw_at lw_ms 44 rfl) rfl
theorem qs45 : (Cond.selects "QueryHarborModel" ⟨"QueryHarborModel", "goes", "(I)V"⟩ ⟨"QueryHarborModel", "goes", "(I)V"⟩) ∈ lw_all := lw_g (lw_at lw_ms 45 rfl) rfl
theorem qs46 : (Cond.selects "QueryHarborModel" ⟨"QueryHarborModel", "isSeatColumn", "(II)Z"⟩ ⟨"QueryHarborModel", "isSeatColumn", "(II)Z"⟩) ∈ lw_all := lw_g (lw_at lw_ms 46 rfl) rfl
theorem qs47 : (Cond.selects "QueryHarborModel" ⟨"QueryHarborModel", "isSeat", "(I)Z"⟩ ⟨"QueryHarborModel", "isSeat", "(I)Z"⟩) ∈ lw_all := lw_g (lw_at lw_ms 47 rfl) rfl
theorem qs48 : (Cond.selects "QueryHarborModel" ⟨"QueryHarborModel", "isDrafted", "()Z"⟩ ⟨"QueryHarborModel", "isDrafted", "()Z"⟩) ∈ lw_all := lw_g (lw_at lw_ms 48 rfl) rfl
theorem qs49 : (Cond.selects "QueryHarborModel" ⟨"QueryHarborModel", "nextSeat", "()I"⟩ ⟨"QueryHarborModel", "nextSeat", "()I"⟩) ∈ lw_all := lw_g (lw_at lw_ms 49 rfl) rfl
theorem qs50 : (Cond.selects "QueryHarborModel" ⟨"QueryHarborModel", "linkOf", "(I)I"⟩ ⟨"QueryHarborModel", "linkOf", "(I)I"⟩) ∈ lw_all := lw_g (lw_at lw_ms 50 rfl) rfl
theorem qs51 : (Cond.selects "QueryHarborModel" ⟨"QueryHarborModel", "guess", "(I)I"⟩ ⟨"QueryHarborModel", "guess", "(I)I"⟩) ∈ lw_all := lw_g (lw_at lw_ms 51 rfl) rfl
theorem qs52 : (Cond.selects "QueryHarborModel" ⟨"QueryHarborModel", "manySent", "(I)I"⟩ ⟨"QueryHarborModel", "manySent", "(I)I"⟩) ∈ lw_all := lw_g (lw_at lw_ms 52 rfl) rfl
theorem qs53 : (Cond.selects "QueryHarborModel" ⟨"QueryHarborModel", "isSent", "(II)Z"⟩ ⟨"QueryHarborModel", "isSent", "(II)Z"⟩) ∈ lw_all := lw_g (lw_at lw_ms 53 rfl) rfl
theorem qs54 : (Cond.selects "QueryHarborModel" ⟨"QueryHarborModel", "takes", "(I)V"⟩ ⟨"QueryHarborModel", "takes", "(I)V"⟩) ∈ lw_all := lw_g (lw_at lw_ms 54 rfl) rfl
theorem qs55 : (Cond.selects "QueryHarborModel" ⟨"QueryHarborModel", "entryFor", "(I)I"⟩ ⟨"QueryHarborModel", "entryFor", "(I)I"⟩) ∈ lw_all := lw_g (lw_at lw_ms 55 rfl) rfl
theorem qs56 : (Cond.selects "QueryHarborModel" ⟨"QueryHarborModel", "canServe", "(II)Z"⟩ ⟨"QueryHarborModel", "canServe", "(II)Z"⟩) ∈ lw_all := lw_g (lw_at lw_ms 56 rfl) rfl
theorem qs57 : (Cond.selects "QueryHarborModel" ⟨"QueryHarborModel", "serves", "(II)V"⟩ ⟨"QueryHarborModel", "serves", "(II)V"⟩) ∈ lw_all := lw_g (lw_at lw_ms 57 rfl) rfl
theorem qs58 : (Cond.selects "QueryHarborModel" ⟨"QueryHarborModel", "canBind", "(II)Z"⟩ ⟨"QueryHarborModel", "canBind", "(II)Z"⟩) ∈ lw_all := lw_g (lw_at lw_ms 58 rfl) rfl
theorem qs59 : (Cond.selects "QueryHarborModel" ⟨"QueryHarborModel", "laysKeys", "(II)V"⟩ ⟨"QueryHarborModel", "laysKeys", "(II)V"⟩) ∈ lw_all := lw_g (lw_at lw_ms 59 rfl) rfl
theorem qs60 : (Cond.selects "QueryHarborModel" ⟨"QueryHarborModel", "holdHere", "(II)Z"⟩ ⟨"QueryHarborModel", "holdHere", "(II)Z"⟩) ∈ lw_all := lw_g (lw_at lw_ms 60 rfl) rfl
theorem qs61 : (Cond.selects "QueryHarborModel" ⟨"QueryHarborModel", "isKey", "(III)Z"⟩ ⟨"QueryHarborModel", "isKey", "(III)Z"⟩) ∈ lw_all := lw_g (lw_at lw_ms 61 rfl) rfl
theorem qs62 : (Cond.selects "QueryHarborModel" ⟨"QueryHarborModel", "binds", "(II)I"⟩ ⟨"QueryHarborModel", "binds", "(II)I"⟩) ∈ lw_all := lw_g (lw_at lw_ms 62 rfl) rfl
theorem qs63 : (Cond.selects "QueryHarborModel" ⟨"QueryHarborModel", "requests", "(I)Z"⟩ ⟨"QueryHarborModel", "requests", "(I)Z"⟩) ∈ lw_all := lw_g (lw_at lw_ms 63 rfl) rfl
theorem qs64 : (Cond.selects "QueryHarborModel" ⟨"QueryHarborModel", "tries", "(IZ)I"⟩ ⟨"QueryHarborModel", "tries", "(IZ)I"⟩) ∈ lw_all := lw_g (lw_at lw_ms 64 rfl) rfl
theorem qs65 : (Cond.selects "QueryHarborModel" ⟨"QueryHarborModel", "pays", "(I)V"⟩ ⟨"QueryHarborModel", "pays", "(I)V"⟩) ∈ lw_all := lw_g (lw_at lw_ms 65 rfl) rfl
theorem qs66 : (Cond.selects "QueryHarborModel" ⟨"QueryHarborModel", "comes", "(IIII)V"⟩ ⟨"QueryHarborModel", "comes", "(IIII)V"⟩) ∈ lw_all := lw_g (lw_at lw_ms 66 rfl) rfl
theorem qs67 : (Cond.selects "QueryHarborModel" ⟨"QueryHarborModel", "holdSent", "(II)Z"⟩ ⟨"QueryHarborModel", "holdSent", "(II)Z"⟩) ∈ lw_all := lw_g (lw_at lw_ms 67 rfl) rfl
theorem qs68 : (Cond.selects "QueryHarborModel" ⟨"QueryHarborModel", "lays", "(II)V"⟩ ⟨"QueryHarborModel", "lays", "(II)V"⟩) ∈ lw_all := lw_g (lw_at lw_ms 68 rfl) rfl
theorem qs69 : (Cond.selects "QueryHarborModel" ⟨"QueryHarborModel", "scans", "(I)Z"⟩ ⟨"QueryHarborModel", "scans", "(I)Z"⟩) ∈ lw_all := lw_g (lw_at lw_ms 69 rfl) rfl
theorem qs70 : (Cond.selects "QueryHarborModel" ⟨"QueryHarborModel", "remembers", "(I)V"⟩ ⟨"QueryHarborModel", "remembers", "(I)V"⟩) ∈ lw_all := lw_g (lw_at lw_ms 70 rfl) rfl
theorem qs71 : (Cond.selects "QueryHarborModel" ⟨"QueryHarborModel", "makes", "(Z)V"⟩ ⟨"QueryHarborModel", "makes", "(Z)V"⟩) ∈ lw_all := lw_g (lw_at lw_ms 71 rfl) rfl
theorem qs72 : (Cond.selects "QueryHarborModel" ⟨"QueryHarborModel", "laysRow", "(IZI)V"⟩ ⟨"QueryHarborModel", "laysRow", "(IZI)V"⟩) ∈ lw_all := lw_g (lw_at lw_ms 72 rfl) rfl
theorem qs73 : (Cond.selects "QueryHarborModel" ⟨"QueryHarborModel", "areLinked", "()Z"⟩ ⟨"QueryHarborModel", "areLinked", "()Z"⟩) ∈ lw_all := lw_g (lw_at lw_ms 73 rfl) rfl
theorem qs74 : (Cond.selects "QueryHarborModel" ⟨"QueryHarborModel", "cellAt", "(II)I"⟩ ⟨"QueryHarborModel", "cellAt", "(II)I"⟩) ∈ lw_all := lw_g (lw_at lw_ms 74 rfl) rfl
theorem qs75 : (Cond.selects "QueryHarborModel" ⟨"QueryHarborModel", "addsToGroup", "()V"⟩ ⟨"QueryHarborModel", "addsToGroup", "()V"⟩) ∈ lw_all := lw_g (lw_at lw_ms 75 rfl) rfl
theorem qs76 : (Cond.selects "QueryHarborModel" ⟨"QueryHarborModel", "addsMatch", "()V"⟩ ⟨"QueryHarborModel", "addsMatch", "()V"⟩) ∈ lw_all := lw_g (lw_at lw_ms 76 rfl) rfl
theorem qs77 : (Cond.selects "QueryHarborModel" ⟨"QueryHarborModel", "goesOn", "()Z"⟩ ⟨"QueryHarborModel", "goesOn", "()Z"⟩) ∈ lw_all := lw_g (lw_at lw_ms 77 rfl) rfl
theorem qs78 : (Cond.selects "QueryHarborModel" ⟨"QueryHarborModel", "makesGroups", "()V"⟩ ⟨"QueryHarborModel", "makesGroups", "()V"⟩) ∈ lw_all := lw_g (lw_at lw_ms 78 rfl) rfl
theorem qs79 : (Cond.selects "QueryHarborModel" ⟨"QueryHarborModel", "claimed", "()I"⟩ ⟨"QueryHarborModel", "claimed", "()I"⟩) ∈ lw_all := lw_g (lw_at lw_ms 79 rfl) rfl
theorem qs80 : (Cond.selects "QueryHarborModel" ⟨"QueryHarborModel", "runs", "(I)I"⟩ ⟨"QueryHarborModel", "runs", "(I)I"⟩) ∈ lw_all := lw_g (lw_at lw_ms 80 rfl) rfl
theorem qs81 : (Cond.selects "QueryHarborModel" ⟨"QueryHarborModel", "canStep", "(I)Z"⟩ ⟨"QueryHarborModel", "canStep", "(I)Z"⟩) ∈ lw_all := lw_g (lw_at lw_ms 81 rfl) rfl
theorem qs82 : (Cond.selects "QueryHarborModel" ⟨"QueryHarborModel", "doesStep", "(I)V"⟩ ⟨"QueryHarborModel", "doesStep", "(I)V"⟩) ∈ lw_all := lw_g (lw_at lw_ms 82 rfl) rfl
theorem qs83 : (Cond.selects "QueryHarborModel" ⟨"QueryHarborModel", "takesBack", "(I)V"⟩ ⟨"QueryHarborModel", "takesBack", "(I)V"⟩) ∈ lw_all := lw_g (lw_at lw_ms 83 rfl) rfl
