-- ===== PART A: goes FIRST, ahead of the names: the tables' words, and 'selects' of the private methods out of them =====
/-- a private method of a class that the tables say can be made, by its rows of tables_1 -/
def lw_okq (q : MethodName × Nat) : Prop := (q.1.cls ≠ "java/lang/invoke/MethodHandle" ∧ q.1.cls ≠ "java/lang/invoke/VarHandle") ∧ Cond.instantiable q.1.cls q.2 ∈ tables_1 ∧ Cond.privateMethod q.1 ∈ tables_1 ∧ Cond.instanceMethod q.1 ∈ tables_1
set_option maxRecDepth 100000
theorem lw_t1 {w : Cond} (h : w ∈ tables_1_1) : w ∈ tables_1 := List.mem_append_left _ h
theorem lw_t2 {w : Cond} (h : w ∈ tables_1_2) : w ∈ tables_1 := List.mem_append_right _ (List.mem_append_left _ h)
theorem lw_t3 {w : Cond} (h : w ∈ tables_1_3) : w ∈ tables_1 := List.mem_append_right _ (List.mem_append_right _ (List.mem_append_left _ h))
theorem lw_t4 {w : Cond} (h : w ∈ tables_1_4) : w ∈ tables_1 := List.mem_append_right _ (List.mem_append_right _ (List.mem_append_right _ (List.mem_append_left _ h)))
theorem lw_t5 {w : Cond} (h : w ∈ tables_1_5) : w ∈ tables_1 := List.mem_append_right _ (List.mem_append_right _ (List.mem_append_right _ (List.mem_append_right _ (List.mem_append_left _ h))))
theorem lw_t6 {w : Cond} (h : w ∈ tables_1_6) : w ∈ tables_1 := List.mem_append_right _ (List.mem_append_right _ (List.mem_append_right _ (List.mem_append_right _ (List.mem_append_right _ (List.mem_append_left _ h)))))
theorem lw_t7 {w : Cond} (h : w ∈ tables_1_7) : w ∈ tables_1 := List.mem_append_right _ (List.mem_append_right _ (List.mem_append_right _ (List.mem_append_right _ (List.mem_append_right _ (List.mem_append_right _ (List.mem_append_left _ h))))))
theorem lw_t8 {w : Cond} (h : w ∈ tables_1_8) : w ∈ tables_1 := List.mem_append_right _ (List.mem_append_right _ (List.mem_append_right _ (List.mem_append_right _ (List.mem_append_right _ (List.mem_append_right _ (List.mem_append_right _ h))))))
theorem lw_p0 : lw_okq (⟨"java/lang/Throwable", "fillInStackTrace", "(I)Ljava/lang/Throwable;"⟩, 6) := ⟨⟨by decide +kernel, by decide +kernel⟩, lw_t1 (List.mem_of_getElem? (i := 142) rfl), lw_t1 (List.mem_of_getElem? (i := 140) rfl), lw_t1 (List.mem_of_getElem? (i := 141) rfl)⟩
theorem lw_p1 : lw_okq (⟨"TermDesk", "bytes", "(I)V"⟩, 26) := ⟨⟨by decide +kernel, by decide +kernel⟩, lw_t1 (List.mem_of_getElem? (i := 23) rfl), lw_t2 (List.mem_of_getElem? (i := 114) rfl), lw_t2 (List.mem_of_getElem? (i := 115) rfl)⟩
theorem lw_p2 : lw_okq (⟨"TermDesk", "anew", "()V"⟩, 26) := ⟨⟨by decide +kernel, by decide +kernel⟩, lw_t1 (List.mem_of_getElem? (i := 23) rfl), lw_t2 (List.mem_of_getElem? (i := 123) rfl), lw_t2 (List.mem_of_getElem? (i := 124) rfl)⟩
theorem lw_p3 : lw_okq (⟨"TermDesk", "no", "(I)I"⟩, 26) := ⟨⟨by decide +kernel, by decide +kernel⟩, lw_t1 (List.mem_of_getElem? (i := 23) rfl), lw_t2 (List.mem_of_getElem? (i := 130) rfl), lw_t2 (List.mem_of_getElem? (i := 131) rfl)⟩
theorem lw_p4 : lw_okq (⟨"TermDesk$Scanner", "step", "()V"⟩, 17) := ⟨⟨by decide +kernel, by decide +kernel⟩, lw_t1 (List.mem_of_getElem? (i := 99) rfl), lw_t2 (List.mem_of_getElem? (i := 138) rfl), lw_t2 (List.mem_of_getElem? (i := 139) rfl)⟩
theorem lw_p5 : lw_okq (⟨"TermDesk$Scanner", "see", "(I)I"⟩, 17) := ⟨⟨by decide +kernel, by decide +kernel⟩, lw_t1 (List.mem_of_getElem? (i := 99) rfl), lw_t2 (List.mem_of_getElem? (i := 142) rfl), lw_t2 (List.mem_of_getElem? (i := 143) rfl)⟩
theorem lw_p6 : lw_okq (⟨"TermDesk$Scanner", "isSmall", "(I)Z"⟩, 17) := ⟨⟨by decide +kernel, by decide +kernel⟩, lw_t1 (List.mem_of_getElem? (i := 99) rfl), lw_t2 (List.mem_of_getElem? (i := 146) rfl), lw_t2 (List.mem_of_getElem? (i := 147) rfl)⟩
theorem lw_p7 : lw_okq (⟨"TermDesk$Scanner", "isDigit", "(I)Z"⟩, 17) := ⟨⟨by decide +kernel, by decide +kernel⟩, lw_t1 (List.mem_of_getElem? (i := 99) rfl), lw_t2 (List.mem_of_getElem? (i := 230) rfl), lw_t2 (List.mem_of_getElem? (i := 231) rfl)⟩
theorem lw_p8 : lw_okq (⟨"TermDesk$Scanner", "line", "()V"⟩, 17) := ⟨⟨by decide +kernel, by decide +kernel⟩, lw_t1 (List.mem_of_getElem? (i := 99) rfl), lw_t2 (List.mem_of_getElem? (i := 234) rfl), lw_t2 (List.mem_of_getElem? (i := 235) rfl)⟩
theorem lw_p9 : lw_okq (⟨"TermDesk$Scanner", "must", "(Z)V"⟩, 17) := ⟨⟨by decide +kernel, by decide +kernel⟩, lw_t1 (List.mem_of_getElem? (i := 99) rfl), lw_t2 (List.mem_of_getElem? (i := 238) rfl), lw_t2 (List.mem_of_getElem? (i := 239) rfl)⟩
theorem lw_p10 : lw_okq (⟨"TermDesk$Scanner", "fail", "(I)LTermDesk$Refused;"⟩, 17) := ⟨⟨by decide +kernel, by decide +kernel⟩, lw_t1 (List.mem_of_getElem? (i := 99) rfl), lw_t3 (List.mem_of_getElem? (i := 2) rfl), lw_t3 (List.mem_of_getElem? (i := 3) rfl)⟩
theorem lw_p11 : lw_okq (⟨"TermDesk$Scanner", "ringLine", "()V"⟩, 17) := ⟨⟨by decide +kernel, by decide +kernel⟩, lw_t1 (List.mem_of_getElem? (i := 99) rfl), lw_t3 (List.mem_of_getElem? (i := 73) rfl), lw_t3 (List.mem_of_getElem? (i := 74) rfl)⟩
theorem lw_p12 : lw_okq (⟨"TermDesk$Scanner", "good", "(ZI)V"⟩, 17) := ⟨⟨by decide +kernel, by decide +kernel⟩, lw_t1 (List.mem_of_getElem? (i := 99) rfl), lw_t3 (List.mem_of_getElem? (i := 77) rfl), lw_t3 (List.mem_of_getElem? (i := 78) rfl)⟩
theorem lw_p13 : lw_okq (⟨"TermDesk$Scanner", "takes", "(Ljava/lang/String;)V"⟩, 17) := ⟨⟨by decide +kernel, by decide +kernel⟩, lw_t1 (List.mem_of_getElem? (i := 99) rfl), lw_t3 (List.mem_of_getElem? (i := 82) rfl), lw_t3 (List.mem_of_getElem? (i := 83) rfl)⟩
theorem lw_p14 : lw_okq (⟨"TermDesk$Scanner", "is", "(Ljava/lang/String;)Z"⟩, 17) := ⟨⟨by decide +kernel, by decide +kernel⟩, lw_t1 (List.mem_of_getElem? (i := 99) rfl), lw_t3 (List.mem_of_getElem? (i := 86) rfl), lw_t3 (List.mem_of_getElem? (i := 87) rfl)⟩
theorem lw_p15 : lw_okq (⟨"TermDesk$Scanner", "unknown", "()I"⟩, 17) := ⟨⟨by decide +kernel, by decide +kernel⟩, lw_t1 (List.mem_of_getElem? (i := 99) rfl), lw_t3 (List.mem_of_getElem? (i := 96) rfl), lw_t3 (List.mem_of_getElem? (i := 97) rfl)⟩
def lw_privs_1 : List (MethodName × Nat) := [(⟨"java/lang/Throwable", "fillInStackTrace", "(I)Ljava/lang/Throwable;"⟩, 6), (⟨"TermDesk", "bytes", "(I)V"⟩, 26), (⟨"TermDesk", "anew", "()V"⟩, 26), (⟨"TermDesk", "no", "(I)I"⟩, 26), (⟨"TermDesk$Scanner", "step", "()V"⟩, 17), (⟨"TermDesk$Scanner", "see", "(I)I"⟩, 17), (⟨"TermDesk$Scanner", "isSmall", "(I)Z"⟩, 17), (⟨"TermDesk$Scanner", "isDigit", "(I)Z"⟩, 17), (⟨"TermDesk$Scanner", "line", "()V"⟩, 17), (⟨"TermDesk$Scanner", "must", "(Z)V"⟩, 17), (⟨"TermDesk$Scanner", "fail", "(I)LTermDesk$Refused;"⟩, 17), (⟨"TermDesk$Scanner", "ringLine", "()V"⟩, 17), (⟨"TermDesk$Scanner", "good", "(ZI)V"⟩, 17), (⟨"TermDesk$Scanner", "takes", "(Ljava/lang/String;)V"⟩, 17), (⟨"TermDesk$Scanner", "is", "(Ljava/lang/String;)Z"⟩, 17), (⟨"TermDesk$Scanner", "unknown", "()I"⟩, 17)]
theorem lw_r1 : ∀ q ∈ lw_privs_1, lw_okq q := List.forall_mem_cons.mpr ⟨lw_p0, List.forall_mem_cons.mpr ⟨lw_p1, List.forall_mem_cons.mpr ⟨lw_p2, List.forall_mem_cons.mpr ⟨lw_p3, List.forall_mem_cons.mpr ⟨lw_p4, List.forall_mem_cons.mpr ⟨lw_p5, List.forall_mem_cons.mpr ⟨lw_p6, List.forall_mem_cons.mpr ⟨lw_p7, List.forall_mem_cons.mpr ⟨lw_p8, List.forall_mem_cons.mpr ⟨lw_p9, List.forall_mem_cons.mpr ⟨lw_p10, List.forall_mem_cons.mpr ⟨lw_p11, List.forall_mem_cons.mpr ⟨lw_p12, List.forall_mem_cons.mpr ⟨lw_p13, List.forall_mem_cons.mpr ⟨lw_p14, List.forall_mem_cons.mpr ⟨lw_p15, fun _ h => absurd h List.not_mem_nil⟩⟩⟩⟩⟩⟩⟩⟩⟩⟩⟩⟩⟩⟩⟩⟩
theorem lw_p16 : lw_okq (⟨"TermDesk$Scanner", "polyLine", "()V"⟩, 17) := ⟨⟨by decide +kernel, by decide +kernel⟩, lw_t1 (List.mem_of_getElem? (i := 99) rfl), lw_t3 (List.mem_of_getElem? (i := 103) rfl), lw_t3 (List.mem_of_getElem? (i := 104) rfl)⟩
theorem lw_p17 : lw_okq (⟨"TermDesk$Scanner", "termHere", "(Z)V"⟩, 17) := ⟨⟨by decide +kernel, by decide +kernel⟩, lw_t1 (List.mem_of_getElem? (i := 99) rfl), lw_t3 (List.mem_of_getElem? (i := 107) rfl), lw_t3 (List.mem_of_getElem? (i := 108) rfl)⟩
theorem lw_p18 : lw_okq (⟨"TermDesk", "layInverses", "()V"⟩, 26) := ⟨⟨by decide +kernel, by decide +kernel⟩, lw_t1 (List.mem_of_getElem? (i := 23) rfl), lw_t3 (List.mem_of_getElem? (i := 111) rfl), lw_t3 (List.mem_of_getElem? (i := 112) rfl)⟩
theorem lw_p19 : lw_okq (⟨"TermDesk", "becomes", "(III)V"⟩, 26) := ⟨⟨by decide +kernel, by decide +kernel⟩, lw_t1 (List.mem_of_getElem? (i := 23) rfl), lw_t3 (List.mem_of_getElem? (i := 115) rfl), lw_t3 (List.mem_of_getElem? (i := 116) rfl)⟩
theorem lw_p20 : lw_okq (⟨"TermDesk$Scanner", "poly", "(I)LTermDesk$Poly;"⟩, 17) := ⟨⟨by decide +kernel, by decide +kernel⟩, lw_t1 (List.mem_of_getElem? (i := 99) rfl), lw_t3 (List.mem_of_getElem? (i := 137) rfl), lw_t3 (List.mem_of_getElem? (i := 138) rfl)⟩
theorem lw_p21 : lw_okq (⟨"TermDesk", "blank", "()[I"⟩, 26) := ⟨⟨by decide +kernel, by decide +kernel⟩, lw_t1 (List.mem_of_getElem? (i := 23) rfl), lw_t3 (List.mem_of_getElem? (i := 141) rfl), lw_t3 (List.mem_of_getElem? (i := 142) rfl)⟩
theorem lw_p22 : lw_okq (⟨"TermDesk", "reduced", "(I)I"⟩, 26) := ⟨⟨by decide +kernel, by decide +kernel⟩, lw_t1 (List.mem_of_getElem? (i := 23) rfl), lw_t3 (List.mem_of_getElem? (i := 148) rfl), lw_t3 (List.mem_of_getElem? (i := 149) rfl)⟩
theorem lw_p23 : lw_okq (⟨"TermDesk", "sorted", "([I)LTermDesk$Poly;"⟩, 26) := ⟨⟨by decide +kernel, by decide +kernel⟩, lw_t1 (List.mem_of_getElem? (i := 23) rfl), lw_t3 (List.mem_of_getElem? (i := 152) rfl), lw_t3 (List.mem_of_getElem? (i := 153) rfl)⟩
theorem lw_p24 : lw_okq (⟨"TermDesk", "why", "(Z)I"⟩, 26) := ⟨⟨by decide +kernel, by decide +kernel⟩, lw_t1 (List.mem_of_getElem? (i := 23) rfl), lw_t3 (List.mem_of_getElem? (i := 173) rfl), lw_t3 (List.mem_of_getElem? (i := 174) rfl)⟩
theorem lw_p25 : lw_okq (⟨"TermDesk", "why", "(ZZ)I"⟩, 26) := ⟨⟨by decide +kernel, by decide +kernel⟩, lw_t1 (List.mem_of_getElem? (i := 23) rfl), lw_t3 (List.mem_of_getElem? (i := 177) rfl), lw_t3 (List.mem_of_getElem? (i := 178) rfl)⟩
theorem lw_p26 : lw_okq (⟨"TermDesk", "isRefused", "(I)Z"⟩, 26) := ⟨⟨by decide +kernel, by decide +kernel⟩, lw_t1 (List.mem_of_getElem? (i := 23) rfl), lw_t3 (List.mem_of_getElem? (i := 181) rfl), lw_t3 (List.mem_of_getElem? (i := 182) rfl)⟩
theorem lw_p27 : lw_okq (⟨"TermDesk", "filled", "()I"⟩, 26) := ⟨⟨by decide +kernel, by decide +kernel⟩, lw_t1 (List.mem_of_getElem? (i := 23) rfl), lw_t3 (List.mem_of_getElem? (i := 185) rfl), lw_t3 (List.mem_of_getElem? (i := 186) rfl)⟩
theorem lw_p28 : lw_okq (⟨"TermDesk", "spread", "(LTermDesk$Poly;)[I"⟩, 26) := ⟨⟨by decide +kernel, by decide +kernel⟩, lw_t1 (List.mem_of_getElem? (i := 23) rfl), lw_t3 (List.mem_of_getElem? (i := 235) rfl), lw_t3 (List.mem_of_getElem? (i := 236) rfl)⟩
theorem lw_p29 : lw_okq (⟨"TermDesk", "areValues", "([I)Z"⟩, 26) := ⟨⟨by decide +kernel, by decide +kernel⟩, lw_t1 (List.mem_of_getElem? (i := 23) rfl), lw_t4 (List.mem_of_getElem? (i := 7) rfl), lw_t4 (List.mem_of_getElem? (i := 8) rfl)⟩
theorem lw_p30 : lw_okq (⟨"TermDesk", "valueOf", "(LTermDesk$Poly;III)I"⟩, 26) := ⟨⟨by decide +kernel, by decide +kernel⟩, lw_t1 (List.mem_of_getElem? (i := 23) rfl), lw_t4 (List.mem_of_getElem? (i := 11) rfl), lw_t4 (List.mem_of_getElem? (i := 12) rfl)⟩
theorem lw_p31 : lw_okq (⟨"TermDesk", "power", "(II)I"⟩, 26) := ⟨⟨by decide +kernel, by decide +kernel⟩, lw_t1 (List.mem_of_getElem? (i := 23) rfl), lw_t4 (List.mem_of_getElem? (i := 15) rfl), lw_t4 (List.mem_of_getElem? (i := 16) rfl)⟩
def lw_privs_2 : List (MethodName × Nat) := [(⟨"TermDesk$Scanner", "polyLine", "()V"⟩, 17), (⟨"TermDesk$Scanner", "termHere", "(Z)V"⟩, 17), (⟨"TermDesk", "layInverses", "()V"⟩, 26), (⟨"TermDesk", "becomes", "(III)V"⟩, 26), (⟨"TermDesk$Scanner", "poly", "(I)LTermDesk$Poly;"⟩, 17), (⟨"TermDesk", "blank", "()[I"⟩, 26), (⟨"TermDesk", "reduced", "(I)I"⟩, 26), (⟨"TermDesk", "sorted", "([I)LTermDesk$Poly;"⟩, 26), (⟨"TermDesk", "why", "(Z)I"⟩, 26), (⟨"TermDesk", "why", "(ZZ)I"⟩, 26), (⟨"TermDesk", "isRefused", "(I)Z"⟩, 26), (⟨"TermDesk", "filled", "()I"⟩, 26), (⟨"TermDesk", "spread", "(LTermDesk$Poly;)[I"⟩, 26), (⟨"TermDesk", "areValues", "([I)Z"⟩, 26), (⟨"TermDesk", "valueOf", "(LTermDesk$Poly;III)I"⟩, 26), (⟨"TermDesk", "power", "(II)I"⟩, 26)]
theorem lw_r2 : ∀ q ∈ lw_privs_2, lw_okq q := List.forall_mem_cons.mpr ⟨lw_p16, List.forall_mem_cons.mpr ⟨lw_p17, List.forall_mem_cons.mpr ⟨lw_p18, List.forall_mem_cons.mpr ⟨lw_p19, List.forall_mem_cons.mpr ⟨lw_p20, List.forall_mem_cons.mpr ⟨lw_p21, List.forall_mem_cons.mpr ⟨lw_p22, List.forall_mem_cons.mpr ⟨lw_p23, List.forall_mem_cons.mpr ⟨lw_p24, List.forall_mem_cons.mpr ⟨lw_p25, List.forall_mem_cons.mpr ⟨lw_p26, List.forall_mem_cons.mpr ⟨lw_p27, List.forall_mem_cons.mpr ⟨lw_p28, List.forall_mem_cons.mpr ⟨lw_p29, List.forall_mem_cons.mpr ⟨lw_p30, List.forall_mem_cons.mpr ⟨lw_p31, fun _ h => absurd h List.not_mem_nil⟩⟩⟩⟩⟩⟩⟩⟩⟩⟩⟩⟩⟩⟩⟩⟩
theorem lw_p32 : lw_okq (⟨"TermDesk", "divisionWhy", "(ZZII)I"⟩, 26) := ⟨⟨by decide +kernel, by decide +kernel⟩, lw_t1 (List.mem_of_getElem? (i := 23) rfl), lw_t4 (List.mem_of_getElem? (i := 49) rfl), lw_t4 (List.mem_of_getElem? (i := 50) rfl)⟩
theorem lw_p33 : lw_okq (⟨"TermDesk", "divides", "(LTermDesk$Poly;I)I"⟩, 26) := ⟨⟨by decide +kernel, by decide +kernel⟩, lw_t1 (List.mem_of_getElem? (i := 23) rfl), lw_t4 (List.mem_of_getElem? (i := 56) rfl), lw_t4 (List.mem_of_getElem? (i := 57) rfl)⟩
theorem lw_p34 : lw_okq (⟨"TermDesk", "hasZero", "(I)Z"⟩, 26) := ⟨⟨by decide +kernel, by decide +kernel⟩, lw_t1 (List.mem_of_getElem? (i := 23) rfl), lw_t4 (List.mem_of_getElem? (i := 60) rfl), lw_t4 (List.mem_of_getElem? (i := 61) rfl)⟩
theorem lw_p35 : lw_okq (⟨"TermDesk$Division", "step", "()V"⟩, 9) := ⟨⟨by decide +kernel, by decide +kernel⟩, lw_t1 (List.mem_of_getElem? (i := 55) rfl), lw_t4 (List.mem_of_getElem? (i := 76) rfl), lw_t4 (List.mem_of_getElem? (i := 77) rfl)⟩
theorem lw_p36 : lw_okq (⟨"TermDesk$Division", "divisor", "()I"⟩, 9) := ⟨⟨by decide +kernel, by decide +kernel⟩, lw_t1 (List.mem_of_getElem? (i := 55) rfl), lw_t4 (List.mem_of_getElem? (i := 80) rfl), lw_t4 (List.mem_of_getElem? (i := 81) rfl)⟩
theorem lw_p37 : lw_okq (⟨"TermDesk", "merges", "(LTermDesk$Row;[I[IILTermDesk$Poly;II)LTermDesk$Row;"⟩, 26) := ⟨⟨by decide +kernel, by decide +kernel⟩, lw_t1 (List.mem_of_getElem? (i := 23) rfl), lw_t4 (List.mem_of_getElem? (i := 97) rfl), lw_t4 (List.mem_of_getElem? (i := 98) rfl)⟩
theorem lw_p38 : lw_okq (⟨"TermDesk", "leaves", "(III)I"⟩, 26) := ⟨⟨by decide +kernel, by decide +kernel⟩, lw_t1 (List.mem_of_getElem? (i := 23) rfl), lw_t4 (List.mem_of_getElem? (i := 112) rfl), lw_t4 (List.mem_of_getElem? (i := 113) rfl)⟩
theorem lw_p39 : lw_okq (⟨"TermDesk", "pair", "(LTermDesk$Poly;LTermDesk$Poly;)LTermDesk$Poly;"⟩, 26) := ⟨⟨by decide +kernel, by decide +kernel⟩, lw_t1 (List.mem_of_getElem? (i := 23) rfl), lw_t4 (List.mem_of_getElem? (i := 116) rfl), lw_t4 (List.mem_of_getElem? (i := 117) rfl)⟩
theorem lw_p40 : lw_okq (⟨"TermDesk", "monic", "(LTermDesk$Poly;)LTermDesk$Poly;"⟩, 26) := ⟨⟨by decide +kernel, by decide +kernel⟩, lw_t1 (List.mem_of_getElem? (i := 23) rfl), lw_t4 (List.mem_of_getElem? (i := 121) rfl), lw_t4 (List.mem_of_getElem? (i := 122) rfl)⟩
theorem lw_p41 : lw_okq (⟨"TermDesk", "scaled", "(LTermDesk$Poly;I)LTermDesk$Poly;"⟩, 26) := ⟨⟨by decide +kernel, by decide +kernel⟩, lw_t1 (List.mem_of_getElem? (i := 23) rfl), lw_t4 (List.mem_of_getElem? (i := 125) rfl), lw_t4 (List.mem_of_getElem? (i := 126) rfl)⟩
theorem lw_p42 : lw_okq (⟨"TermDesk", "sum", "(LTermDesk$Poly;LTermDesk$Poly;II)LTermDesk$Poly;"⟩, 26) := ⟨⟨by decide +kernel, by decide +kernel⟩, lw_t1 (List.mem_of_getElem? (i := 23) rfl), lw_t4 (List.mem_of_getElem? (i := 129) rfl), lw_t4 (List.mem_of_getElem? (i := 130) rfl)⟩
theorem lw_p43 : lw_okq (⟨"TermDesk", "lays", "(LTermDesk$Poly;I)I"⟩, 26) := ⟨⟨by decide +kernel, by decide +kernel⟩, lw_t1 (List.mem_of_getElem? (i := 23) rfl), lw_t4 (List.mem_of_getElem? (i := 159) rfl), lw_t4 (List.mem_of_getElem? (i := 160) rfl)⟩
theorem lw_p44 : lw_okq (⟨"TermDesk", "keeps", "()V"⟩, 26) := ⟨⟨by decide +kernel, by decide +kernel⟩, lw_t1 (List.mem_of_getElem? (i := 23) rfl), lw_t4 (List.mem_of_getElem? (i := 163) rfl), lw_t4 (List.mem_of_getElem? (i := 164) rfl)⟩
theorem lw_p45 : lw_okq (⟨"TermDesk", "times", "(LTermDesk$Poly;LTermDesk$Poly;)LTermDesk$Poly;"⟩, 26) := ⟨⟨by decide +kernel, by decide +kernel⟩, lw_t1 (List.mem_of_getElem? (i := 23) rfl), lw_t4 (List.mem_of_getElem? (i := 179) rfl), lw_t4 (List.mem_of_getElem? (i := 180) rfl)⟩
theorem lw_p46 : lw_okq (⟨"TermDesk$Heap", "puts", "(III)V"⟩, 3) := ⟨⟨by decide +kernel, by decide +kernel⟩, lw_t4 (List.mem_of_getElem? (i := 183) rfl), lw_t4 (List.mem_of_getElem? (i := 207) rfl), lw_t4 (List.mem_of_getElem? (i := 208) rfl)⟩
theorem lw_p47 : lw_okq (⟨"TermDesk", "hasThird", "(I)Z"⟩, 26) := ⟨⟨by decide +kernel, by decide +kernel⟩, lw_t1 (List.mem_of_getElem? (i := 23) rfl), lw_t5 (List.mem_of_getElem? (i := 16) rfl), lw_t5 (List.mem_of_getElem? (i := 17) rfl)⟩
def lw_privs_3 : List (MethodName × Nat) := [(⟨"TermDesk", "divisionWhy", "(ZZII)I"⟩, 26), (⟨"TermDesk", "divides", "(LTermDesk$Poly;I)I"⟩, 26), (⟨"TermDesk", "hasZero", "(I)Z"⟩, 26), (⟨"TermDesk$Division", "step", "()V"⟩, 9), (⟨"TermDesk$Division", "divisor", "()I"⟩, 9), (⟨"TermDesk", "merges", "(LTermDesk$Row;[I[IILTermDesk$Poly;II)LTermDesk$Row;"⟩, 26), (⟨"TermDesk", "leaves", "(III)I"⟩, 26), (⟨"TermDesk", "pair", "(LTermDesk$Poly;LTermDesk$Poly;)LTermDesk$Poly;"⟩, 26), (⟨"TermDesk", "monic", "(LTermDesk$Poly;)LTermDesk$Poly;"⟩, 26), (⟨"TermDesk", "scaled", "(LTermDesk$Poly;I)LTermDesk$Poly;"⟩, 26), (⟨"TermDesk", "sum", "(LTermDesk$Poly;LTermDesk$Poly;II)LTermDesk$Poly;"⟩, 26), (⟨"TermDesk", "lays", "(LTermDesk$Poly;I)I"⟩, 26), (⟨"TermDesk", "keeps", "()V"⟩, 26), (⟨"TermDesk", "times", "(LTermDesk$Poly;LTermDesk$Poly;)LTermDesk$Poly;"⟩, 26), (⟨"TermDesk$Heap", "puts", "(III)V"⟩, 3), (⟨"TermDesk", "hasThird", "(I)Z"⟩, 26)]
theorem lw_r3 : ∀ q ∈ lw_privs_3, lw_okq q := List.forall_mem_cons.mpr ⟨lw_p32, List.forall_mem_cons.mpr ⟨lw_p33, List.forall_mem_cons.mpr ⟨lw_p34, List.forall_mem_cons.mpr ⟨lw_p35, List.forall_mem_cons.mpr ⟨lw_p36, List.forall_mem_cons.mpr ⟨lw_p37, List.forall_mem_cons.mpr ⟨lw_p38, List.forall_mem_cons.mpr ⟨lw_p39, List.forall_mem_cons.mpr ⟨lw_p40, List.forall_mem_cons.mpr ⟨lw_p41, List.forall_mem_cons.mpr ⟨lw_p42, List.forall_mem_cons.mpr ⟨lw_p43, List.forall_mem_cons.mpr ⟨lw_p44, List.forall_mem_cons.mpr ⟨lw_p45, List.forall_mem_cons.mpr ⟨lw_p46, List.forall_mem_cons.mpr ⟨lw_p47, fun _ h => absurd h List.not_mem_nil⟩⟩⟩⟩⟩⟩⟩⟩⟩⟩⟩⟩⟩⟩⟩⟩
theorem lw_p48 : lw_okq (⟨"TermDesk", "common", "(LTermDesk$Poly;LTermDesk$Poly;)LTermDesk$Poly;"⟩, 26) := ⟨⟨by decide +kernel, by decide +kernel⟩, lw_t1 (List.mem_of_getElem? (i := 23) rfl), lw_t5 (List.mem_of_getElem? (i := 20) rfl), lw_t5 (List.mem_of_getElem? (i := 21) rfl)⟩
theorem lw_p49 : lw_okq (⟨"TermDesk", "lays", "(LTermDesk$Poly;[[I)[[I"⟩, 26) := ⟨⟨by decide +kernel, by decide +kernel⟩, lw_t1 (List.mem_of_getElem? (i := 23) rfl), lw_t5 (List.mem_of_getElem? (i := 24) rfl), lw_t5 (List.mem_of_getElem? (i := 25) rfl)⟩
theorem lw_p50 : lw_okq (⟨"TermDesk", "primitive", "([[I)[I"⟩, 26) := ⟨⟨by decide +kernel, by decide +kernel⟩, lw_t1 (List.mem_of_getElem? (i := 23) rfl), lw_t5 (List.mem_of_getElem? (i := 28) rfl), lw_t5 (List.mem_of_getElem? (i := 29) rfl)⟩
theorem lw_p51 : lw_okq (⟨"TermDesk", "contentOf", "([[I)[I"⟩, 26) := ⟨⟨by decide +kernel, by decide +kernel⟩, lw_t1 (List.mem_of_getElem? (i := 23) rfl), lw_t5 (List.mem_of_getElem? (i := 32) rfl), lw_t5 (List.mem_of_getElem? (i := 33) rfl)⟩
theorem lw_p52 : lw_okq (⟨"TermDesk", "leaves", "([I[I)V"⟩, 26) := ⟨⟨by decide +kernel, by decide +kernel⟩, lw_t1 (List.mem_of_getElem? (i := 23) rfl), lw_t5 (List.mem_of_getElem? (i := 40) rfl), lw_t5 (List.mem_of_getElem? (i := 41) rfl)⟩
theorem lw_p53 : lw_okq (⟨"TermDesk", "dividesBy", "([I[I)V"⟩, 26) := ⟨⟨by decide +kernel, by decide +kernel⟩, lw_t1 (List.mem_of_getElem? (i := 23) rfl), lw_t5 (List.mem_of_getElem? (i := 45) rfl), lw_t5 (List.mem_of_getElem? (i := 46) rfl)⟩
theorem lw_p54 : lw_okq (⟨"TermDesk", "leaves", "([[I[[I)V"⟩, 26) := ⟨⟨by decide +kernel, by decide +kernel⟩, lw_t1 (List.mem_of_getElem? (i := 23) rfl), lw_t5 (List.mem_of_getElem? (i := 53) rfl), lw_t5 (List.mem_of_getElem? (i := 54) rfl)⟩
theorem lw_p55 : lw_okq (⟨"TermDesk", "mixes", "([I[I[I[I)V"⟩, 26) := ⟨⟨by decide +kernel, by decide +kernel⟩, lw_t1 (List.mem_of_getElem? (i := 23) rfl), lw_t5 (List.mem_of_getElem? (i := 57) rfl), lw_t5 (List.mem_of_getElem? (i := 58) rfl)⟩
theorem lw_p56 : lw_okq (⟨"TermDesk", "inY", "([I)LTermDesk$Poly;"⟩, 26) := ⟨⟨by decide +kernel, by decide +kernel⟩, lw_t1 (List.mem_of_getElem? (i := 23) rfl), lw_t5 (List.mem_of_getElem? (i := 65) rfl), lw_t5 (List.mem_of_getElem? (i := 66) rfl)⟩
theorem lw_p57 : lw_okq (⟨"TermDesk", "free", "(I)I"⟩, 26) := ⟨⟨by decide +kernel, by decide +kernel⟩, lw_t1 (List.mem_of_getElem? (i := 23) rfl), lw_t5 (List.mem_of_getElem? (i := 77) rfl), lw_t5 (List.mem_of_getElem? (i := 78) rfl)⟩
theorem lw_p58 : lw_okq (⟨"TermDeskModel", "refused", "(I)I"⟩, 53) := ⟨⟨by decide +kernel, by decide +kernel⟩, lw_t5 (List.mem_of_getElem? (i := 126) rfl), lw_t6 (List.mem_of_getElem? (i := 66) rfl), lw_t6 (List.mem_of_getElem? (i := 67) rfl)⟩
theorem lw_p59 : lw_okq (⟨"TermDeskModel", "readAll", "()V"⟩, 53) := ⟨⟨by decide +kernel, by decide +kernel⟩, lw_t5 (List.mem_of_getElem? (i := 126) rfl), lw_t6 (List.mem_of_getElem? (i := 70) rfl), lw_t6 (List.mem_of_getElem? (i := 71) rfl)⟩
theorem lw_p60 : lw_okq (⟨"TermDeskModel", "next", "()V"⟩, 53) := ⟨⟨by decide +kernel, by decide +kernel⟩, lw_t5 (List.mem_of_getElem? (i := 126) rfl), lw_t6 (List.mem_of_getElem? (i := 74) rfl), lw_t6 (List.mem_of_getElem? (i := 75) rfl)⟩
theorem lw_p61 : lw_okq (⟨"TermDeskModel", "byteAt", "(I)I"⟩, 53) := ⟨⟨by decide +kernel, by decide +kernel⟩, lw_t5 (List.mem_of_getElem? (i := 126) rfl), lw_t6 (List.mem_of_getElem? (i := 78) rfl), lw_t6 (List.mem_of_getElem? (i := 79) rfl)⟩
theorem lw_p62 : lw_okq (⟨"TermDeskModel", "nextWord", "()V"⟩, 53) := ⟨⟨by decide +kernel, by decide +kernel⟩, lw_t5 (List.mem_of_getElem? (i := 126) rfl), lw_t6 (List.mem_of_getElem? (i := 85) rfl), lw_t6 (List.mem_of_getElem? (i := 86) rfl)⟩
theorem lw_p63 : lw_okq (⟨"TermDeskModel", "nextWhole", "()V"⟩, 53) := ⟨⟨by decide +kernel, by decide +kernel⟩, lw_t5 (List.mem_of_getElem? (i := 126) rfl), lw_t6 (List.mem_of_getElem? (i := 89) rfl), lw_t6 (List.mem_of_getElem? (i := 90) rfl)⟩
def lw_privs_4 : List (MethodName × Nat) := [(⟨"TermDesk", "common", "(LTermDesk$Poly;LTermDesk$Poly;)LTermDesk$Poly;"⟩, 26), (⟨"TermDesk", "lays", "(LTermDesk$Poly;[[I)[[I"⟩, 26), (⟨"TermDesk", "primitive", "([[I)[I"⟩, 26), (⟨"TermDesk", "contentOf", "([[I)[I"⟩, 26), (⟨"TermDesk", "leaves", "([I[I)V"⟩, 26), (⟨"TermDesk", "dividesBy", "([I[I)V"⟩, 26), (⟨"TermDesk", "leaves", "([[I[[I)V"⟩, 26), (⟨"TermDesk", "mixes", "([I[I[I[I)V"⟩, 26), (⟨"TermDesk", "inY", "([I)LTermDesk$Poly;"⟩, 26), (⟨"TermDesk", "free", "(I)I"⟩, 26), (⟨"TermDeskModel", "refused", "(I)I"⟩, 53), (⟨"TermDeskModel", "readAll", "()V"⟩, 53), (⟨"TermDeskModel", "next", "()V"⟩, 53), (⟨"TermDeskModel", "byteAt", "(I)I"⟩, 53), (⟨"TermDeskModel", "nextWord", "()V"⟩, 53), (⟨"TermDeskModel", "nextWhole", "()V"⟩, 53)]
theorem lw_r4 : ∀ q ∈ lw_privs_4, lw_okq q := List.forall_mem_cons.mpr ⟨lw_p48, List.forall_mem_cons.mpr ⟨lw_p49, List.forall_mem_cons.mpr ⟨lw_p50, List.forall_mem_cons.mpr ⟨lw_p51, List.forall_mem_cons.mpr ⟨lw_p52, List.forall_mem_cons.mpr ⟨lw_p53, List.forall_mem_cons.mpr ⟨lw_p54, List.forall_mem_cons.mpr ⟨lw_p55, List.forall_mem_cons.mpr ⟨lw_p56, List.forall_mem_cons.mpr ⟨lw_p57, List.forall_mem_cons.mpr ⟨lw_p58, List.forall_mem_cons.mpr ⟨lw_p59, List.forall_mem_cons.mpr ⟨lw_p60, List.forall_mem_cons.mpr ⟨lw_p61, List.forall_mem_cons.mpr ⟨lw_p62, List.forall_mem_cons.mpr ⟨lw_p63, fun _ h => absurd h List.not_mem_nil⟩⟩⟩⟩⟩⟩⟩⟩⟩⟩⟩⟩⟩⟩⟩⟩
theorem lw_p64 : lw_okq (⟨"TermDeskModel", "readLine", "()V"⟩, 53) := ⟨⟨by decide +kernel, by decide +kernel⟩, lw_t5 (List.mem_of_getElem? (i := 126) rfl), lw_t6 (List.mem_of_getElem? (i := 93) rfl), lw_t6 (List.mem_of_getElem? (i := 94) rfl)⟩
theorem lw_p65 : lw_okq (⟨"TermDeskModel", "isWord", "(Ljava/lang/String;)Z"⟩, 53) := ⟨⟨by decide +kernel, by decide +kernel⟩, lw_t5 (List.mem_of_getElem? (i := 126) rfl), lw_t6 (List.mem_of_getElem? (i := 98) rfl), lw_t6 (List.mem_of_getElem? (i := 99) rfl)⟩
theorem lw_p66 : lw_okq (⟨"TermDeskModel", "readRing", "()V"⟩, 53) := ⟨⟨by decide +kernel, by decide +kernel⟩, lw_t5 (List.mem_of_getElem? (i := 126) rfl), lw_t6 (List.mem_of_getElem? (i := 130) rfl), lw_t6 (List.mem_of_getElem? (i := 131) rfl)⟩
theorem lw_p67 : lw_okq (⟨"TermDeskModel", "flaw", "(I)V"⟩, 53) := ⟨⟨by decide +kernel, by decide +kernel⟩, lw_t5 (List.mem_of_getElem? (i := 126) rfl), lw_t6 (List.mem_of_getElem? (i := 134) rfl), lw_t6 (List.mem_of_getElem? (i := 135) rfl)⟩
theorem lw_p68 : lw_okq (⟨"TermDeskModel", "needs", "(Ljava/lang/String;)V"⟩, 53) := ⟨⟨by decide +kernel, by decide +kernel⟩, lw_t5 (List.mem_of_getElem? (i := 126) rfl), lw_t6 (List.mem_of_getElem? (i := 139) rfl), lw_t6 (List.mem_of_getElem? (i := 140) rfl)⟩
theorem lw_p69 : lw_okq (⟨"TermDeskModel", "readUnknown", "(II)I"⟩, 53) := ⟨⟨by decide +kernel, by decide +kernel⟩, lw_t5 (List.mem_of_getElem? (i := 126) rfl), lw_t6 (List.mem_of_getElem? (i := 150) rfl), lw_t6 (List.mem_of_getElem? (i := 151) rfl)⟩
theorem lw_p70 : lw_okq (⟨"TermDeskModel", "unknownHere", "()I"⟩, 53) := ⟨⟨by decide +kernel, by decide +kernel⟩, lw_t5 (List.mem_of_getElem? (i := 126) rfl), lw_t6 (List.mem_of_getElem? (i := 154) rfl), lw_t6 (List.mem_of_getElem? (i := 155) rfl)⟩
theorem lw_p71 : lw_okq (⟨"TermDeskModel", "readPoly", "()V"⟩, 53) := ⟨⟨by decide +kernel, by decide +kernel⟩, lw_t5 (List.mem_of_getElem? (i := 126) rfl), lw_t6 (List.mem_of_getElem? (i := 162) rfl), lw_t6 (List.mem_of_getElem? (i := 163) rfl)⟩
theorem lw_p72 : lw_okq (⟨"TermDeskModel", "readTerm", "(Z)V"⟩, 53) := ⟨⟨by decide +kernel, by decide +kernel⟩, lw_t5 (List.mem_of_getElem? (i := 126) rfl), lw_t6 (List.mem_of_getElem? (i := 166) rfl), lw_t6 (List.mem_of_getElem? (i := 167) rfl)⟩
theorem lw_p73 : lw_okq (⟨"TermDeskModel", "laysOrder", "()V"⟩, 53) := ⟨⟨by decide +kernel, by decide +kernel⟩, lw_t5 (List.mem_of_getElem? (i := 126) rfl), lw_t6 (List.mem_of_getElem? (i := 170) rfl), lw_t6 (List.mem_of_getElem? (i := 171) rfl)⟩
theorem lw_p74 : lw_okq (⟨"TermDeskModel", "laysKey", "(III)V"⟩, 53) := ⟨⟨by decide +kernel, by decide +kernel⟩, lw_t5 (List.mem_of_getElem? (i := 126) rfl), lw_t6 (List.mem_of_getElem? (i := 174) rfl), lw_t6 (List.mem_of_getElem? (i := 175) rfl)⟩
theorem lw_p75 : lw_okq (⟨"TermDeskModel", "third", "()I"⟩, 53) := ⟨⟨by decide +kernel, by decide +kernel⟩, lw_t5 (List.mem_of_getElem? (i := 126) rfl), lw_t6 (List.mem_of_getElem? (i := 178) rfl), lw_t6 (List.mem_of_getElem? (i := 179) rfl)⟩
theorem lw_p76 : lw_okq (⟨"TermDeskModel", "good", "(I)I"⟩, 53) := ⟨⟨by decide +kernel, by decide +kernel⟩, lw_t5 (List.mem_of_getElem? (i := 126) rfl), lw_t6 (List.mem_of_getElem? (i := 182) rfl), lw_t6 (List.mem_of_getElem? (i := 183) rfl)⟩
theorem lw_p77 : lw_okq (⟨"TermDeskModel", "notZero", "()I"⟩, 53) := ⟨⟨by decide +kernel, by decide +kernel⟩, lw_t5 (List.mem_of_getElem? (i := 126) rfl), lw_t6 (List.mem_of_getElem? (i := 198) rfl), lw_t6 (List.mem_of_getElem? (i := 199) rfl)⟩
theorem lw_p78 : lw_okq (⟨"TermDeskModel", "isZero", "(I)Z"⟩, 53) := ⟨⟨by decide +kernel, by decide +kernel⟩, lw_t5 (List.mem_of_getElem? (i := 126) rfl), lw_t6 (List.mem_of_getElem? (i := 202) rfl), lw_t6 (List.mem_of_getElem? (i := 203) rfl)⟩
theorem lw_p79 : lw_okq (⟨"TermDeskModel", "termsOf", "(I)I"⟩, 53) := ⟨⟨by decide +kernel, by decide +kernel⟩, lw_t5 (List.mem_of_getElem? (i := 126) rfl), lw_t6 (List.mem_of_getElem? (i := 206) rfl), lw_t6 (List.mem_of_getElem? (i := 207) rfl)⟩
def lw_privs_5 : List (MethodName × Nat) := [(⟨"TermDeskModel", "readLine", "()V"⟩, 53), (⟨"TermDeskModel", "isWord", "(Ljava/lang/String;)Z"⟩, 53), (⟨"TermDeskModel", "readRing", "()V"⟩, 53), (⟨"TermDeskModel", "flaw", "(I)V"⟩, 53), (⟨"TermDeskModel", "needs", "(Ljava/lang/String;)V"⟩, 53), (⟨"TermDeskModel", "readUnknown", "(II)I"⟩, 53), (⟨"TermDeskModel", "unknownHere", "()I"⟩, 53), (⟨"TermDeskModel", "readPoly", "()V"⟩, 53), (⟨"TermDeskModel", "readTerm", "(Z)V"⟩, 53), (⟨"TermDeskModel", "laysOrder", "()V"⟩, 53), (⟨"TermDeskModel", "laysKey", "(III)V"⟩, 53), (⟨"TermDeskModel", "third", "()I"⟩, 53), (⟨"TermDeskModel", "good", "(I)I"⟩, 53), (⟨"TermDeskModel", "notZero", "()I"⟩, 53), (⟨"TermDeskModel", "isZero", "(I)Z"⟩, 53), (⟨"TermDeskModel", "termsOf", "(I)I"⟩, 53)]
theorem lw_r5 : ∀ q ∈ lw_privs_5, lw_okq q := List.forall_mem_cons.mpr ⟨lw_p64, List.forall_mem_cons.mpr ⟨lw_p65, List.forall_mem_cons.mpr ⟨lw_p66, List.forall_mem_cons.mpr ⟨lw_p67, List.forall_mem_cons.mpr ⟨lw_p68, List.forall_mem_cons.mpr ⟨lw_p69, List.forall_mem_cons.mpr ⟨lw_p70, List.forall_mem_cons.mpr ⟨lw_p71, List.forall_mem_cons.mpr ⟨lw_p72, List.forall_mem_cons.mpr ⟨lw_p73, List.forall_mem_cons.mpr ⟨lw_p74, List.forall_mem_cons.mpr ⟨lw_p75, List.forall_mem_cons.mpr ⟨lw_p76, List.forall_mem_cons.mpr ⟨lw_p77, List.forall_mem_cons.mpr ⟨lw_p78, List.forall_mem_cons.mpr ⟨lw_p79, fun _ h => absurd h List.not_mem_nil⟩⟩⟩⟩⟩⟩⟩⟩⟩⟩⟩⟩⟩⟩⟩⟩
theorem lw_p80 : lw_okq (⟨"TermDeskModel", "coef", "(II)I"⟩, 53) := ⟨⟨by decide +kernel, by decide +kernel⟩, lw_t5 (List.mem_of_getElem? (i := 126) rfl), lw_t6 (List.mem_of_getElem? (i := 210) rfl), lw_t6 (List.mem_of_getElem? (i := 211) rfl)⟩
theorem lw_p81 : lw_okq (⟨"TermDeskModel", "isReg", "(I)Z"⟩, 53) := ⟨⟨by decide +kernel, by decide +kernel⟩, lw_t5 (List.mem_of_getElem? (i := 126) rfl), lw_t6 (List.mem_of_getElem? (i := 218) rfl), lw_t6 (List.mem_of_getElem? (i := 219) rfl)⟩
theorem lw_p82 : lw_okq (⟨"TermDeskModel", "degreeBy", "(II)I"⟩, 53) := ⟨⟨by decide +kernel, by decide +kernel⟩, lw_t5 (List.mem_of_getElem? (i := 126) rfl), lw_t7 (List.mem_of_getElem? (i := 3) rfl), lw_t7 (List.mem_of_getElem? (i := 4) rfl)⟩
theorem lw_p83 : lw_okq (⟨"TermDeskModel", "isValue", "(I)Z"⟩, 53) := ⟨⟨by decide +kernel, by decide +kernel⟩, lw_t5 (List.mem_of_getElem? (i := 126) rfl), lw_t7 (List.mem_of_getElem? (i := 21) rfl), lw_t7 (List.mem_of_getElem? (i := 22) rfl)⟩
theorem lw_p84 : lw_okq (⟨"TermDeskModel", "laysKeys", "(I)V"⟩, 53) := ⟨⟨by decide +kernel, by decide +kernel⟩, lw_t5 (List.mem_of_getElem? (i := 126) rfl), lw_t7 (List.mem_of_getElem? (i := 25) rfl), lw_t7 (List.mem_of_getElem? (i := 26) rfl)⟩
theorem lw_p85 : lw_okq (⟨"TermDeskModel", "valueOf", "(IIII)I"⟩, 53) := ⟨⟨by decide +kernel, by decide +kernel⟩, lw_t5 (List.mem_of_getElem? (i := 126) rfl), lw_t7 (List.mem_of_getElem? (i := 29) rfl), lw_t7 (List.mem_of_getElem? (i := 30) rfl)⟩
theorem lw_p86 : lw_okq (⟨"TermDeskModel", "power", "(II)I"⟩, 53) := ⟨⟨by decide +kernel, by decide +kernel⟩, lw_t5 (List.mem_of_getElem? (i := 126) rfl), lw_t7 (List.mem_of_getElem? (i := 33) rfl), lw_t7 (List.mem_of_getElem? (i := 34) rfl)⟩
theorem lw_p87 : lw_okq (⟨"TermDeskModel", "refusesDivision", "(II)I"⟩, 53) := ⟨⟨by decide +kernel, by decide +kernel⟩, lw_t5 (List.mem_of_getElem? (i := 126) rfl), lw_t7 (List.mem_of_getElem? (i := 63) rfl), lw_t7 (List.mem_of_getElem? (i := 64) rfl)⟩
theorem lw_p88 : lw_okq (⟨"TermDeskModel", "refusesSet", "(I)I"⟩, 53) := ⟨⟨by decide +kernel, by decide +kernel⟩, lw_t5 (List.mem_of_getElem? (i := 126) rfl), lw_t7 (List.mem_of_getElem? (i := 67) rfl), lw_t7 (List.mem_of_getElem? (i := 68) rfl)⟩
theorem lw_p89 : lw_okq (⟨"TermDeskModel", "laysRegister", "(I)V"⟩, 53) := ⟨⟨by decide +kernel, by decide +kernel⟩, lw_t5 (List.mem_of_getElem? (i := 126) rfl), lw_t7 (List.mem_of_getElem? (i := 71) rfl), lw_t7 (List.mem_of_getElem? (i := 72) rfl)⟩
theorem lw_p90 : lw_okq (⟨"TermDeskModel", "dividesBy", "(I)Z"⟩, 53) := ⟨⟨by decide +kernel, by decide +kernel⟩, lw_t5 (List.mem_of_getElem? (i := 126) rfl), lw_t7 (List.mem_of_getElem? (i := 75) rfl), lw_t7 (List.mem_of_getElem? (i := 76) rfl)⟩
theorem lw_p91 : lw_okq (⟨"TermDeskModel", "leadOf", "(I)I"⟩, 53) := ⟨⟨by decide +kernel, by decide +kernel⟩, lw_t5 (List.mem_of_getElem? (i := 126) rfl), lw_t7 (List.mem_of_getElem? (i := 79) rfl), lw_t7 (List.mem_of_getElem? (i := 80) rfl)⟩
theorem lw_p92 : lw_okq (⟨"TermDeskModel", "inverse", "(I)I"⟩, 53) := ⟨⟨by decide +kernel, by decide +kernel⟩, lw_t5 (List.mem_of_getElem? (i := 126) rfl), lw_t7 (List.mem_of_getElem? (i := 83) rfl), lw_t7 (List.mem_of_getElem? (i := 84) rfl)⟩
theorem lw_p93 : lw_okq (⟨"TermDeskModel", "divisorOf", "(II)I"⟩, 53) := ⟨⟨by decide +kernel, by decide +kernel⟩, lw_t5 (List.mem_of_getElem? (i := 126) rfl), lw_t7 (List.mem_of_getElem? (i := 87) rfl), lw_t7 (List.mem_of_getElem? (i := 88) rfl)⟩
theorem lw_p94 : lw_okq (⟨"TermDeskModel", "goesOn", "(II)Z"⟩, 53) := ⟨⟨by decide +kernel, by decide +kernel⟩, lw_t5 (List.mem_of_getElem? (i := 126) rfl), lw_t7 (List.mem_of_getElem? (i := 94) rfl), lw_t7 (List.mem_of_getElem? (i := 95) rfl)⟩
theorem lw_p95 : lw_okq (⟨"TermDeskModel", "firstMissing", "(II)I"⟩, 53) := ⟨⟨by decide +kernel, by decide +kernel⟩, lw_t5 (List.mem_of_getElem? (i := 126) rfl), lw_t7 (List.mem_of_getElem? (i := 109) rfl), lw_t7 (List.mem_of_getElem? (i := 110) rfl)⟩
def lw_privs_6 : List (MethodName × Nat) := [(⟨"TermDeskModel", "coef", "(II)I"⟩, 53), (⟨"TermDeskModel", "isReg", "(I)Z"⟩, 53), (⟨"TermDeskModel", "degreeBy", "(II)I"⟩, 53), (⟨"TermDeskModel", "isValue", "(I)Z"⟩, 53), (⟨"TermDeskModel", "laysKeys", "(I)V"⟩, 53), (⟨"TermDeskModel", "valueOf", "(IIII)I"⟩, 53), (⟨"TermDeskModel", "power", "(II)I"⟩, 53), (⟨"TermDeskModel", "refusesDivision", "(II)I"⟩, 53), (⟨"TermDeskModel", "refusesSet", "(I)I"⟩, 53), (⟨"TermDeskModel", "laysRegister", "(I)V"⟩, 53), (⟨"TermDeskModel", "dividesBy", "(I)Z"⟩, 53), (⟨"TermDeskModel", "leadOf", "(I)I"⟩, 53), (⟨"TermDeskModel", "inverse", "(I)I"⟩, 53), (⟨"TermDeskModel", "divisorOf", "(II)I"⟩, 53), (⟨"TermDeskModel", "goesOn", "(II)Z"⟩, 53), (⟨"TermDeskModel", "firstMissing", "(II)I"⟩, 53)]
theorem lw_r6 : ∀ q ∈ lw_privs_6, lw_okq q := List.forall_mem_cons.mpr ⟨lw_p80, List.forall_mem_cons.mpr ⟨lw_p81, List.forall_mem_cons.mpr ⟨lw_p82, List.forall_mem_cons.mpr ⟨lw_p83, List.forall_mem_cons.mpr ⟨lw_p84, List.forall_mem_cons.mpr ⟨lw_p85, List.forall_mem_cons.mpr ⟨lw_p86, List.forall_mem_cons.mpr ⟨lw_p87, List.forall_mem_cons.mpr ⟨lw_p88, List.forall_mem_cons.mpr ⟨lw_p89, List.forall_mem_cons.mpr ⟨lw_p90, List.forall_mem_cons.mpr ⟨lw_p91, List.forall_mem_cons.mpr ⟨lw_p92, List.forall_mem_cons.mpr ⟨lw_p93, List.forall_mem_cons.mpr ⟨lw_p94, List.forall_mem_cons.mpr ⟨lw_p95, fun _ h => absurd h List.not_mem_nil⟩⟩⟩⟩⟩⟩⟩⟩⟩⟩⟩⟩⟩⟩⟩⟩
theorem lw_p96 : lw_okq (⟨"TermDeskModel", "laysPair", "(II)Z"⟩, 53) := ⟨⟨by decide +kernel, by decide +kernel⟩, lw_t5 (List.mem_of_getElem? (i := 126) rfl), lw_t7 (List.mem_of_getElem? (i := 113) rfl), lw_t7 (List.mem_of_getElem? (i := 114) rfl)⟩
theorem lw_p97 : lw_okq (⟨"TermDeskModel", "clears", "()V"⟩, 53) := ⟨⟨by decide +kernel, by decide +kernel⟩, lw_t5 (List.mem_of_getElem? (i := 126) rfl), lw_t7 (List.mem_of_getElem? (i := 117) rfl), lw_t7 (List.mem_of_getElem? (i := 118) rfl)⟩
theorem lw_p98 : lw_okq (⟨"TermDeskModel", "puts", "(III)V"⟩, 53) := ⟨⟨by decide +kernel, by decide +kernel⟩, lw_t5 (List.mem_of_getElem? (i := 126) rfl), lw_t7 (List.mem_of_getElem? (i := 121) rfl), lw_t7 (List.mem_of_getElem? (i := 122) rfl)⟩
theorem lw_p99 : lw_okq (⟨"TermDeskModel", "workTerms", "()I"⟩, 53) := ⟨⟨by decide +kernel, by decide +kernel⟩, lw_t5 (List.mem_of_getElem? (i := 126) rfl), lw_t7 (List.mem_of_getElem? (i := 125) rfl), lw_t7 (List.mem_of_getElem? (i := 126) rfl)⟩
theorem lw_p100 : lw_okq (⟨"TermDeskModel", "areRegs", "(III)Z"⟩, 53) := ⟨⟨by decide +kernel, by decide +kernel⟩, lw_t5 (List.mem_of_getElem? (i := 126) rfl), lw_t7 (List.mem_of_getElem? (i := 133) rfl), lw_t7 (List.mem_of_getElem? (i := 134) rfl)⟩
theorem lw_p101 : lw_okq (⟨"TermDeskModel", "lays", "(I)I"⟩, 53) := ⟨⟨by decide +kernel, by decide +kernel⟩, lw_t5 (List.mem_of_getElem? (i := 126) rfl), lw_t7 (List.mem_of_getElem? (i := 137) rfl), lw_t7 (List.mem_of_getElem? (i := 138) rfl)⟩
theorem lw_p102 : lw_okq (⟨"TermDeskModel", "remembers", "(I)V"⟩, 53) := ⟨⟨by decide +kernel, by decide +kernel⟩, lw_t5 (List.mem_of_getElem? (i := 126) rfl), lw_t7 (List.mem_of_getElem? (i := 141) rfl), lw_t7 (List.mem_of_getElem? (i := 142) rfl)⟩
theorem lw_p103 : lw_okq (⟨"TermDeskModel", "hasThird", "(I)Z"⟩, 53) := ⟨⟨by decide +kernel, by decide +kernel⟩, lw_t5 (List.mem_of_getElem? (i := 126) rfl), lw_t7 (List.mem_of_getElem? (i := 189) rfl), lw_t7 (List.mem_of_getElem? (i := 190) rfl)⟩
theorem lw_p104 : lw_okq (⟨"TermDeskModel", "laysRows", "(I[I)V"⟩, 53) := ⟨⟨by decide +kernel, by decide +kernel⟩, lw_t5 (List.mem_of_getElem? (i := 126) rfl), lw_t7 (List.mem_of_getElem? (i := 193) rfl), lw_t7 (List.mem_of_getElem? (i := 194) rfl)⟩
theorem lw_p105 : lw_okq (⟨"TermDeskModel", "meetsRows", "()V"⟩, 53) := ⟨⟨by decide +kernel, by decide +kernel⟩, lw_t5 (List.mem_of_getElem? (i := 126) rfl), lw_t7 (List.mem_of_getElem? (i := 197) rfl), lw_t7 (List.mem_of_getElem? (i := 198) rfl)⟩
theorem lw_p106 : lw_okq (⟨"TermDeskModel", "contentOf", "([I[I)V"⟩, 53) := ⟨⟨by decide +kernel, by decide +kernel⟩, lw_t5 (List.mem_of_getElem? (i := 126) rfl), lw_t7 (List.mem_of_getElem? (i := 207) rfl), lw_t7 (List.mem_of_getElem? (i := 208) rfl)⟩
theorem lw_p107 : lw_okq (⟨"TermDeskModel", "meets", "([I[I)V"⟩, 53) := ⟨⟨by decide +kernel, by decide +kernel⟩, lw_t5 (List.mem_of_getElem? (i := 126) rfl), lw_t7 (List.mem_of_getElem? (i := 214) rfl), lw_t7 (List.mem_of_getElem? (i := 215) rfl)⟩
theorem lw_p108 : lw_okq (⟨"TermDeskModel", "leaves", "([II[II)I"⟩, 53) := ⟨⟨by decide +kernel, by decide +kernel⟩, lw_t5 (List.mem_of_getElem? (i := 126) rfl), lw_t7 (List.mem_of_getElem? (i := 218) rfl), lw_t7 (List.mem_of_getElem? (i := 219) rfl)⟩
theorem lw_p109 : lw_okq (⟨"TermDeskModel", "monics", "([I)V"⟩, 53) := ⟨⟨by decide +kernel, by decide +kernel⟩, lw_t5 (List.mem_of_getElem? (i := 126) rfl), lw_t7 (List.mem_of_getElem? (i := 222) rfl), lw_t7 (List.mem_of_getElem? (i := 223) rfl)⟩
theorem lw_p110 : lw_okq (⟨"TermDeskModel", "primitives", "([I)V"⟩, 53) := ⟨⟨by decide +kernel, by decide +kernel⟩, lw_t5 (List.mem_of_getElem? (i := 126) rfl), lw_t7 (List.mem_of_getElem? (i := 226) rfl), lw_t7 (List.mem_of_getElem? (i := 227) rfl)⟩
theorem lw_p111 : lw_okq (⟨"TermDeskModel", "goesBy", "([I[I[I)V"⟩, 53) := ⟨⟨by decide +kernel, by decide +kernel⟩, lw_t5 (List.mem_of_getElem? (i := 126) rfl), lw_t7 (List.mem_of_getElem? (i := 230) rfl), lw_t7 (List.mem_of_getElem? (i := 231) rfl)⟩
def lw_privs_7 : List (MethodName × Nat) := [(⟨"TermDeskModel", "laysPair", "(II)Z"⟩, 53), (⟨"TermDeskModel", "clears", "()V"⟩, 53), (⟨"TermDeskModel", "puts", "(III)V"⟩, 53), (⟨"TermDeskModel", "workTerms", "()I"⟩, 53), (⟨"TermDeskModel", "areRegs", "(III)Z"⟩, 53), (⟨"TermDeskModel", "lays", "(I)I"⟩, 53), (⟨"TermDeskModel", "remembers", "(I)V"⟩, 53), (⟨"TermDeskModel", "hasThird", "(I)Z"⟩, 53), (⟨"TermDeskModel", "laysRows", "(I[I)V"⟩, 53), (⟨"TermDeskModel", "meetsRows", "()V"⟩, 53), (⟨"TermDeskModel", "contentOf", "([I[I)V"⟩, 53), (⟨"TermDeskModel", "meets", "([I[I)V"⟩, 53), (⟨"TermDeskModel", "leaves", "([II[II)I"⟩, 53), (⟨"TermDeskModel", "monics", "([I)V"⟩, 53), (⟨"TermDeskModel", "primitives", "([I)V"⟩, 53), (⟨"TermDeskModel", "goesBy", "([I[I[I)V"⟩, 53)]
theorem lw_r7 : ∀ q ∈ lw_privs_7, lw_okq q := List.forall_mem_cons.mpr ⟨lw_p96, List.forall_mem_cons.mpr ⟨lw_p97, List.forall_mem_cons.mpr ⟨lw_p98, List.forall_mem_cons.mpr ⟨lw_p99, List.forall_mem_cons.mpr ⟨lw_p100, List.forall_mem_cons.mpr ⟨lw_p101, List.forall_mem_cons.mpr ⟨lw_p102, List.forall_mem_cons.mpr ⟨lw_p103, List.forall_mem_cons.mpr ⟨lw_p104, List.forall_mem_cons.mpr ⟨lw_p105, List.forall_mem_cons.mpr ⟨lw_p106, List.forall_mem_cons.mpr ⟨lw_p107, List.forall_mem_cons.mpr ⟨lw_p108, List.forall_mem_cons.mpr ⟨lw_p109, List.forall_mem_cons.mpr ⟨lw_p110, List.forall_mem_cons.mpr ⟨lw_p111, fun _ h => absurd h List.not_mem_nil⟩⟩⟩⟩⟩⟩⟩⟩⟩⟩⟩⟩⟩⟩⟩⟩
theorem lw_p112 : lw_okq (⟨"TermDeskModel", "takesOff", "([I[I)V"⟩, 53) := ⟨⟨by decide +kernel, by decide +kernel⟩, lw_t5 (List.mem_of_getElem? (i := 126) rfl), lw_t7 (List.mem_of_getElem? (i := 234) rfl), lw_t7 (List.mem_of_getElem? (i := 235) rfl)⟩
theorem lw_p113 : lw_okq (⟨"TermDeskModel", "laysWork", "([I)V"⟩, 53) := ⟨⟨by decide +kernel, by decide +kernel⟩, lw_t5 (List.mem_of_getElem? (i := 126) rfl), lw_t7 (List.mem_of_getElem? (i := 238) rfl), lw_t7 (List.mem_of_getElem? (i := 239) rfl)⟩
theorem lw_p114 : lw_okq (⟨"TermDeskModel", "monicWork", "()V"⟩, 53) := ⟨⟨by decide +kernel, by decide +kernel⟩, lw_t5 (List.mem_of_getElem? (i := 126) rfl), lw_t8 (List.mem_of_getElem? (i := 2) rfl), lw_t8 (List.mem_of_getElem? (i := 3) rfl)⟩
theorem lw_p115 : lw_okq (⟨"TermDeskModel", "freeRegister", "(I)I"⟩, 53) := ⟨⟨by decide +kernel, by decide +kernel⟩, lw_t5 (List.mem_of_getElem? (i := 126) rfl), lw_t8 (List.mem_of_getElem? (i := 18) rfl), lw_t8 (List.mem_of_getElem? (i := 19) rfl)⟩
theorem lw_p116 : lw_okq (⟨"TermDeskModel", "allTerms", "()I"⟩, 53) := ⟨⟨by decide +kernel, by decide +kernel⟩, lw_t5 (List.mem_of_getElem? (i := 126) rfl), lw_t8 (List.mem_of_getElem? (i := 38) rfl), lw_t8 (List.mem_of_getElem? (i := 39) rfl)⟩
def lw_privs_8 : List (MethodName × Nat) := [(⟨"TermDeskModel", "takesOff", "([I[I)V"⟩, 53), (⟨"TermDeskModel", "laysWork", "([I)V"⟩, 53), (⟨"TermDeskModel", "monicWork", "()V"⟩, 53), (⟨"TermDeskModel", "freeRegister", "(I)I"⟩, 53), (⟨"TermDeskModel", "allTerms", "()I"⟩, 53)]
theorem lw_r8 : ∀ q ∈ lw_privs_8, lw_okq q := List.forall_mem_cons.mpr ⟨lw_p112, List.forall_mem_cons.mpr ⟨lw_p113, List.forall_mem_cons.mpr ⟨lw_p114, List.forall_mem_cons.mpr ⟨lw_p115, List.forall_mem_cons.mpr ⟨lw_p116, fun _ h => absurd h List.not_mem_nil⟩⟩⟩⟩⟩
def lw_privs : List (MethodName × Nat) := lw_privs_1 ++ (lw_privs_2 ++ (lw_privs_3 ++ (lw_privs_4 ++ (lw_privs_5 ++ (lw_privs_6 ++ (lw_privs_7 ++ (lw_privs_8)))))))
def lw_tbl : List Cond := k2_sels lw_privs ++ tables_1
theorem lw_privs_ok : ∀ q ∈ lw_privs, lw_okq q := by
  show ∀ q ∈ lw_privs_1 ++ (lw_privs_2 ++ (lw_privs_3 ++ (lw_privs_4 ++ (lw_privs_5 ++ (lw_privs_6 ++ (lw_privs_7 ++ (lw_privs_8))))))), lw_okq q
  exact List.forall_mem_append.mpr ⟨lw_r1, List.forall_mem_append.mpr ⟨lw_r2, List.forall_mem_append.mpr ⟨lw_r3, List.forall_mem_append.mpr ⟨lw_r4, List.forall_mem_append.mpr ⟨lw_r5, List.forall_mem_append.mpr ⟨lw_r6, List.forall_mem_append.mpr ⟨lw_r7, lw_r8⟩⟩⟩⟩⟩⟩⟩
-- ===== ONE list of words for every method: the tables' words that hold all through a run =====
def lw_all : List Cond := lw_tbl.filter goodWord
/-- a word of the tables by its place: claim/WORDS.tsv -/
theorem lw_w {w : Cond} (i : Nat) (h : lw_tbl[i]? = some w) (g : goodWord w = true) : w ∈ lw_all := List.mem_filter.mpr ⟨List.mem_of_getElem? h, g⟩
theorem lw_all_tbl {w : Cond} (h : w ∈ lw_all) : w ∈ lw_tbl := (List.mem_filter.mp h).1
theorem lw_self : GoodIn lw_all lw_all := fun w h => ⟨h, good_of_word (List.mem_filter.mp h).2⟩
/-- a class's field words, by their places -/
theorem lw_in (ws : List Cond) (ps : List Nat) (hp : ws = ps.filterMap (fun i => lw_tbl[i]?)) (hg : ws.all goodWord = true) : ∀ w ∈ ws, w ∈ lw_all := by
  intro w h
  have h1 := List.all_eq_true.mp hg w h
  rw [hp] at h
  obtain ⟨i, -, hi⟩ := List.mem_filterMap.mp h
  exact lw_w i hi h1
/-- the words of a contract for the method y with code b, L locals, answer r -/
abbrev ws_ (y : MethodName) (b : ByteArray) (L : Nat) (r : Option FieldType) : List Cond := Cond.code y b L r :: lw_all
theorem lw_meth {y : MethodName} {b : ByteArray} {L : Nat} {r : Option FieldType} (h : Cond.code y b L r ∈ lw_all) : GoodIn lw_all (ws_ y b L r) := by
  intro w hw
  rcases List.mem_cons.mp hw with e | e
  · rw [e]
    exact lw_self _ h
  · exact lw_self _ e
theorem lw_app {a c : List Cond} (ha : ∀ w ∈ a, w ∈ lw_all) (hc : GoodIn lw_all c) : GoodIn lw_all (a ++ c) := by
  intro w hw
  rcases List.mem_append.mp hw with e | e
  · exact lw_self w (ha w e)
  · exact hc w e
/-- what a call through an object asks: cwV n hts (lw_V ..) -/
theorem lw_V {own : String} {idx : Nat} {C : String} {y : MethodName} {b : ByteArray} {L : Nat} {r : Option FieldType} (h1 : Cond.methodLink own idx y ∈ lw_all) (h2 : Cond.instanceMethod y ∈ lw_all) (h3 : Cond.selects C y y ∈ lw_all) (h4 : Cond.initialized C ∈ lw_all) (h5 : Cond.code y b L r ∈ lw_all) : GoodIn lw_all (wsV own idx C y (ws_ y b L r)) := by
  refine lw_app ?_ (lw_meth h5)
  intro w hw
  simp only [List.mem_cons, List.not_mem_nil, or_false] at hw
  rcases hw with e | e | e | e
  · rw [e]; exact h1
  · rw [e]; exact h2
  · rw [e]; exact h3
  · rw [e]; exact h4
/-- what a static call asks: va_cwS n hts (lw_S ..) -/
theorem lw_S {own : String} {idx : Nat} {y : MethodName} {b : ByteArray} {L : Nat} {r : Option FieldType} (h1 : Cond.methodLink own idx y ∈ lw_all) (h2 : Cond.static y ∈ lw_all) (h3 : Cond.initialized y.cls ∈ lw_all) (h4 : Cond.code y b L r ∈ lw_all) : GoodIn lw_all (va_wsS own idx y (ws_ y b L r)) := by
  refine lw_app ?_ (lw_meth h4)
  intro w hw
  simp only [List.mem_cons, List.not_mem_nil, or_false] at hw
  rcases hw with e | e | e
  · rw [e]; exact h1
  · rw [e]; exact h2
  · rw [e]; exact h3
/-- the words of a contract for a method WITH HANDLERS (hh: its table) -/
abbrev wsW_ (y : MethodName) (b : ByteArray) (L : Nat) (r : Option FieldType) (hh : List (Nat × Nat × Nat × Nat)) : List Cond := Cond.codeWith y b L r hh :: lw_all
theorem lw_methW {y : MethodName} {b : ByteArray} {L : Nat} {r : Option FieldType} {hh : List (Nat × Nat × Nat × Nat)} (h : Cond.codeWith y b L r hh ∈ lw_all) : GoodIn lw_all (wsW_ y b L r hh) := by
  intro w hw
  rcases List.mem_cons.mp hw with e | e
  · rw [e]
    exact lw_self _ h
  · exact lw_self _ e
/-- any list of words by their places (lw_in), good -/
theorem lw_good {ws : List Cond} (h : ∀ w ∈ ws, w ∈ lw_all) : GoodIn lw_all ws := fun w hw => lw_self w (h w hw)
/-- what a call of a method with handlers asks: vx_cwVW n hts (lw_VW ..), vx_cwSW n hts (lw_SW ..) -/
theorem lw_VW {own : String} {idx : Nat} {C : String} {y : MethodName} {b : ByteArray} {L : Nat} {r : Option FieldType} {hh : List (Nat × Nat × Nat × Nat)} (h1 : Cond.methodLink own idx y ∈ lw_all) (h2 : Cond.instanceMethod y ∈ lw_all) (h3 : Cond.selects C y y ∈ lw_all) (h4 : Cond.initialized C ∈ lw_all) (h5 : Cond.codeWith y b L r hh ∈ lw_all) : GoodIn lw_all (wsV own idx C y (wsW_ y b L r hh)) := by
  refine lw_app ?_ (lw_methW h5)
  intro w hw
  simp only [List.mem_cons, List.not_mem_nil, or_false] at hw
  rcases hw with e | e | e | e
  · rw [e]; exact h1
  · rw [e]; exact h2
  · rw [e]; exact h3
  · rw [e]; exact h4
theorem lw_SW {own : String} {idx : Nat} {y : MethodName} {b : ByteArray} {L : Nat} {r : Option FieldType} {hh : List (Nat × Nat × Nat × Nat)} (h1 : Cond.methodLink own idx y ∈ lw_all) (h2 : Cond.static y ∈ lw_all) (h3 : Cond.initialized y.cls ∈ lw_all) (h4 : Cond.codeWith y b L r hh ∈ lw_all) : GoodIn lw_all (va_wsS own idx y (wsW_ y b L r hh)) := by
  refine lw_app ?_ (lw_methW h4)
  intro w hw
  simp only [List.mem_cons, List.not_mem_nil, or_false] at hw
  rcases hw with e | e | e
  · rw [e]; exact h1
  · rw [e]; exact h2
  · rw [e]; exact h3
/-- a word by its place in its run of the tables -/
theorem lw_at {r : List Cond} (hr : ∀ w ∈ r, w ∈ lw_tbl) {w : Cond} (i : Nat) (h : r[i]? = some w) : w ∈ lw_tbl := hr w (List.mem_of_getElem? h)
theorem lw_g {w : Cond} (h : w ∈ lw_tbl) (g : goodWord w = true) : w ∈ lw_all := List.mem_filter.mpr ⟨h, g⟩
theorem lw_ms : ∀ w ∈ k2_sels lw_privs, w ∈ lw_tbl := fun w h => show w ∈ k2_sels lw_privs ++ tables_1 from List.mem_append_left _ h
theorem lw_m1 : ∀ w ∈ tables_1_1, w ∈ lw_tbl := fun w h => show w ∈ k2_sels lw_privs ++ tables_1 from List.mem_append_right (k2_sels lw_privs) (show w ∈ tables_1 from List.mem_append_left _ h)
theorem lw_m2 : ∀ w ∈ tables_1_2, w ∈ lw_tbl := fun w h => show w ∈ k2_sels lw_privs ++ tables_1 from List.mem_append_right (k2_sels lw_privs) (show w ∈ tables_1 from List.mem_append_right _ (List.mem_append_left _ h))
theorem lw_m3 : ∀ w ∈ tables_1_3, w ∈ lw_tbl := fun w h => show w ∈ k2_sels lw_privs ++ tables_1 from List.mem_append_right (k2_sels lw_privs) (show w ∈ tables_1 from List.mem_append_right _ (List.mem_append_right _ (List.mem_append_left _ h)))
theorem lw_m4 : ∀ w ∈ tables_1_4, w ∈ lw_tbl := fun w h => show w ∈ k2_sels lw_privs ++ tables_1 from List.mem_append_right (k2_sels lw_privs) (show w ∈ tables_1 from List.mem_append_right _ (List.mem_append_right _ (List.mem_append_right _ (List.mem_append_left _ h))))
theorem lw_m5 : ∀ w ∈ tables_1_5, w ∈ lw_tbl := fun w h => show w ∈ k2_sels lw_privs ++ tables_1 from List.mem_append_right (k2_sels lw_privs) (show w ∈ tables_1 from List.mem_append_right _ (List.mem_append_right _ (List.mem_append_right _ (List.mem_append_right _ (List.mem_append_left _ h)))))
theorem lw_m6 : ∀ w ∈ tables_1_6, w ∈ lw_tbl := fun w h => show w ∈ k2_sels lw_privs ++ tables_1 from List.mem_append_right (k2_sels lw_privs) (show w ∈ tables_1 from List.mem_append_right _ (List.mem_append_right _ (List.mem_append_right _ (List.mem_append_right _ (List.mem_append_right _ (List.mem_append_left _ h))))))
theorem lw_m7 : ∀ w ∈ tables_1_7, w ∈ lw_tbl := fun w h => show w ∈ k2_sels lw_privs ++ tables_1 from List.mem_append_right (k2_sels lw_privs) (show w ∈ tables_1 from List.mem_append_right _ (List.mem_append_right _ (List.mem_append_right _ (List.mem_append_right _ (List.mem_append_right _ (List.mem_append_right _ (List.mem_append_left _ h)))))))
theorem lw_m8 : ∀ w ∈ tables_1_8, w ∈ lw_tbl := fun w h => show w ∈ k2_sels lw_privs ++ tables_1 from List.mem_append_right (k2_sels lw_privs) (show w ∈ tables_1 from List.mem_append_right _ (List.mem_append_right _ (List.mem_append_right _ (List.mem_append_right _ (List.mem_append_right _ (List.mem_append_right _ (List.mem_append_right _ h)))))))
theorem qs0 : (Cond.selects "java/lang/Throwable" ⟨"java/lang/Throwable", "fillInStackTrace", "(I)Ljava/lang/Throwable;"⟩ ⟨"java/lang/Throwable", "fillInStackTrace", "(I)Ljava/lang/Throwable;"⟩) ∈ lw_all := lw_g (lw_at lw_ms 0 rfl) rfl
theorem qs1 : (Cond.selects "TermDesk" ⟨"TermDesk", "bytes", "(I)V"⟩ ⟨"TermDesk", "bytes", "(I)V"⟩) ∈ lw_all := lw_g (lw_at lw_ms 1 rfl) rfl
theorem qs2 : (Cond.selects "TermDesk" ⟨"TermDesk", "anew", "()V"⟩ ⟨"TermDesk", "anew", "()V"⟩) ∈ lw_all := lw_g (lw_at lw_ms 2 rfl) rfl
theorem qs3 : (Cond.selects "TermDesk" ⟨"TermDesk", "no", "(I)I"⟩ ⟨"TermDesk", "no", "(I)I"⟩) ∈ lw_all := lw_g (lw_at lw_ms 3 rfl) rfl
theorem qs4 : (Cond.selects "TermDesk$Scanner" ⟨"TermDesk$Scanner", "step", "()V"⟩ ⟨"TermDesk$Scanner", "step", "()V"⟩) ∈ lw_all := lw_g (lw_at lw_ms 4 rfl) rfl
theorem qs5 : (Cond.selects "TermDesk$Scanner" ⟨"TermDesk$Scanner", "see", "(I)I"⟩ ⟨"TermDesk$Scanner", "see", "(I)I"⟩) ∈ lw_all := lw_g (lw_at lw_ms 5 rfl) rfl
theorem qs6 : (Cond.selects "TermDesk$Scanner" ⟨"TermDesk$Scanner", "isSmall", "(I)Z"⟩ ⟨"TermDesk$Scanner", "isSmall", "(I)Z"⟩) ∈ lw_all := lw_g (lw_at lw_ms 6 rfl) rfl
theorem qs7 : (Cond.selects "TermDesk$Scanner" ⟨"TermDesk$Scanner", "isDigit", "(I)Z"⟩ ⟨"TermDesk$Scanner", "isDigit", "(I)Z"⟩) ∈ lw_all := lw_g (lw_at lw_ms 7 rfl) rfl
theorem qs8 : (Cond.selects "TermDesk$Scanner" ⟨"TermDesk$Scanner", "line", "()V"⟩ ⟨"TermDesk$Scanner", "line", "()V"⟩) ∈ lw_all := lw_g (lw_at lw_ms 8 rfl) rfl
theorem qs9 : (Cond.selects "TermDesk$Scanner" ⟨"TermDesk$Scanner", "must", "(Z)V"⟩ ⟨"TermDesk$Scanner", "must", "(Z)V"⟩) ∈ lw_all := lw_g (lw_at lw_ms 9 rfl) rfl
theorem qs10 : (Cond.selects "TermDesk$Scanner" ⟨"TermDesk$Scanner", "fail", "(I)LTermDesk$Refused;"⟩ ⟨"TermDesk$Scanner", "fail", "(I)LTermDesk$Refused;"⟩) ∈ lw_all := lw_g (lw_at lw_ms 10 rfl) rfl
theorem qs11 : (Cond.selects "TermDesk$Scanner" ⟨"TermDesk$Scanner", "ringLine", "()V"⟩ ⟨"TermDesk$Scanner", "ringLine", "()V"⟩) ∈ lw_all := lw_g (lw_at lw_ms 11 rfl) rfl
theorem qs12 : (Cond.selects "TermDesk$Scanner" ⟨"TermDesk$Scanner", "good", "(ZI)V"⟩ ⟨"TermDesk$Scanner", "good", "(ZI)V"⟩) ∈ lw_all := lw_g (lw_at lw_ms 12 rfl) rfl
theorem qs13 : (Cond.selects "TermDesk$Scanner" ⟨"TermDesk$Scanner", "takes", "(Ljava/lang/String;)V"⟩ ⟨"TermDesk$Scanner", "takes", "(Ljava/lang/String;)V"⟩) ∈ lw_all := lw_g (lw_at lw_ms 13 rfl) rfl
theorem qs14 : (Cond.selects "TermDesk$Scanner" ⟨"TermDesk$Scanner", "is", "(Ljava/lang/String;)Z"⟩ ⟨"TermDesk$Scanner", "is", "(Ljava/lang/String;)Z"⟩) ∈ lw_all := lw_g (lw_at lw_ms 14 rfl) rfl
theorem qs15 : (Cond.selects "TermDesk$Scanner" ⟨"TermDesk$Scanner", "unknown", "()I"⟩ ⟨"TermDesk$Scanner", "unknown", "()I"⟩) ∈ lw_all := lw_g (lw_at lw_ms 15 rfl) rfl
theorem qs16 : (Cond.selects "TermDesk$Scanner" ⟨"TermDesk$Scanner", "polyLine", "()V"⟩ ⟨"TermDesk$Scanner", "polyLine", "()V"⟩) ∈ lw_all := lw_g (lw_at lw_ms 16 rfl) rfl
theorem qs17 : (Cond.selects "TermDesk$Scanner" ⟨"TermDesk$Scanner", "termHere", "(Z)V"⟩ ⟨"TermDesk$Scanner", "termHere", "(Z)V"⟩) ∈ lw_all := lw_g (lw_at lw_ms 17 rfl) rfl
theorem qs18 : (Cond.selects "TermDesk" ⟨"TermDesk", "layInverses", "()V"⟩ ⟨"TermDesk", "layInverses", "()V"⟩) ∈ lw_all := lw_g (lw_at lw_ms 18 rfl) rfl
theorem qs19 : (Cond.selects "TermDesk" ⟨"TermDesk", "becomes", "(III)V"⟩ ⟨"TermDesk", "becomes", "(III)V"⟩) ∈ lw_all := lw_g (lw_at lw_ms 19 rfl) rfl
theorem qs20 : (Cond.selects "TermDesk$Scanner" ⟨"TermDesk$Scanner", "poly", "(I)LTermDesk$Poly;"⟩ ⟨"TermDesk$Scanner", "poly", "(I)LTermDesk$Poly;"⟩) ∈ lw_all := lw_g (lw_at lw_ms 20 rfl) rfl
theorem qs21 : (Cond.selects "TermDesk" ⟨"TermDesk", "blank", "()[I"⟩ ⟨"TermDesk", "blank", "()[I"⟩) ∈ lw_all := lw_g (lw_at lw_ms 21 rfl) rfl
theorem qs22 : (Cond.selects "TermDesk" ⟨"TermDesk", "reduced", "(I)I"⟩ ⟨"TermDesk", "reduced", "(I)I"⟩) ∈ lw_all := lw_g (lw_at lw_ms 22 rfl) rfl
theorem qs23 : (Cond.selects "TermDesk" ⟨"TermDesk", "sorted", "([I)LTermDesk$Poly;"⟩ ⟨"TermDesk", "sorted", "([I)LTermDesk$Poly;"⟩) ∈ lw_all := lw_g (lw_at lw_ms 23 rfl) rfl
theorem qs24 : (Cond.selects "TermDesk" ⟨"TermDesk", "why", "(Z)I"⟩ ⟨"TermDesk", "why", "(Z)I"⟩) ∈ lw_all := lw_g (lw_at lw_ms 24 rfl) rfl
theorem qs25 : (Cond.selects "TermDesk" ⟨"TermDesk", "why", "(ZZ)I"⟩ ⟨"TermDesk", "why", "(ZZ)I"⟩) ∈ lw_all := lw_g (lw_at lw_ms 25 rfl) rfl
theorem qs26 : (Cond.selects "TermDesk" ⟨"TermDesk", "isRefused", "(I)Z"⟩ ⟨"TermDesk", "isRefused", "(I)Z"⟩) ∈ lw_all := lw_g (lw_at lw_ms 26 rfl) rfl
theorem qs27 : (Cond.selects "TermDesk" ⟨"TermDesk", "filled", "()I"⟩ ⟨"TermDesk", "filled", "()I"⟩) ∈ lw_all := lw_g (lw_at lw_ms 27 rfl) rfl
theorem qs28 : (Cond.selects "TermDesk" ⟨"TermDesk", "spread", "(LTermDesk$Poly;)[I"⟩ ⟨"TermDesk", "spread", "(LTermDesk$Poly;)[I"⟩) ∈ lw_all := lw_g (lw_at lw_ms 28 rfl) rfl
theorem qs29 : (Cond.selects "TermDesk" ⟨"TermDesk", "areValues", "([I)Z"⟩ ⟨"TermDesk", "areValues", "([I)Z"⟩) ∈ lw_all := lw_g (lw_at lw_ms 29 rfl) rfl
theorem qs30 : (Cond.selects "TermDesk" ⟨"TermDesk", "valueOf", "(LTermDesk$Poly;III)I"⟩ ⟨"TermDesk", "valueOf", "(LTermDesk$Poly;III)I"⟩) ∈ lw_all := lw_g (lw_at lw_ms 30 rfl) rfl
theorem qs31 : (Cond.selects "TermDesk" ⟨"TermDesk", "power", "(II)I"⟩ ⟨"TermDesk", "power", "(II)I"⟩) ∈ lw_all := lw_g (lw_at lw_ms 31 rfl) rfl
theorem qs32 : (Cond.selects "TermDesk" ⟨"TermDesk", "divisionWhy", "(ZZII)I"⟩ ⟨"TermDesk", "divisionWhy", "(ZZII)I"⟩) ∈ lw_all := lw_g (lw_at lw_ms 32 rfl) rfl
theorem qs33 : (Cond.selects "TermDesk" ⟨"TermDesk", "divides", "(LTermDesk$Poly;I)I"⟩ ⟨"TermDesk", "divides", "(LTermDesk$Poly;I)I"⟩) ∈ lw_all := lw_g (lw_at lw_ms 33 rfl) rfl
theorem qs34 : (Cond.selects "TermDesk" ⟨"TermDesk", "hasZero", "(I)Z"⟩ ⟨"TermDesk", "hasZero", "(I)Z"⟩) ∈ lw_all := lw_g (lw_at lw_ms 34 rfl) rfl
theorem qs35 : (Cond.selects "TermDesk$Division" ⟨"TermDesk$Division", "step", "()V"⟩ ⟨"TermDesk$Division", "step", "()V"⟩) ∈ lw_all := lw_g (lw_at lw_ms 35 rfl) rfl
theorem qs36 : (Cond.selects "TermDesk$Division" ⟨"TermDesk$Division", "divisor", "()I"⟩ ⟨"TermDesk$Division", "divisor", "()I"⟩) ∈ lw_all := lw_g (lw_at lw_ms 36 rfl) rfl
theorem qs37 : (Cond.selects "TermDesk" ⟨"TermDesk", "merges", "(LTermDesk$Row;[I[IILTermDesk$Poly;II)LTermDesk$Row;"⟩ ⟨"TermDesk", "merges", "(LTermDesk$Row;[I[IILTermDesk$Poly;II)LTermDesk$Row;"⟩) ∈ lw_all := lw_g (lw_at lw_ms 37 rfl) rfl
theorem qs38 : (Cond.selects "TermDesk" ⟨"TermDesk", "leaves", "(III)I"⟩ ⟨"TermDesk", "leaves", "(III)I"⟩) ∈ lw_all := lw_g (lw_at lw_ms 38 rfl) rfl
theorem qs39 : (Cond.selects "TermDesk" ⟨"TermDesk", "pair", "(LTermDesk$Poly;LTermDesk$Poly;)LTermDesk$Poly;"⟩ ⟨"TermDesk", "pair", "(LTermDesk$Poly;LTermDesk$Poly;)LTermDesk$Poly;"⟩) ∈ lw_all := lw_g (lw_at lw_ms 39 rfl) rfl
theorem qs40 : (Cond.selects "TermDesk" ⟨"TermDesk", "monic", "(LTermDesk$Poly;)LTermDesk$Poly;"⟩ ⟨"TermDesk", "monic", "(LTermDesk$Poly;)LTermDesk$Poly;"⟩) ∈ lw_all := lw_g (lw_at lw_ms 40 rfl) rfl
theorem qs41 : (Cond.selects "TermDesk" ⟨"TermDesk", "scaled", "(LTermDesk$Poly;I)LTermDesk$Poly;"⟩ ⟨"TermDesk", "scaled", "(LTermDesk$Poly;I)LTermDesk$Poly;"⟩) ∈ lw_all := lw_g (lw_at lw_ms 41 rfl) rfl
theorem qs42 : (Cond.selects "TermDesk" ⟨"TermDesk", "sum", "(LTermDesk$Poly;LTermDesk$Poly;II)LTermDesk$Poly;"⟩ ⟨"TermDesk", "sum", "(LTermDesk$Poly;LTermDesk$Poly;II)LTermDesk$Poly;"⟩) ∈ lw_all := lw_g (lw_at lw_ms 42 rfl) rfl
theorem qs43 : (Cond.selects "TermDesk" ⟨"TermDesk", "lays", "(LTermDesk$Poly;I)I"⟩ ⟨"TermDesk", "lays", "(LTermDesk$Poly;I)I"⟩) ∈ lw_all := lw_g (lw_at lw_ms 43 rfl) rfl
theorem qs44 : (Cond.selects "TermDesk" ⟨"TermDesk", "keeps", "()V"⟩ ⟨"TermDesk", "keeps", "()V"⟩) ∈ lw_all := lw_g (lw_at lw_ms 44 rfl) rfl
theorem qs45 : (Cond.selects "TermDesk" ⟨"TermDesk", "times", "(LTermDesk$Poly;LTermDesk$Poly;)LTermDesk$Poly;"⟩ ⟨"TermDesk", "times", "(LTermDesk$Poly;LTermDesk$Poly;)LTermDesk$Poly;"⟩) ∈ lw_all := lw_g (lw_at lw_ms 45 rfl) rfl
theorem qs46 : (Cond.selects "TermDesk$Heap" ⟨"TermDesk$Heap", "puts", "(III)V"⟩ ⟨"TermDesk$Heap", "puts", "(III)V"⟩) ∈ lw_all := lw_g (lw_at lw_ms 46 rfl) rfl
theorem qs47 : (Cond.selects "TermDesk" ⟨"TermDesk", "hasThird", "(I)Z"⟩ ⟨"TermDesk", "hasThird", "(I)Z"⟩) ∈ lw_all := lw_g (lw_at lw_ms 47 rfl) rfl
theorem qs48 : (Cond.selects "TermDesk" ⟨"TermDesk", "common", "(LTermDesk$Poly;LTermDesk$Poly;)LTermDesk$Poly;"⟩ ⟨"TermDesk", "common", "(LTermDesk$Poly;LTermDesk$Poly;)LTermDesk$Poly;"⟩) ∈ lw_all := lw_g (lw_at lw_ms 48 rfl) rfl
theorem qs49 : (Cond.selects "TermDesk" ⟨"TermDesk", "lays", "(LTermDesk$Poly;[[I)[[I"⟩ ⟨"TermDesk", "lays", "(LTermDesk$Poly;[[I)[[I"⟩) ∈ lw_all := lw_g (lw_at lw_ms 49 rfl) rfl
theorem qs50 : (Cond.selects "TermDesk" ⟨"TermDesk", "primitive", "([[I)[I"⟩ ⟨"TermDesk", "primitive", "([[I)[I"⟩) ∈ lw_all := lw_g (lw_at lw_ms 50 rfl) rfl
theorem qs51 : (Cond.selects "TermDesk" ⟨"TermDesk", "contentOf", "([[I)[I"⟩ ⟨"TermDesk", "contentOf", "([[I)[I"⟩) ∈ lw_all := lw_g (lw_at lw_ms 51 rfl) rfl
theorem qs52 : (Cond.selects "TermDesk" ⟨"TermDesk", "leaves", "([I[I)V"⟩ ⟨"TermDesk", "leaves", "([I[I)V"⟩) ∈ lw_all := lw_g (lw_at lw_ms 52 rfl) rfl
theorem qs53 : (Cond.selects "TermDesk" ⟨"TermDesk", "dividesBy", "([I[I)V"⟩ ⟨"TermDesk", "dividesBy", "([I[I)V"⟩) ∈ lw_all := lw_g (lw_at lw_ms 53 rfl) rfl
theorem qs54 : (Cond.selects "TermDesk" ⟨"TermDesk", "leaves", "([[I[[I)V"⟩ ⟨"TermDesk", "leaves", "([[I[[I)V"⟩) ∈ lw_all := lw_g (lw_at lw_ms 54 rfl) rfl
theorem qs55 : (Cond.selects "TermDesk" ⟨"TermDesk", "mixes", "([I[I[I[I)V"⟩ ⟨"TermDesk", "mixes", "([I[I[I[I)V"⟩) ∈ lw_all := lw_g (lw_at lw_ms 55 rfl) rfl
theorem qs56 : (Cond.selects "TermDesk" ⟨"TermDesk", "inY", "([I)LTermDesk$Poly;"⟩ ⟨"TermDesk", "inY", "([I)LTermDesk$Poly;"⟩) ∈ lw_all := lw_g (lw_at lw_ms 56 rfl) rfl
theorem qs57 : (Cond.selects "TermDesk" ⟨"TermDesk", "free", "(I)I"⟩ ⟨"TermDesk", "free", "(I)I"⟩) ∈ lw_all := lw_g (lw_at lw_ms 57 rfl) rfl
theorem qs58 : (Cond.selects "TermDeskModel" ⟨"TermDeskModel", "refused", "(I)I"⟩ ⟨"TermDeskModel", "refused", "(I)I"⟩) ∈ lw_all := lw_g (lw_at lw_ms 58 rfl) rfl
theorem qs59 : (Cond.selects "TermDeskModel" ⟨"TermDeskModel", "readAll", "()V"⟩ ⟨"TermDeskModel", "readAll", "()V"⟩) ∈ lw_all := lw_g (lw_at lw_ms 59 rfl) rfl
theorem qs60 : (Cond.selects "TermDeskModel" ⟨"TermDeskModel", "next", "()V"⟩ ⟨"TermDeskModel", "next", "()V"⟩) ∈ lw_all := lw_g (lw_at lw_ms 60 rfl) rfl
theorem qs61 : (Cond.selects "TermDeskModel" ⟨"TermDeskModel", "byteAt", "(I)I"⟩ ⟨"TermDeskModel", "byteAt", "(I)I"⟩) ∈ lw_all := lw_g (lw_at lw_ms 61 rfl) rfl
theorem qs62 : (Cond.selects "TermDeskModel" ⟨"TermDeskModel", "nextWord", "()V"⟩ ⟨"TermDeskModel", "nextWord", "()V"⟩) ∈ lw_all := lw_g (lw_at lw_ms 62 rfl) rfl
theorem qs63 : (Cond.selects "TermDeskModel" ⟨"TermDeskModel", "nextWhole", "()V"⟩ ⟨"TermDeskModel", "nextWhole", "()V"⟩) ∈ lw_all := lw_g (lw_at lw_ms 63 rfl) rfl
theorem qs64 : (Cond.selects "TermDeskModel" ⟨"TermDeskModel", "readLine", "()V"⟩ ⟨"TermDeskModel", "readLine", "()V"⟩) ∈ lw_all := lw_g (lw_at lw_ms 64 rfl) rfl
theorem qs65 : (Cond.selects "TermDeskModel" ⟨"TermDeskModel", "isWord", "(Ljava/lang/String;)Z"⟩ ⟨"TermDeskModel", "isWord", "(Ljava/lang/String;)Z"⟩) ∈ lw_all := lw_g (lw_at lw_ms 65 rfl) rfl
theorem qs66 : (Cond.selects "TermDeskModel" ⟨"TermDeskModel", "readRing", "()V"⟩ ⟨"TermDeskModel", "readRing", "()V"⟩) ∈ lw_all := lw_g (lw_at lw_ms 66 rfl) rfl
theorem qs67 : (Cond.selects "TermDeskModel" ⟨"TermDeskModel", "flaw", "(I)V"⟩ ⟨"TermDeskModel", "flaw", "(I)V"⟩) ∈ lw_all := lw_g (lw_at lw_ms 67 rfl) rfl
theorem qs68 : (Cond.selects "TermDeskModel" ⟨"TermDeskModel", "needs", "(Ljava/lang/String;)V"⟩ ⟨"TermDeskModel", "needs", "(Ljava/lang/String;)V"⟩) ∈ lw_all := lw_g (lw_at lw_ms 68 rfl) rfl
theorem qs69 : (Cond.selects "TermDeskModel" ⟨"TermDeskModel", "readUnknown", "(II)I"⟩ ⟨"TermDeskModel", "readUnknown", "(II)I"⟩) ∈ lw_all := lw_g (lw_at lw_ms 69 rfl) rfl
theorem qs70 : (Cond.selects "TermDeskModel" ⟨"TermDeskModel", "unknownHere", "()I"⟩ ⟨"TermDeskModel", "unknownHere", "()I"⟩) ∈ lw_all := lw_g (lw_at lw_ms 70 rfl) rfl
theorem qs71 : (Cond.selects "TermDeskModel" ⟨"TermDeskModel", "readPoly", "()V"⟩ ⟨"TermDeskModel", "readPoly", "()V"⟩) ∈ lw_all := lw_g (lw_at lw_ms 71 rfl) rfl
theorem qs72 : (Cond.selects "TermDeskModel" ⟨"TermDeskModel", "readTerm", "(Z)V"⟩ ⟨"TermDeskModel", "readTerm", "(Z)V"⟩) ∈ lw_all := lw_g (lw_at lw_ms 72 rfl) rfl
theorem qs73 : (Cond.selects "TermDeskModel" ⟨"TermDeskModel", "laysOrder", "()V"⟩ ⟨"TermDeskModel", "laysOrder", "()V"⟩) ∈ lw_all := lw_g (lw_at lw_ms 73 rfl) rfl
theorem qs74 : (Cond.selects "TermDeskModel" ⟨"TermDeskModel", "laysKey", "(III)V"⟩ ⟨"TermDeskModel", "laysKey", "(III)V"⟩) ∈ lw_all := lw_g (lw_at lw_ms 74 rfl) rfl
theorem qs75 : (Cond.selects "TermDeskModel" ⟨"TermDeskModel", "third", "()I"⟩ ⟨"TermDeskModel", "third", "()I"⟩) ∈ lw_all := lw_g (lw_at lw_ms 75 rfl) rfl
theorem qs76 : (Cond.selects "TermDeskModel" ⟨"TermDeskModel", "good", "(I)I"⟩ ⟨"TermDeskModel", "good", "(I)I"⟩) ∈ lw_all := lw_g (lw_at lw_ms 76 rfl) rfl
theorem qs77 : (Cond.selects "TermDeskModel" ⟨"TermDeskModel", "notZero", "()I"⟩ ⟨"TermDeskModel", "notZero", "()I"⟩) ∈ lw_all := lw_g (lw_at lw_ms 77 rfl) rfl
theorem qs78 : (Cond.selects "TermDeskModel" ⟨"TermDeskModel", "isZero", "(I)Z"⟩ ⟨"TermDeskModel", "isZero", "(I)Z"⟩) ∈ lw_all := lw_g (lw_at lw_ms 78 rfl) rfl
theorem qs79 : (Cond.selects "TermDeskModel" ⟨"TermDeskModel", "termsOf", "(I)I"⟩ ⟨"TermDeskModel", "termsOf", "(I)I"⟩) ∈ lw_all := lw_g (lw_at lw_ms 79 rfl) rfl
theorem qs80 : (Cond.selects "TermDeskModel" ⟨"TermDeskModel", "coef", "(II)I"⟩ ⟨"TermDeskModel", "coef", "(II)I"⟩) ∈ lw_all := lw_g (lw_at lw_ms 80 rfl) rfl
theorem qs81 : (Cond.selects "TermDeskModel" ⟨"TermDeskModel", "isReg", "(I)Z"⟩ ⟨"TermDeskModel", "isReg", "(I)Z"⟩) ∈ lw_all := lw_g (lw_at lw_ms 81 rfl) rfl
theorem qs82 : (Cond.selects "TermDeskModel" ⟨"TermDeskModel", "degreeBy", "(II)I"⟩ ⟨"TermDeskModel", "degreeBy", "(II)I"⟩) ∈ lw_all := lw_g (lw_at lw_ms 82 rfl) rfl
theorem qs83 : (Cond.selects "TermDeskModel" ⟨"TermDeskModel", "isValue", "(I)Z"⟩ ⟨"TermDeskModel", "isValue", "(I)Z"⟩) ∈ lw_all := lw_g (lw_at lw_ms 83 rfl) rfl
theorem qs84 : (Cond.selects "TermDeskModel" ⟨"TermDeskModel", "laysKeys", "(I)V"⟩ ⟨"TermDeskModel", "laysKeys", "(I)V"⟩) ∈ lw_all := lw_g (lw_at lw_ms 84 rfl) rfl
theorem qs85 : (Cond.selects "TermDeskModel" ⟨"TermDeskModel", "valueOf", "(IIII)I"⟩ ⟨"TermDeskModel", "valueOf", "(IIII)I"⟩) ∈ lw_all := lw_g (lw_at lw_ms 85 rfl) rfl
theorem qs86 : (Cond.selects "TermDeskModel" ⟨"TermDeskModel", "power", "(II)I"⟩ ⟨"TermDeskModel", "power", "(II)I"⟩) ∈ lw_all := lw_g (lw_at lw_ms 86 rfl) rfl
theorem qs87 : (Cond.selects "TermDeskModel" ⟨"TermDeskModel", "refusesDivision", "(II)I"⟩ ⟨"TermDeskModel", "refusesDivision", "(II)I"⟩) ∈ lw_all := lw_g (lw_at lw_ms 87 rfl) rfl
theorem qs88 : (Cond.selects "TermDeskModel" ⟨"TermDeskModel", "refusesSet", "(I)I"⟩ ⟨"TermDeskModel", "refusesSet", "(I)I"⟩) ∈ lw_all := lw_g (lw_at lw_ms 88 rfl) rfl
theorem qs89 : (Cond.selects "TermDeskModel" ⟨"TermDeskModel", "laysRegister", "(I)V"⟩ ⟨"TermDeskModel", "laysRegister", "(I)V"⟩) ∈ lw_all := lw_g (lw_at lw_ms 89 rfl) rfl
theorem qs90 : (Cond.selects "TermDeskModel" ⟨"TermDeskModel", "dividesBy", "(I)Z"⟩ ⟨"TermDeskModel", "dividesBy", "(I)Z"⟩) ∈ lw_all := lw_g (lw_at lw_ms 90 rfl) rfl
theorem qs91 : (Cond.selects "TermDeskModel" ⟨"TermDeskModel", "leadOf", "(I)I"⟩ ⟨"TermDeskModel", "leadOf", "(I)I"⟩) ∈ lw_all := lw_g (lw_at lw_ms 91 rfl) rfl
theorem qs92 : (Cond.selects "TermDeskModel" ⟨"TermDeskModel", "inverse", "(I)I"⟩ ⟨"TermDeskModel", "inverse", "(I)I"⟩) ∈ lw_all := lw_g (lw_at lw_ms 92 rfl) rfl
theorem qs93 : (Cond.selects "TermDeskModel" ⟨"TermDeskModel", "divisorOf", "(II)I"⟩ ⟨"TermDeskModel", "divisorOf", "(II)I"⟩) ∈ lw_all := lw_g (lw_at lw_ms 93 rfl) rfl
theorem qs94 : (Cond.selects "TermDeskModel" ⟨"TermDeskModel", "goesOn", "(II)Z"⟩ ⟨"TermDeskModel", "goesOn", "(II)Z"⟩) ∈ lw_all := lw_g (lw_at lw_ms 94 rfl) rfl
theorem qs95 : (Cond.selects "TermDeskModel" ⟨"TermDeskModel", "firstMissing", "(II)I"⟩ ⟨"TermDeskModel", "firstMissing", "(II)I"⟩) ∈ lw_all := lw_g (lw_at lw_ms 95 rfl) rfl
theorem qs96 : (Cond.selects "TermDeskModel" ⟨"TermDeskModel", "laysPair", "(II)Z"⟩ ⟨"TermDeskModel", "laysPair", "(II)Z"⟩) ∈ lw_all := lw_g (lw_at lw_ms 96 rfl) rfl
theorem qs97 : (Cond.selects "TermDeskModel" ⟨"TermDeskModel", "clears", "()V"⟩ ⟨"TermDeskModel", "clears", "()V"⟩) ∈ lw_all := lw_g (lw_at lw_ms 97 rfl) rfl
theorem qs98 : (Cond.selects "TermDeskModel" ⟨"TermDeskModel", "puts", "(III)V"⟩ ⟨"TermDeskModel", "puts", "(III)V"⟩) ∈ lw_all := lw_g (lw_at lw_ms 98 rfl) rfl
theorem qs99 : (Cond.selects "TermDeskModel" ⟨"TermDeskModel", "workTerms", "()I"⟩ ⟨"TermDeskModel", "workTerms", "()I"⟩) ∈ lw_all := lw_g (lw_at lw_ms 99 rfl) rfl
theorem qs100 : (Cond.selects "TermDeskModel" ⟨"TermDeskModel", "areRegs", "(III)Z"⟩ ⟨"TermDeskModel", "areRegs", "(III)Z"⟩) ∈ lw_all := lw_g (lw_at lw_ms 100 rfl) rfl
theorem qs101 : (Cond.selects "TermDeskModel" ⟨"TermDeskModel", "lays", "(I)I"⟩ ⟨"TermDeskModel", "lays", "(I)I"⟩) ∈ lw_all := lw_g (lw_at lw_ms 101 rfl) rfl
theorem qs102 : (Cond.selects "TermDeskModel" ⟨"TermDeskModel", "remembers", "(I)V"⟩ ⟨"TermDeskModel", "remembers", "(I)V"⟩) ∈ lw_all := lw_g (lw_at lw_ms 102 rfl) rfl
theorem qs103 : (Cond.selects "TermDeskModel" ⟨"TermDeskModel", "hasThird", "(I)Z"⟩ ⟨"TermDeskModel", "hasThird", "(I)Z"⟩) ∈ lw_all := lw_g (lw_at lw_ms 103 rfl) rfl
theorem qs104 : (Cond.selects "TermDeskModel" ⟨"TermDeskModel", "laysRows", "(I[I)V"⟩ ⟨"TermDeskModel", "laysRows", "(I[I)V"⟩) ∈ lw_all := lw_g (lw_at lw_ms 104 rfl) rfl
theorem qs105 : (Cond.selects "TermDeskModel" ⟨"TermDeskModel", "meetsRows", "()V"⟩ ⟨"TermDeskModel", "meetsRows", "()V"⟩) ∈ lw_all := lw_g (lw_at lw_ms 105 rfl) rfl
theorem qs106 : (Cond.selects "TermDeskModel" ⟨"TermDeskModel", "contentOf", "([I[I)V"⟩ ⟨"TermDeskModel", "contentOf", "([I[I)V"⟩) ∈ lw_all := lw_g (lw_at lw_ms 106 rfl) rfl
theorem qs107 : (Cond.selects "TermDeskModel" ⟨"TermDeskModel", "meets", "([I[I)V"⟩ ⟨"TermDeskModel", "meets", "([I[I)V"⟩) ∈ lw_all := lw_g (lw_at lw_ms 107 rfl) rfl
theorem qs108 : (Cond.selects "TermDeskModel" ⟨"TermDeskModel", "leaves", "([II[II)I"⟩ ⟨"TermDeskModel", "leaves", "([II[II)I"⟩) ∈ lw_all := lw_g (lw_at lw_ms 108 rfl) rfl
theorem qs109 : (Cond.selects "TermDeskModel" ⟨"TermDeskModel", "monics", "([I)V"⟩ ⟨"TermDeskModel", "monics", "([I)V"⟩) ∈ lw_all := lw_g (lw_at lw_ms 109 rfl) rfl
theorem qs110 : (Cond.selects "TermDeskModel" ⟨"TermDeskModel", "primitives", "([I)V"⟩ ⟨"TermDeskModel", "primitives", "([I)V"⟩) ∈ lw_all := lw_g (lw_at lw_ms 110 rfl) rfl
theorem qs111 : (Cond.selects "TermDeskModel" ⟨"TermDeskModel", "goesBy", "([I[I[I)V"⟩ ⟨"TermDeskModel", "goesBy", "([I[I[I)V"⟩) ∈ lw_all := lw_g (lw_at lw_ms 111 rfl) rfl
theorem qs112 : (Cond.selects "TermDeskModel" ⟨"TermDeskModel", "takesOff", "([I[I)V"⟩ ⟨"TermDeskModel", "takesOff", "([I[I)V"⟩) ∈ lw_all := lw_g (lw_at lw_ms 112 rfl) rfl
theorem qs113 : (Cond.selects "TermDeskModel" ⟨"TermDeskModel", "laysWork", "([I)V"⟩ ⟨"TermDeskModel", "laysWork", "([I)V"⟩) ∈ lw_all := lw_g (lw_at lw_ms 113 rfl) rfl
theorem qs114 : (Cond.selects "TermDeskModel" ⟨"TermDeskModel", "monicWork", "()V"⟩ ⟨"TermDeskModel", "monicWork", "()V"⟩) ∈ lw_all := lw_g (lw_at lw_ms 114 rfl) rfl
theorem qs115 : (Cond.selects "TermDeskModel" ⟨"TermDeskModel", "freeRegister", "(I)I"⟩ ⟨"TermDeskModel", "freeRegister", "(I)I"⟩) ∈ lw_all := lw_g (lw_at lw_ms 115 rfl) rfl
theorem qs116 : (Cond.selects "TermDeskModel" ⟨"TermDeskModel", "allTerms", "()I"⟩ ⟨"TermDeskModel", "allTerms", "()I"⟩) ∈ lw_all := lw_g (lw_at lw_ms 116 rfl) rfl
