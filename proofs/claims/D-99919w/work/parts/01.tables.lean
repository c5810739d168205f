-- ===== PART A: goes FIRST, ahead of the names: the tables' words, and 'selects' of the private methods out of them =====
/-- a private method of a class that the tables say can be made, by its rows of tables_1 -/
def lw_okq (q : MethodName × Nat) : Prop := (q.1.cls ≠ "java/lang/invoke/MethodHandle" ∧ q.1.cls ≠ "java/lang/invoke/VarHandle") ∧ Cond.instantiable q.1.cls q.2 ∈ tables_1 ∧ Cond.privateMethod q.1 ∈ tables_1 ∧ Cond.instanceMethod q.1 ∈ tables_1
set_option maxRecDepth 100000
theorem lw_t1 {w : Cond} (h : w ∈ tables_1_1) : w ∈ tables_1 := List.mem_append_left _ h
theorem lw_t2 {w : Cond} (h : w ∈ tables_1_2) : w ∈ tables_1 := List.mem_append_right _ (List.mem_append_left _ h)
theorem lw_t3 {w : Cond} (h : w ∈ tables_1_3) : w ∈ tables_1 := List.mem_append_right _ (List.mem_append_right _ (List.mem_append_left _ h))
theorem lw_t4 {w : Cond} (h : w ∈ tables_1_4) : w ∈ tables_1 := List.mem_append_right _ (List.mem_append_right _ (List.mem_append_right _ (List.mem_append_left _ h)))
theorem lw_t5 {w : Cond} (h : w ∈ tables_1_5) : w ∈ tables_1 := List.mem_append_right _ (List.mem_append_right _ (List.mem_append_right _ (List.mem_append_right _ (List.mem_append_left _ h))))
theorem lw_t6 {w : Cond} (h : w ∈ tables_1_6) : w ∈ tables_1 := List.mem_append_right _ (List.mem_append_right _ (List.mem_append_right _ (List.mem_append_right _ (List.mem_append_right _ (List.mem_append_left _ h)))))
theorem lw_t7 {w : Cond} (h : w ∈ tables_1_7) : w ∈ tables_1 := List.mem_append_right _ (List.mem_append_right _ (List.mem_append_right _ (List.mem_append_right _ (List.mem_append_right _ (List.mem_append_right _ h)))))
theorem lw_p0 : lw_okq (⟨"java/lang/Throwable", "fillInStackTrace", "(I)Ljava/lang/Throwable;"⟩, 6) := ⟨⟨by decide +kernel, by decide +kernel⟩, lw_t1 (List.mem_of_getElem? (i := 171) rfl), lw_t1 (List.mem_of_getElem? (i := 169) rfl), lw_t1 (List.mem_of_getElem? (i := 170) rfl)⟩
theorem lw_p1 : lw_okq (⟨"SkySpire", "four", "(I)V"⟩, 23) := ⟨⟨by decide +kernel, by decide +kernel⟩, lw_t1 (List.mem_of_getElem? (i := 28) rfl), lw_t2 (List.mem_of_getElem? (i := 72) rfl), lw_t2 (List.mem_of_getElem? (i := 73) rfl)⟩
theorem lw_p2 : lw_okq (⟨"SkySpire$Text", "see", "()I"⟩, 7) := ⟨⟨by decide +kernel, by decide +kernel⟩, lw_t2 (List.mem_of_getElem? (i := 84) rfl), lw_t2 (List.mem_of_getElem? (i := 127) rfl), lw_t2 (List.mem_of_getElem? (i := 128) rfl)⟩
theorem lw_p3 : lw_okq (⟨"SkySpire$Text", "oneOf", "([Ljava/lang/String;)I"⟩, 7) := ⟨⟨by decide +kernel, by decide +kernel⟩, lw_t2 (List.mem_of_getElem? (i := 84) rfl), lw_t2 (List.mem_of_getElem? (i := 131) rfl), lw_t2 (List.mem_of_getElem? (i := 132) rfl)⟩
theorem lw_p4 : lw_okq (⟨"SkySpire$Text", "isWord", "(Ljava/lang/String;)Z"⟩, 7) := ⟨⟨by decide +kernel, by decide +kernel⟩, lw_t2 (List.mem_of_getElem? (i := 84) rfl), lw_t2 (List.mem_of_getElem? (i := 135) rfl), lw_t2 (List.mem_of_getElem? (i := 136) rfl)⟩
theorem lw_p5 : lw_okq (⟨"SkySpire$Text", "letters", "()I"⟩, 7) := ⟨⟨by decide +kernel, by decide +kernel⟩, lw_t2 (List.mem_of_getElem? (i := 84) rfl), lw_t2 (List.mem_of_getElem? (i := 139) rfl), lw_t2 (List.mem_of_getElem? (i := 140) rfl)⟩
theorem lw_p6 : lw_okq (⟨"SkySpire$Text", "demand", "(ZII)V"⟩, 7) := ⟨⟨by decide +kernel, by decide +kernel⟩, lw_t2 (List.mem_of_getElem? (i := 84) rfl), lw_t2 (List.mem_of_getElem? (i := 191) rfl), lw_t2 (List.mem_of_getElem? (i := 192) rfl)⟩
theorem lw_p7 : lw_okq (⟨"SkySpire$Text", "canBe", "(I)Z"⟩, 7) := ⟨⟨by decide +kernel, by decide +kernel⟩, lw_t2 (List.mem_of_getElem? (i := 84) rfl), lw_t2 (List.mem_of_getElem? (i := 195) rfl), lw_t2 (List.mem_of_getElem? (i := 196) rfl)⟩
theorem lw_p8 : lw_okq (⟨"SkySpire$Text", "line", "(I)V"⟩, 7) := ⟨⟨by decide +kernel, by decide +kernel⟩, lw_t2 (List.mem_of_getElem? (i := 84) rfl), lw_t2 (List.mem_of_getElem? (i := 199) rfl), lw_t2 (List.mem_of_getElem? (i := 200) rfl)⟩
theorem lw_p9 : lw_okq (⟨"SkySpire$Text", "skyHere", "()V"⟩, 7) := ⟨⟨by decide +kernel, by decide +kernel⟩, lw_t2 (List.mem_of_getElem? (i := 84) rfl), lw_t2 (List.mem_of_getElem? (i := 203) rfl), lw_t2 (List.mem_of_getElem? (i := 204) rfl)⟩
theorem lw_p10 : lw_okq (⟨"SkySpire$Text", "number", "(II)I"⟩, 7) := ⟨⟨by decide +kernel, by decide +kernel⟩, lw_t2 (List.mem_of_getElem? (i := 84) rfl), lw_t2 (List.mem_of_getElem? (i := 207) rfl), lw_t2 (List.mem_of_getElem? (i := 208) rfl)⟩
theorem lw_p11 : lw_okq (⟨"SkySpire$Text", "isDigit", "(I)Z"⟩, 7) := ⟨⟨by decide +kernel, by decide +kernel⟩, lw_t2 (List.mem_of_getElem? (i := 84) rfl), lw_t2 (List.mem_of_getElem? (i := 211) rfl), lw_t2 (List.mem_of_getElem? (i := 212) rfl)⟩
theorem lw_p12 : lw_okq (⟨"SkySpire$Text", "penHere", "()V"⟩, 7) := ⟨⟨by decide +kernel, by decide +kernel⟩, lw_t2 (List.mem_of_getElem? (i := 84) rfl), lw_t2 (List.mem_of_getElem? (i := 218) rfl), lw_t2 (List.mem_of_getElem? (i := 219) rfl)⟩
theorem lw_p13 : lw_okq (⟨"SkySpire$Text", "cellNumber", "()I"⟩, 7) := ⟨⟨by decide +kernel, by decide +kernel⟩, lw_t2 (List.mem_of_getElem? (i := 84) rfl), lw_t2 (List.mem_of_getElem? (i := 222) rfl), lw_t2 (List.mem_of_getElem? (i := 223) rfl)⟩
theorem lw_p14 : lw_okq (⟨"SkySpire$Text", "windHere", "()V"⟩, 7) := ⟨⟨by decide +kernel, by decide +kernel⟩, lw_t2 (List.mem_of_getElem? (i := 84) rfl), lw_t2 (List.mem_of_getElem? (i := 230) rfl), lw_t2 (List.mem_of_getElem? (i := 231) rfl)⟩
theorem lw_p15 : lw_okq (⟨"SkySpire$Text", "takesSign", "(I)Z"⟩, 7) := ⟨⟨by decide +kernel, by decide +kernel⟩, lw_t2 (List.mem_of_getElem? (i := 84) rfl), lw_t2 (List.mem_of_getElem? (i := 234) rfl), lw_t2 (List.mem_of_getElem? (i := 235) rfl)⟩
def lw_privs_1 : List (MethodName × Nat) := [(⟨"java/lang/Throwable", "fillInStackTrace", "(I)Ljava/lang/Throwable;"⟩, 6), (⟨"SkySpire", "four", "(I)V"⟩, 23), (⟨"SkySpire$Text", "see", "()I"⟩, 7), (⟨"SkySpire$Text", "oneOf", "([Ljava/lang/String;)I"⟩, 7), (⟨"SkySpire$Text", "isWord", "(Ljava/lang/String;)Z"⟩, 7), (⟨"SkySpire$Text", "letters", "()I"⟩, 7), (⟨"SkySpire$Text", "demand", "(ZII)V"⟩, 7), (⟨"SkySpire$Text", "canBe", "(I)Z"⟩, 7), (⟨"SkySpire$Text", "line", "(I)V"⟩, 7), (⟨"SkySpire$Text", "skyHere", "()V"⟩, 7), (⟨"SkySpire$Text", "number", "(II)I"⟩, 7), (⟨"SkySpire$Text", "isDigit", "(I)Z"⟩, 7), (⟨"SkySpire$Text", "penHere", "()V"⟩, 7), (⟨"SkySpire$Text", "cellNumber", "()I"⟩, 7), (⟨"SkySpire$Text", "windHere", "()V"⟩, 7), (⟨"SkySpire$Text", "takesSign", "(I)Z"⟩, 7)]
theorem lw_r1 : ∀ q ∈ lw_privs_1, lw_okq q := List.forall_mem_cons.mpr ⟨lw_p0, List.forall_mem_cons.mpr ⟨lw_p1, List.forall_mem_cons.mpr ⟨lw_p2, List.forall_mem_cons.mpr ⟨lw_p3, List.forall_mem_cons.mpr ⟨lw_p4, List.forall_mem_cons.mpr ⟨lw_p5, List.forall_mem_cons.mpr ⟨lw_p6, List.forall_mem_cons.mpr ⟨lw_p7, List.forall_mem_cons.mpr ⟨lw_p8, List.forall_mem_cons.mpr ⟨lw_p9, List.forall_mem_cons.mpr ⟨lw_p10, List.forall_mem_cons.mpr ⟨lw_p11, List.forall_mem_cons.mpr ⟨lw_p12, List.forall_mem_cons.mpr ⟨lw_p13, List.forall_mem_cons.mpr ⟨lw_p14, List.forall_mem_cons.mpr ⟨lw_p15, fun _ h => absurd h List.not_mem_nil⟩⟩⟩⟩⟩⟩⟩⟩⟩⟩⟩⟩⟩⟩⟩⟩
theorem lw_p16 : lw_okq (⟨"SkySpire$Text", "ends", "()V"⟩, 7) := ⟨⟨by decide +kernel, by decide +kernel⟩, lw_t2 (List.mem_of_getElem? (i := 84) rfl), lw_t2 (List.mem_of_getElem? (i := 238) rfl), lw_t2 (List.mem_of_getElem? (i := 239) rfl)⟩
theorem lw_p17 : lw_okq (⟨"SkySpire", "faulted", "()I"⟩, 23) := ⟨⟨by decide +kernel, by decide +kernel⟩, lw_t1 (List.mem_of_getElem? (i := 28) rfl), lw_t3 (List.mem_of_getElem? (i := 11) rfl), lw_t3 (List.mem_of_getElem? (i := 12) rfl)⟩
theorem lw_p18 : lw_okq (⟨"SkySpire$Text", "clauseHere", "()LSkySpire$Clause;"⟩, 7) := ⟨⟨by decide +kernel, by decide +kernel⟩, lw_t2 (List.mem_of_getElem? (i := 84) rfl), lw_t3 (List.mem_of_getElem? (i := 40) rfl), lw_t3 (List.mem_of_getElem? (i := 41) rfl)⟩
theorem lw_p19 : lw_okq (⟨"SkySpire$Text", "sum", "()LSkySpire$Value;"⟩, 7) := ⟨⟨by decide +kernel, by decide +kernel⟩, lw_t2 (List.mem_of_getElem? (i := 84) rfl), lw_t3 (List.mem_of_getElem? (i := 59) rfl), lw_t3 (List.mem_of_getElem? (i := 60) rfl)⟩
theorem lw_p20 : lw_okq (⟨"SkySpire$Text", "term", "()LSkySpire$Value;"⟩, 7) := ⟨⟨by decide +kernel, by decide +kernel⟩, lw_t2 (List.mem_of_getElem? (i := 84) rfl), lw_t3 (List.mem_of_getElem? (i := 63) rfl), lw_t3 (List.mem_of_getElem? (i := 64) rfl)⟩
theorem lw_p21 : lw_okq (⟨"SkySpire$Text", "value", "()LSkySpire$Value;"⟩, 7) := ⟨⟨by decide +kernel, by decide +kernel⟩, lw_t2 (List.mem_of_getElem? (i := 84) rfl), lw_t3 (List.mem_of_getElem? (i := 67) rfl), lw_t3 (List.mem_of_getElem? (i := 68) rfl)⟩
theorem lw_p22 : lw_okq (⟨"SkySpire$Text", "makes", "(I)V"⟩, 7) := ⟨⟨by decide +kernel, by decide +kernel⟩, lw_t2 (List.mem_of_getElem? (i := 84) rfl), lw_t3 (List.mem_of_getElem? (i := 72) rfl), lw_t3 (List.mem_of_getElem? (i := 73) rfl)⟩
theorem lw_p23 : lw_okq (⟨"SkySpire$Text", "takesWord", "(Ljava/lang/String;)Z"⟩, 7) := ⟨⟨by decide +kernel, by decide +kernel⟩, lw_t2 (List.mem_of_getElem? (i := 84) rfl), lw_t3 (List.mem_of_getElem? (i := 116) rfl), lw_t3 (List.mem_of_getElem? (i := 117) rfl)⟩
theorem lw_p24 : lw_okq (⟨"SkySpire$Text", "tested", "()LSkySpire$Test;"⟩, 7) := ⟨⟨by decide +kernel, by decide +kernel⟩, lw_t2 (List.mem_of_getElem? (i := 84) rfl), lw_t3 (List.mem_of_getElem? (i := 120) rfl), lw_t3 (List.mem_of_getElem? (i := 121) rfl)⟩
theorem lw_p25 : lw_okq (⟨"SkySpire$Text", "parted", "()LSkySpire$Test;"⟩, 7) := ⟨⟨by decide +kernel, by decide +kernel⟩, lw_t2 (List.mem_of_getElem? (i := 84) rfl), lw_t3 (List.mem_of_getElem? (i := 124) rfl), lw_t3 (List.mem_of_getElem? (i := 125) rfl)⟩
theorem lw_p26 : lw_okq (⟨"SkySpire$Text", "fact", "()LSkySpire$Test;"⟩, 7) := ⟨⟨by decide +kernel, by decide +kernel⟩, lw_t2 (List.mem_of_getElem? (i := 84) rfl), lw_t3 (List.mem_of_getElem? (i := 128) rfl), lw_t3 (List.mem_of_getElem? (i := 129) rfl)⟩
theorem lw_p27 : lw_okq (⟨"SkySpire$Text", "opens", "(I)V"⟩, 7) := ⟨⟨by decide +kernel, by decide +kernel⟩, lw_t2 (List.mem_of_getElem? (i := 84) rfl), lw_t3 (List.mem_of_getElem? (i := 133) rfl), lw_t3 (List.mem_of_getElem? (i := 134) rfl)⟩
theorem lw_p28 : lw_okq (⟨"SkySpire$Text", "sign", "()I"⟩, 7) := ⟨⟨by decide +kernel, by decide +kernel⟩, lw_t2 (List.mem_of_getElem? (i := 84) rfl), lw_t3 (List.mem_of_getElem? (i := 150) rfl), lw_t3 (List.mem_of_getElem? (i := 151) rfl)⟩
theorem lw_p29 : lw_okq (⟨"SkySpire", "isPen", "(I)Z"⟩, 23) := ⟨⟨by decide +kernel, by decide +kernel⟩, lw_t1 (List.mem_of_getElem? (i := 28) rfl), lw_t3 (List.mem_of_getElem? (i := 196) rfl), lw_t3 (List.mem_of_getElem? (i := 197) rfl)⟩
theorem lw_p30 : lw_okq (⟨"SkySpire", "isCell", "(I)Z"⟩, 23) := ⟨⟨by decide +kernel, by decide +kernel⟩, lw_t1 (List.mem_of_getElem? (i := 28) rfl), lw_t3 (List.mem_of_getElem? (i := 209) rfl), lw_t3 (List.mem_of_getElem? (i := 210) rfl)⟩
theorem lw_p31 : lw_okq (⟨"SkySpire", "keepsAct", "()V"⟩, 23) := ⟨⟨by decide +kernel, by decide +kernel⟩, lw_t1 (List.mem_of_getElem? (i := 28) rfl), lw_t3 (List.mem_of_getElem? (i := 228) rfl), lw_t3 (List.mem_of_getElem? (i := 229) rfl)⟩
def lw_privs_2 : List (MethodName × Nat) := [(⟨"SkySpire$Text", "ends", "()V"⟩, 7), (⟨"SkySpire", "faulted", "()I"⟩, 23), (⟨"SkySpire$Text", "clauseHere", "()LSkySpire$Clause;"⟩, 7), (⟨"SkySpire$Text", "sum", "()LSkySpire$Value;"⟩, 7), (⟨"SkySpire$Text", "term", "()LSkySpire$Value;"⟩, 7), (⟨"SkySpire$Text", "value", "()LSkySpire$Value;"⟩, 7), (⟨"SkySpire$Text", "makes", "(I)V"⟩, 7), (⟨"SkySpire$Text", "takesWord", "(Ljava/lang/String;)Z"⟩, 7), (⟨"SkySpire$Text", "tested", "()LSkySpire$Test;"⟩, 7), (⟨"SkySpire$Text", "parted", "()LSkySpire$Test;"⟩, 7), (⟨"SkySpire$Text", "fact", "()LSkySpire$Test;"⟩, 7), (⟨"SkySpire$Text", "opens", "(I)V"⟩, 7), (⟨"SkySpire$Text", "sign", "()I"⟩, 7), (⟨"SkySpire", "isPen", "(I)Z"⟩, 23), (⟨"SkySpire", "isCell", "(I)Z"⟩, 23), (⟨"SkySpire", "keepsAct", "()V"⟩, 23)]
theorem lw_r2 : ∀ q ∈ lw_privs_2, lw_okq q := List.forall_mem_cons.mpr ⟨lw_p16, List.forall_mem_cons.mpr ⟨lw_p17, List.forall_mem_cons.mpr ⟨lw_p18, List.forall_mem_cons.mpr ⟨lw_p19, List.forall_mem_cons.mpr ⟨lw_p20, List.forall_mem_cons.mpr ⟨lw_p21, List.forall_mem_cons.mpr ⟨lw_p22, List.forall_mem_cons.mpr ⟨lw_p23, List.forall_mem_cons.mpr ⟨lw_p24, List.forall_mem_cons.mpr ⟨lw_p25, List.forall_mem_cons.mpr ⟨lw_p26, List.forall_mem_cons.mpr ⟨lw_p27, List.forall_mem_cons.mpr ⟨lw_p28, List.forall_mem_cons.mpr ⟨lw_p29, List.forall_mem_cons.mpr ⟨lw_p30, List.forall_mem_cons.mpr ⟨lw_p31, fun _ h => absurd h List.not_mem_nil⟩⟩⟩⟩⟩⟩⟩⟩⟩⟩⟩⟩⟩⟩⟩⟩
theorem lw_p32 : lw_okq (⟨"SkySpire", "law", "()LSkySpire$Rule;"⟩, 23) := ⟨⟨by decide +kernel, by decide +kernel⟩, lw_t1 (List.mem_of_getElem? (i := 28) rfl), lw_t3 (List.mem_of_getElem? (i := 237) rfl), lw_t3 (List.mem_of_getElem? (i := 238) rfl)⟩
theorem lw_p33 : lw_okq (⟨"SkySpire$Sky", "writes", "(ILSkySpire$Rule;)Z"⟩, 21) := ⟨⟨by decide +kernel, by decide +kernel⟩, lw_t1 (List.mem_of_getElem? (i := 36) rfl), lw_t4 (List.mem_of_getElem? (i := 5) rfl), lw_t4 (List.mem_of_getElem? (i := 6) rfl)⟩
theorem lw_p34 : lw_okq (⟨"SkySpire$Sky", "wayOn", "(I)I"⟩, 21) := ⟨⟨by decide +kernel, by decide +kernel⟩, lw_t1 (List.mem_of_getElem? (i := 36) rfl), lw_t4 (List.mem_of_getElem? (i := 12) rfl), lw_t4 (List.mem_of_getElem? (i := 13) rfl)⟩
theorem lw_p35 : lw_okq (⟨"SkySpire$Sky", "forceOn", "(I)I"⟩, 21) := ⟨⟨by decide +kernel, by decide +kernel⟩, lw_t1 (List.mem_of_getElem? (i := 36) rfl), lw_t4 (List.mem_of_getElem? (i := 16) rfl), lw_t4 (List.mem_of_getElem? (i := 17) rfl)⟩
theorem lw_p36 : lw_okq (⟨"SkySpire$Sky", "moves", "()V"⟩, 21) := ⟨⟨by decide +kernel, by decide +kernel⟩, lw_t1 (List.mem_of_getElem? (i := 36) rfl), lw_t4 (List.mem_of_getElem? (i := 57) rfl), lw_t4 (List.mem_of_getElem? (i := 58) rfl)⟩
theorem lw_p37 : lw_okq (⟨"SkySpire$Sky", "falls", "(II)V"⟩, 21) := ⟨⟨by decide +kernel, by decide +kernel⟩, lw_t1 (List.mem_of_getElem? (i := 36) rfl), lw_t4 (List.mem_of_getElem? (i := 65) rfl), lw_t4 (List.mem_of_getElem? (i := 66) rfl)⟩
theorem lw_p38 : lw_okq (⟨"SkySpire", "writesAlone", "(III)Z"⟩, 23) := ⟨⟨by decide +kernel, by decide +kernel⟩, lw_t1 (List.mem_of_getElem? (i := 28) rfl), lw_t4 (List.mem_of_getElem? (i := 138) rfl), lw_t4 (List.mem_of_getElem? (i := 139) rfl)⟩
theorem lw_p39 : lw_okq (⟨"SkySpire", "plays", "(IIII)I"⟩, 23) := ⟨⟨by decide +kernel, by decide +kernel⟩, lw_t1 (List.mem_of_getElem? (i := 28) rfl), lw_t4 (List.mem_of_getElem? (i := 160) rfl), lw_t4 (List.mem_of_getElem? (i := 161) rfl)⟩
theorem lw_p40 : lw_okq (⟨"SkySpire", "isRest", "(II)Z"⟩, 23) := ⟨⟨by decide +kernel, by decide +kernel⟩, lw_t1 (List.mem_of_getElem? (i := 28) rfl), lw_t4 (List.mem_of_getElem? (i := 171) rfl), lw_t4 (List.mem_of_getElem? (i := 172) rfl)⟩
theorem lw_p41 : lw_okq (⟨"SkySpire", "ruleOf", "(I)LSkySpire$Rule;"⟩, 23) := ⟨⟨by decide +kernel, by decide +kernel⟩, lw_t1 (List.mem_of_getElem? (i := 28) rfl), lw_t4 (List.mem_of_getElem? (i := 184) rfl), lw_t4 (List.mem_of_getElem? (i := 185) rfl)⟩
theorem lw_p42 : lw_okq (⟨"SkySpire", "parts", "(I)I"⟩, 23) := ⟨⟨by decide +kernel, by decide +kernel⟩, lw_t1 (List.mem_of_getElem? (i := 28) rfl), lw_t4 (List.mem_of_getElem? (i := 188) rfl), lw_t4 (List.mem_of_getElem? (i := 189) rfl)⟩
theorem lw_p43 : lw_okq (⟨"SkySpire", "alikeOf", "(I)I"⟩, 23) := ⟨⟨by decide +kernel, by decide +kernel⟩, lw_t1 (List.mem_of_getElem? (i := 28) rfl), lw_t4 (List.mem_of_getElem? (i := 192) rfl), lw_t4 (List.mem_of_getElem? (i := 193) rfl)⟩
theorem lw_p44 : lw_okq (⟨"SkySpire", "gathersRules", "(I)V"⟩, 23) := ⟨⟨by decide +kernel, by decide +kernel⟩, lw_t1 (List.mem_of_getElem? (i := 28) rfl), lw_t4 (List.mem_of_getElem? (i := 207) rfl), lw_t4 (List.mem_of_getElem? (i := 208) rfl)⟩
theorem lw_p45 : lw_okq (⟨"SkySpire", "areNotesSo", "(I)Z"⟩, 23) := ⟨⟨by decide +kernel, by decide +kernel⟩, lw_t1 (List.mem_of_getElem? (i := 28) rfl), lw_t4 (List.mem_of_getElem? (i := 212) rfl), lw_t4 (List.mem_of_getElem? (i := 213) rfl)⟩
theorem lw_p46 : lw_okq (⟨"SkySpire", "draw", "(I)I"⟩, 23) := ⟨⟨by decide +kernel, by decide +kernel⟩, lw_t1 (List.mem_of_getElem? (i := 28) rfl), lw_t4 (List.mem_of_getElem? (i := 229) rfl), lw_t4 (List.mem_of_getElem? (i := 230) rfl)⟩
theorem lw_p47 : lw_okq (⟨"SkySpireModel", "put", "(I)V"⟩, 54) := ⟨⟨by decide +kernel, by decide +kernel⟩, lw_t5 (List.mem_of_getElem? (i := 31) rfl), lw_t5 (List.mem_of_getElem? (i := 203) rfl), lw_t5 (List.mem_of_getElem? (i := 204) rfl)⟩
def lw_privs_3 : List (MethodName × Nat) := [(⟨"SkySpire", "law", "()LSkySpire$Rule;"⟩, 23), (⟨"SkySpire$Sky", "writes", "(ILSkySpire$Rule;)Z"⟩, 21), (⟨"SkySpire$Sky", "wayOn", "(I)I"⟩, 21), (⟨"SkySpire$Sky", "forceOn", "(I)I"⟩, 21), (⟨"SkySpire$Sky", "moves", "()V"⟩, 21), (⟨"SkySpire$Sky", "falls", "(II)V"⟩, 21), (⟨"SkySpire", "writesAlone", "(III)Z"⟩, 23), (⟨"SkySpire", "plays", "(IIII)I"⟩, 23), (⟨"SkySpire", "isRest", "(II)Z"⟩, 23), (⟨"SkySpire", "ruleOf", "(I)LSkySpire$Rule;"⟩, 23), (⟨"SkySpire", "parts", "(I)I"⟩, 23), (⟨"SkySpire", "alikeOf", "(I)I"⟩, 23), (⟨"SkySpire", "gathersRules", "(I)V"⟩, 23), (⟨"SkySpire", "areNotesSo", "(I)Z"⟩, 23), (⟨"SkySpire", "draw", "(I)I"⟩, 23), (⟨"SkySpireModel", "put", "(I)V"⟩, 54)]
theorem lw_r3 : ∀ q ∈ lw_privs_3, lw_okq q := List.forall_mem_cons.mpr ⟨lw_p32, List.forall_mem_cons.mpr ⟨lw_p33, List.forall_mem_cons.mpr ⟨lw_p34, List.forall_mem_cons.mpr ⟨lw_p35, List.forall_mem_cons.mpr ⟨lw_p36, List.forall_mem_cons.mpr ⟨lw_p37, List.forall_mem_cons.mpr ⟨lw_p38, List.forall_mem_cons.mpr ⟨lw_p39, List.forall_mem_cons.mpr ⟨lw_p40, List.forall_mem_cons.mpr ⟨lw_p41, List.forall_mem_cons.mpr ⟨lw_p42, List.forall_mem_cons.mpr ⟨lw_p43, List.forall_mem_cons.mpr ⟨lw_p44, List.forall_mem_cons.mpr ⟨lw_p45, List.forall_mem_cons.mpr ⟨lw_p46, List.forall_mem_cons.mpr ⟨lw_p47, fun _ h => absurd h List.not_mem_nil⟩⟩⟩⟩⟩⟩⟩⟩⟩⟩⟩⟩⟩⟩⟩⟩
theorem lw_p48 : lw_okq (⟨"SkySpireModel", "readsAll", "()V"⟩, 54) := ⟨⟨by decide +kernel, by decide +kernel⟩, lw_t5 (List.mem_of_getElem? (i := 31) rfl), lw_t5 (List.mem_of_getElem? (i := 215) rfl), lw_t5 (List.mem_of_getElem? (i := 216) rfl)⟩
theorem lw_p49 : lw_okq (⟨"SkySpireModel", "starts", "()V"⟩, 54) := ⟨⟨by decide +kernel, by decide +kernel⟩, lw_t5 (List.mem_of_getElem? (i := 31) rfl), lw_t5 (List.mem_of_getElem? (i := 219) rfl), lw_t5 (List.mem_of_getElem? (i := 220) rfl)⟩
theorem lw_p50 : lw_okq (⟨"SkySpireModel", "skyClause", "(I)V"⟩, 54) := ⟨⟨by decide +kernel, by decide +kernel⟩, lw_t5 (List.mem_of_getElem? (i := 31) rfl), lw_t5 (List.mem_of_getElem? (i := 223) rfl), lw_t5 (List.mem_of_getElem? (i := 224) rfl)⟩
theorem lw_p51 : lw_okq (⟨"SkySpireModel", "blanks", "()V"⟩, 54) := ⟨⟨by decide +kernel, by decide +kernel⟩, lw_t5 (List.mem_of_getElem? (i := 31) rfl), lw_t5 (List.mem_of_getElem? (i := 227) rfl), lw_t5 (List.mem_of_getElem? (i := 228) rfl)⟩
theorem lw_p52 : lw_okq (⟨"SkySpireModel", "byteHere", "()I"⟩, 54) := ⟨⟨by decide +kernel, by decide +kernel⟩, lw_t5 (List.mem_of_getElem? (i := 31) rfl), lw_t5 (List.mem_of_getElem? (i := 231) rfl), lw_t5 (List.mem_of_getElem? (i := 232) rfl)⟩
theorem lw_p53 : lw_okq (⟨"SkySpireModel", "stood", "(Ljava/lang/String;)Z"⟩, 54) := ⟨⟨by decide +kernel, by decide +kernel⟩, lw_t5 (List.mem_of_getElem? (i := 31) rfl), lw_t6 (List.mem_of_getElem? (i := 2) rfl), lw_t6 (List.mem_of_getElem? (i := 3) rfl)⟩
theorem lw_p54 : lw_okq (⟨"SkySpireModel", "fails", "(II)V"⟩, 54) := ⟨⟨by decide +kernel, by decide +kernel⟩, lw_t5 (List.mem_of_getElem? (i := 31) rfl), lw_t6 (List.mem_of_getElem? (i := 8) rfl), lw_t6 (List.mem_of_getElem? (i := 9) rfl)⟩
theorem lw_p55 : lw_okq (⟨"SkySpireModel", "isFull", "(II)Z"⟩, 54) := ⟨⟨by decide +kernel, by decide +kernel⟩, lw_t5 (List.mem_of_getElem? (i := 31) rfl), lw_t6 (List.mem_of_getElem? (i := 12) rfl), lw_t6 (List.mem_of_getElem? (i := 13) rfl)⟩
theorem lw_p56 : lw_okq (⟨"SkySpireModel", "skyPart", "(I)V"⟩, 54) := ⟨⟨by decide +kernel, by decide +kernel⟩, lw_t5 (List.mem_of_getElem? (i := 31) rfl), lw_t6 (List.mem_of_getElem? (i := 16) rfl), lw_t6 (List.mem_of_getElem? (i := 17) rfl)⟩
theorem lw_p57 : lw_okq (⟨"SkySpireModel", "amount", "(II)I"⟩, 54) := ⟨⟨by decide +kernel, by decide +kernel⟩, lw_t5 (List.mem_of_getElem? (i := 31) rfl), lw_t6 (List.mem_of_getElem? (i := 20) rfl), lw_t6 (List.mem_of_getElem? (i := 21) rfl)⟩
theorem lw_p58 : lw_okq (⟨"SkySpireModel", "digits", "(I)I"⟩, 54) := ⟨⟨by decide +kernel, by decide +kernel⟩, lw_t5 (List.mem_of_getElem? (i := 31) rfl), lw_t6 (List.mem_of_getElem? (i := 25) rfl), lw_t6 (List.mem_of_getElem? (i := 26) rfl)⟩
theorem lw_p59 : lw_okq (⟨"SkySpireModel", "isDigit", "()Z"⟩, 54) := ⟨⟨by decide +kernel, by decide +kernel⟩, lw_t5 (List.mem_of_getElem? (i := 31) rfl), lw_t6 (List.mem_of_getElem? (i := 29) rfl), lw_t6 (List.mem_of_getElem? (i := 30) rfl)⟩
theorem lw_p60 : lw_okq (⟨"SkySpireModel", "goesOn", "()Z"⟩, 54) := ⟨⟨by decide +kernel, by decide +kernel⟩, lw_t5 (List.mem_of_getElem? (i := 31) rfl), lw_t6 (List.mem_of_getElem? (i := 38) rfl), lw_t6 (List.mem_of_getElem? (i := 39) rfl)⟩
theorem lw_p61 : lw_okq (⟨"SkySpireModel", "begins", "()V"⟩, 54) := ⟨⟨by decide +kernel, by decide +kernel⟩, lw_t5 (List.mem_of_getElem? (i := 31) rfl), lw_t6 (List.mem_of_getElem? (i := 45) rfl), lw_t6 (List.mem_of_getElem? (i := 46) rfl)⟩
theorem lw_p62 : lw_okq (⟨"SkySpireModel", "ruleClause", "(I)V"⟩, 54) := ⟨⟨by decide +kernel, by decide +kernel⟩, lw_t5 (List.mem_of_getElem? (i := 31) rfl), lw_t6 (List.mem_of_getElem? (i := 53) rfl), lw_t6 (List.mem_of_getElem? (i := 54) rfl)⟩
theorem lw_p63 : lw_okq (⟨"SkySpireModel", "sum", "()V"⟩, 54) := ⟨⟨by decide +kernel, by decide +kernel⟩, lw_t5 (List.mem_of_getElem? (i := 31) rfl), lw_t6 (List.mem_of_getElem? (i := 58) rfl), lw_t6 (List.mem_of_getElem? (i := 59) rfl)⟩
def lw_privs_4 : List (MethodName × Nat) := [(⟨"SkySpireModel", "readsAll", "()V"⟩, 54), (⟨"SkySpireModel", "starts", "()V"⟩, 54), (⟨"SkySpireModel", "skyClause", "(I)V"⟩, 54), (⟨"SkySpireModel", "blanks", "()V"⟩, 54), (⟨"SkySpireModel", "byteHere", "()I"⟩, 54), (⟨"SkySpireModel", "stood", "(Ljava/lang/String;)Z"⟩, 54), (⟨"SkySpireModel", "fails", "(II)V"⟩, 54), (⟨"SkySpireModel", "isFull", "(II)Z"⟩, 54), (⟨"SkySpireModel", "skyPart", "(I)V"⟩, 54), (⟨"SkySpireModel", "amount", "(II)I"⟩, 54), (⟨"SkySpireModel", "digits", "(I)I"⟩, 54), (⟨"SkySpireModel", "isDigit", "()Z"⟩, 54), (⟨"SkySpireModel", "goesOn", "()Z"⟩, 54), (⟨"SkySpireModel", "begins", "()V"⟩, 54), (⟨"SkySpireModel", "ruleClause", "(I)V"⟩, 54), (⟨"SkySpireModel", "sum", "()V"⟩, 54)]
theorem lw_r4 : ∀ q ∈ lw_privs_4, lw_okq q := List.forall_mem_cons.mpr ⟨lw_p48, List.forall_mem_cons.mpr ⟨lw_p49, List.forall_mem_cons.mpr ⟨lw_p50, List.forall_mem_cons.mpr ⟨lw_p51, List.forall_mem_cons.mpr ⟨lw_p52, List.forall_mem_cons.mpr ⟨lw_p53, List.forall_mem_cons.mpr ⟨lw_p54, List.forall_mem_cons.mpr ⟨lw_p55, List.forall_mem_cons.mpr ⟨lw_p56, List.forall_mem_cons.mpr ⟨lw_p57, List.forall_mem_cons.mpr ⟨lw_p58, List.forall_mem_cons.mpr ⟨lw_p59, List.forall_mem_cons.mpr ⟨lw_p60, List.forall_mem_cons.mpr ⟨lw_p61, List.forall_mem_cons.mpr ⟨lw_p62, List.forall_mem_cons.mpr ⟨lw_p63, fun _ h => absurd h List.not_mem_nil⟩⟩⟩⟩⟩⟩⟩⟩⟩⟩⟩⟩⟩⟩⟩⟩
theorem lw_p64 : lw_okq (⟨"SkySpireModel", "term", "()V"⟩, 54) := ⟨⟨by decide +kernel, by decide +kernel⟩, lw_t5 (List.mem_of_getElem? (i := 31) rfl), lw_t6 (List.mem_of_getElem? (i := 62) rfl), lw_t6 (List.mem_of_getElem? (i := 63) rfl)⟩
theorem lw_p65 : lw_okq (⟨"SkySpireModel", "value", "()V"⟩, 54) := ⟨⟨by decide +kernel, by decide +kernel⟩, lw_t5 (List.mem_of_getElem? (i := 31) rfl), lw_t6 (List.mem_of_getElem? (i := 66) rfl), lw_t6 (List.mem_of_getElem? (i := 67) rfl)⟩
theorem lw_p66 : lw_okq (⟨"SkySpireModel", "isCounted", "(I)V"⟩, 54) := ⟨⟨by decide +kernel, by decide +kernel⟩, lw_t5 (List.mem_of_getElem? (i := 31) rfl), lw_t6 (List.mem_of_getElem? (i := 70) rfl), lw_t6 (List.mem_of_getElem? (i := 71) rfl)⟩
theorem lw_p67 : lw_okq (⟨"SkySpireModel", "entry", "(II)V"⟩, 54) := ⟨⟨by decide +kernel, by decide +kernel⟩, lw_t5 (List.mem_of_getElem? (i := 31) rfl), lw_t6 (List.mem_of_getElem? (i := 74) rfl), lw_t6 (List.mem_of_getElem? (i := 75) rfl)⟩
theorem lw_p68 : lw_okq (⟨"SkySpireModel", "takes", "(Ljava/lang/String;)Z"⟩, 54) := ⟨⟨by decide +kernel, by decide +kernel⟩, lw_t5 (List.mem_of_getElem? (i := 31) rfl), lw_t6 (List.mem_of_getElem? (i := 92) rfl), lw_t6 (List.mem_of_getElem? (i := 93) rfl)⟩
theorem lw_p69 : lw_okq (⟨"SkySpireModel", "test", "()V"⟩, 54) := ⟨⟨by decide +kernel, by decide +kernel⟩, lw_t5 (List.mem_of_getElem? (i := 31) rfl), lw_t6 (List.mem_of_getElem? (i := 96) rfl), lw_t6 (List.mem_of_getElem? (i := 97) rfl)⟩
theorem lw_p70 : lw_okq (⟨"SkySpireModel", "fact", "()Z"⟩, 54) := ⟨⟨by decide +kernel, by decide +kernel⟩, lw_t5 (List.mem_of_getElem? (i := 31) rfl), lw_t6 (List.mem_of_getElem? (i := 100) rfl), lw_t6 (List.mem_of_getElem? (i := 101) rfl)⟩
theorem lw_p71 : lw_okq (⟨"SkySpireModel", "opens", "(I)V"⟩, 54) := ⟨⟨by decide +kernel, by decide +kernel⟩, lw_t5 (List.mem_of_getElem? (i := 31) rfl), lw_t6 (List.mem_of_getElem? (i := 105) rfl), lw_t6 (List.mem_of_getElem? (i := 106) rfl)⟩
theorem lw_p72 : lw_okq (⟨"SkySpireModel", "compared", "()V"⟩, 54) := ⟨⟨by decide +kernel, by decide +kernel⟩, lw_t5 (List.mem_of_getElem? (i := 31) rfl), lw_t6 (List.mem_of_getElem? (i := 109) rfl), lw_t6 (List.mem_of_getElem? (i := 110) rfl)⟩
theorem lw_p73 : lw_okq (⟨"SkySpireModel", "answers", "(I)V"⟩, 54) := ⟨⟨by decide +kernel, by decide +kernel⟩, lw_t5 (List.mem_of_getElem? (i := 31) rfl), lw_t6 (List.mem_of_getElem? (i := 113) rfl), lw_t6 (List.mem_of_getElem? (i := 114) rfl)⟩
theorem lw_p74 : lw_okq (⟨"SkySpireModel", "top", "()I"⟩, 54) := ⟨⟨by decide +kernel, by decide +kernel⟩, lw_t5 (List.mem_of_getElem? (i := 31) rfl), lw_t6 (List.mem_of_getElem? (i := 117) rfl), lw_t6 (List.mem_of_getElem? (i := 118) rfl)⟩
theorem lw_p75 : lw_okq (⟨"SkySpireModel", "isPen", "(I)Z"⟩, 54) := ⟨⟨by decide +kernel, by decide +kernel⟩, lw_t5 (List.mem_of_getElem? (i := 31) rfl), lw_t6 (List.mem_of_getElem? (i := 132) rfl), lw_t6 (List.mem_of_getElem? (i := 133) rfl)⟩
theorem lw_p76 : lw_okq (⟨"SkySpireModel", "strokesOf", "(I)I"⟩, 54) := ⟨⟨by decide +kernel, by decide +kernel⟩, lw_t5 (List.mem_of_getElem? (i := 31) rfl), lw_t6 (List.mem_of_getElem? (i := 136) rfl), lw_t6 (List.mem_of_getElem? (i := 137) rfl)⟩
theorem lw_p77 : lw_okq (⟨"SkySpireModel", "cells", "()I"⟩, 54) := ⟨⟨by decide +kernel, by decide +kernel⟩, lw_t5 (List.mem_of_getElem? (i := 31) rfl), lw_t6 (List.mem_of_getElem? (i := 140) rfl), lw_t6 (List.mem_of_getElem? (i := 141) rfl)⟩
theorem lw_p78 : lw_okq (⟨"SkySpireModel", "isCell", "(I)Z"⟩, 54) := ⟨⟨by decide +kernel, by decide +kernel⟩, lw_t5 (List.mem_of_getElem? (i := 31) rfl), lw_t6 (List.mem_of_getElem? (i := 148) rfl), lw_t6 (List.mem_of_getElem? (i := 149) rfl)⟩
theorem lw_p79 : lw_okq (⟨"SkySpireModel", "movesAll", "(IZ)V"⟩, 54) := ⟨⟨by decide +kernel, by decide +kernel⟩, lw_t5 (List.mem_of_getElem? (i := 31) rfl), lw_t6 (List.mem_of_getElem? (i := 157) rfl), lw_t6 (List.mem_of_getElem? (i := 158) rfl)⟩
def lw_privs_5 : List (MethodName × Nat) := [(⟨"SkySpireModel", "term", "()V"⟩, 54), (⟨"SkySpireModel", "value", "()V"⟩, 54), (⟨"SkySpireModel", "isCounted", "(I)V"⟩, 54), (⟨"SkySpireModel", "entry", "(II)V"⟩, 54), (⟨"SkySpireModel", "takes", "(Ljava/lang/String;)Z"⟩, 54), (⟨"SkySpireModel", "test", "()V"⟩, 54), (⟨"SkySpireModel", "fact", "()Z"⟩, 54), (⟨"SkySpireModel", "opens", "(I)V"⟩, 54), (⟨"SkySpireModel", "compared", "()V"⟩, 54), (⟨"SkySpireModel", "answers", "(I)V"⟩, 54), (⟨"SkySpireModel", "top", "()I"⟩, 54), (⟨"SkySpireModel", "isPen", "(I)Z"⟩, 54), (⟨"SkySpireModel", "strokesOf", "(I)I"⟩, 54), (⟨"SkySpireModel", "cells", "()I"⟩, 54), (⟨"SkySpireModel", "isCell", "(I)Z"⟩, 54), (⟨"SkySpireModel", "movesAll", "(IZ)V"⟩, 54)]
theorem lw_r5 : ∀ q ∈ lw_privs_5, lw_okq q := List.forall_mem_cons.mpr ⟨lw_p64, List.forall_mem_cons.mpr ⟨lw_p65, List.forall_mem_cons.mpr ⟨lw_p66, List.forall_mem_cons.mpr ⟨lw_p67, List.forall_mem_cons.mpr ⟨lw_p68, List.forall_mem_cons.mpr ⟨lw_p69, List.forall_mem_cons.mpr ⟨lw_p70, List.forall_mem_cons.mpr ⟨lw_p71, List.forall_mem_cons.mpr ⟨lw_p72, List.forall_mem_cons.mpr ⟨lw_p73, List.forall_mem_cons.mpr ⟨lw_p74, List.forall_mem_cons.mpr ⟨lw_p75, List.forall_mem_cons.mpr ⟨lw_p76, List.forall_mem_cons.mpr ⟨lw_p77, List.forall_mem_cons.mpr ⟨lw_p78, List.forall_mem_cons.mpr ⟨lw_p79, fun _ h => absurd h List.not_mem_nil⟩⟩⟩⟩⟩⟩⟩⟩⟩⟩⟩⟩⟩⟩⟩⟩
theorem lw_p80 : lw_okq (⟨"SkySpireModel", "moves", "(I)I"⟩, 54) := ⟨⟨by decide +kernel, by decide +kernel⟩, lw_t5 (List.mem_of_getElem? (i := 31) rfl), lw_t6 (List.mem_of_getElem? (i := 161) rfl), lw_t6 (List.mem_of_getElem? (i := 162) rfl)⟩
theorem lw_p81 : lw_okq (⟨"SkySpireModel", "movesRow", "([I)V"⟩, 54) := ⟨⟨by decide +kernel, by decide +kernel⟩, lw_t5 (List.mem_of_getElem? (i := 31) rfl), lw_t6 (List.mem_of_getElem? (i := 165) rfl), lw_t6 (List.mem_of_getElem? (i := 166) rfl)⟩
theorem lw_p82 : lw_okq (⟨"SkySpireModel", "isSky", "()Z"⟩, 54) := ⟨⟨by decide +kernel, by decide +kernel⟩, lw_t5 (List.mem_of_getElem? (i := 31) rfl), lw_t6 (List.mem_of_getElem? (i := 173) rfl), lw_t6 (List.mem_of_getElem? (i := 174) rfl)⟩
theorem lw_p83 : lw_okq (⟨"SkySpireModel", "keepsAct", "()V"⟩, 54) := ⟨⟨by decide +kernel, by decide +kernel⟩, lw_t5 (List.mem_of_getElem? (i := 31) rfl), lw_t6 (List.mem_of_getElem? (i := 177) rfl), lw_t6 (List.mem_of_getElem? (i := 178) rfl)⟩
theorem lw_p84 : lw_okq (⟨"SkySpireModel", "goes", "()I"⟩, 54) := ⟨⟨by decide +kernel, by decide +kernel⟩, lw_t5 (List.mem_of_getElem? (i := 31) rfl), lw_t6 (List.mem_of_getElem? (i := 181) rfl), lw_t6 (List.mem_of_getElem? (i := 182) rfl)⟩
theorem lw_p85 : lw_okq (⟨"SkySpireModel", "writes", "(I)Z"⟩, 54) := ⟨⟨by decide +kernel, by decide +kernel⟩, lw_t5 (List.mem_of_getElem? (i := 31) rfl), lw_t6 (List.mem_of_getElem? (i := 185) rfl), lw_t6 (List.mem_of_getElem? (i := 186) rfl)⟩
theorem lw_p86 : lw_okq (⟨"SkySpireModel", "wayOf", "(I)I"⟩, 54) := ⟨⟨by decide +kernel, by decide +kernel⟩, lw_t5 (List.mem_of_getElem? (i := 31) rfl), lw_t6 (List.mem_of_getElem? (i := 192) rfl), lw_t6 (List.mem_of_getElem? (i := 193) rfl)⟩
theorem lw_p87 : lw_okq (⟨"SkySpireModel", "forceOf", "(I)I"⟩, 54) := ⟨⟨by decide +kernel, by decide +kernel⟩, lw_t5 (List.mem_of_getElem? (i := 31) rfl), lw_t6 (List.mem_of_getElem? (i := 196) rfl), lw_t6 (List.mem_of_getElem? (i := 197) rfl)⟩
theorem lw_p88 : lw_okq (⟨"SkySpireModel", "wanted", "()J"⟩, 54) := ⟨⟨by decide +kernel, by decide +kernel⟩, lw_t5 (List.mem_of_getElem? (i := 31) rfl), lw_t6 (List.mem_of_getElem? (i := 200) rfl), lw_t6 (List.mem_of_getElem? (i := 201) rfl)⟩
theorem lw_p89 : lw_okq (⟨"SkySpireModel", "answer", "(III)J"⟩, 54) := ⟨⟨by decide +kernel, by decide +kernel⟩, lw_t5 (List.mem_of_getElem? (i := 31) rfl), lw_t6 (List.mem_of_getElem? (i := 204) rfl), lw_t6 (List.mem_of_getElem? (i := 205) rfl)⟩
theorem lw_p90 : lw_okq (⟨"SkySpireModel", "drifts", "()V"⟩, 54) := ⟨⟨by decide +kernel, by decide +kernel⟩, lw_t5 (List.mem_of_getElem? (i := 31) rfl), lw_t6 (List.mem_of_getElem? (i := 214) rfl), lw_t6 (List.mem_of_getElem? (i := 215) rfl)⟩
theorem lw_p91 : lw_okq (⟨"SkySpireModel", "beside", "(II)I"⟩, 54) := ⟨⟨by decide +kernel, by decide +kernel⟩, lw_t5 (List.mem_of_getElem? (i := 31) rfl), lw_t6 (List.mem_of_getElem? (i := 218) rfl), lw_t6 (List.mem_of_getElem? (i := 219) rfl)⟩
theorem lw_p92 : lw_okq (⟨"SkySpireModel", "strikes", "(I)V"⟩, 54) := ⟨⟨by decide +kernel, by decide +kernel⟩, lw_t5 (List.mem_of_getElem? (i := 31) rfl), lw_t6 (List.mem_of_getElem? (i := 222) rfl), lw_t6 (List.mem_of_getElem? (i := 223) rfl)⟩
theorem lw_p93 : lw_okq (⟨"SkySpireModel", "lays", "(II)V"⟩, 54) := ⟨⟨by decide +kernel, by decide +kernel⟩, lw_t5 (List.mem_of_getElem? (i := 31) rfl), lw_t6 (List.mem_of_getElem? (i := 226) rfl), lw_t6 (List.mem_of_getElem? (i := 227) rfl)⟩
theorem lw_p94 : lw_okq (⟨"SkySpireModel", "fades", "()V"⟩, 54) := ⟨⟨by decide +kernel, by decide +kernel⟩, lw_t5 (List.mem_of_getElem? (i := 31) rfl), lw_t6 (List.mem_of_getElem? (i := 230) rfl), lw_t6 (List.mem_of_getElem? (i := 231) rfl)⟩
theorem lw_p95 : lw_okq (⟨"SkySpireModel", "keepsAll", "()V"⟩, 54) := ⟨⟨by decide +kernel, by decide +kernel⟩, lw_t5 (List.mem_of_getElem? (i := 31) rfl), lw_t7 (List.mem_of_getElem? (i := 17) rfl), lw_t7 (List.mem_of_getElem? (i := 18) rfl)⟩
def lw_privs_6 : List (MethodName × Nat) := [(⟨"SkySpireModel", "moves", "(I)I"⟩, 54), (⟨"SkySpireModel", "movesRow", "([I)V"⟩, 54), (⟨"SkySpireModel", "isSky", "()Z"⟩, 54), (⟨"SkySpireModel", "keepsAct", "()V"⟩, 54), (⟨"SkySpireModel", "goes", "()I"⟩, 54), (⟨"SkySpireModel", "writes", "(I)Z"⟩, 54), (⟨"SkySpireModel", "wayOf", "(I)I"⟩, 54), (⟨"SkySpireModel", "forceOf", "(I)I"⟩, 54), (⟨"SkySpireModel", "wanted", "()J"⟩, 54), (⟨"SkySpireModel", "answer", "(III)J"⟩, 54), (⟨"SkySpireModel", "drifts", "()V"⟩, 54), (⟨"SkySpireModel", "beside", "(II)I"⟩, 54), (⟨"SkySpireModel", "strikes", "(I)V"⟩, 54), (⟨"SkySpireModel", "lays", "(II)V"⟩, 54), (⟨"SkySpireModel", "fades", "()V"⟩, 54), (⟨"SkySpireModel", "keepsAll", "()V"⟩, 54)]
theorem lw_r6 : ∀ q ∈ lw_privs_6, lw_okq q := List.forall_mem_cons.mpr ⟨lw_p80, List.forall_mem_cons.mpr ⟨lw_p81, List.forall_mem_cons.mpr ⟨lw_p82, List.forall_mem_cons.mpr ⟨lw_p83, List.forall_mem_cons.mpr ⟨lw_p84, List.forall_mem_cons.mpr ⟨lw_p85, List.forall_mem_cons.mpr ⟨lw_p86, List.forall_mem_cons.mpr ⟨lw_p87, List.forall_mem_cons.mpr ⟨lw_p88, List.forall_mem_cons.mpr ⟨lw_p89, List.forall_mem_cons.mpr ⟨lw_p90, List.forall_mem_cons.mpr ⟨lw_p91, List.forall_mem_cons.mpr ⟨lw_p92, List.forall_mem_cons.mpr ⟨lw_p93, List.forall_mem_cons.mpr ⟨lw_p94, List.forall_mem_cons.mpr ⟨lw_p95, fun _ h => absurd h List.not_mem_nil⟩⟩⟩⟩⟩⟩⟩⟩⟩⟩⟩⟩⟩⟩⟩⟩
theorem lw_p96 : lw_okq (⟨"SkySpireModel", "carriesAll", "(IZ)V"⟩, 54) := ⟨⟨by decide +kernel, by decide +kernel⟩, lw_t5 (List.mem_of_getElem? (i := 31) rfl), lw_t7 (List.mem_of_getElem? (i := 21) rfl), lw_t7 (List.mem_of_getElem? (i := 22) rfl)⟩
theorem lw_p97 : lw_okq (⟨"SkySpireModel", "carryRow", "([I)V"⟩, 54) := ⟨⟨by decide +kernel, by decide +kernel⟩, lw_t5 (List.mem_of_getElem? (i := 31) rfl), lw_t7 (List.mem_of_getElem? (i := 25) rfl), lw_t7 (List.mem_of_getElem? (i := 26) rfl)⟩
theorem lw_p98 : lw_okq (⟨"SkySpireModel", "goFor", "(I)V"⟩, 54) := ⟨⟨by decide +kernel, by decide +kernel⟩, lw_t5 (List.mem_of_getElem? (i := 31) rfl), lw_t7 (List.mem_of_getElem? (i := 29) rfl), lw_t7 (List.mem_of_getElem? (i := 30) rfl)⟩
theorem lw_p99 : lw_okq (⟨"SkySpireModel", "allStrokes", "()I"⟩, 54) := ⟨⟨by decide +kernel, by decide +kernel⟩, lw_t5 (List.mem_of_getElem? (i := 31) rfl), lw_t7 (List.mem_of_getElem? (i := 33) rfl), lw_t7 (List.mem_of_getElem? (i := 34) rfl)⟩
theorem lw_p100 : lw_okq (⟨"SkySpireModel", "like", "()I"⟩, 54) := ⟨⟨by decide +kernel, by decide +kernel⟩, lw_t5 (List.mem_of_getElem? (i := 31) rfl), lw_t7 (List.mem_of_getElem? (i := 37) rfl), lw_t7 (List.mem_of_getElem? (i := 38) rfl)⟩
theorem lw_p101 : lw_okq (⟨"SkySpireModel", "laysBack", "()V"⟩, 54) := ⟨⟨by decide +kernel, by decide +kernel⟩, lw_t5 (List.mem_of_getElem? (i := 31) rfl), lw_t7 (List.mem_of_getElem? (i := 41) rfl), lw_t7 (List.mem_of_getElem? (i := 42) rfl)⟩
theorem lw_p102 : lw_okq (⟨"SkySpireModel", "signedAt", "(Z)I"⟩, 54) := ⟨⟨by decide +kernel, by decide +kernel⟩, lw_t5 (List.mem_of_getElem? (i := 31) rfl), lw_t7 (List.mem_of_getElem? (i := 49) rfl), lw_t7 (List.mem_of_getElem? (i := 50) rfl)⟩
theorem lw_p103 : lw_okq (⟨"SkySpireModel", "isSigned", "(Z)Z"⟩, 54) := ⟨⟨by decide +kernel, by decide +kernel⟩, lw_t5 (List.mem_of_getElem? (i := 31) rfl), lw_t7 (List.mem_of_getElem? (i := 53) rfl), lw_t7 (List.mem_of_getElem? (i := 54) rfl)⟩
theorem lw_p104 : lw_okq (⟨"SkySpireModel", "likeIn", "(I)I"⟩, 54) := ⟨⟨by decide +kernel, by decide +kernel⟩, lw_t5 (List.mem_of_getElem? (i := 31) rfl), lw_t7 (List.mem_of_getElem? (i := 66) rfl), lw_t7 (List.mem_of_getElem? (i := 67) rfl)⟩
theorem lw_p105 : lw_okq (⟨"SkySpireModel", "leaves", "(III)Z"⟩, 54) := ⟨⟨by decide +kernel, by decide +kernel⟩, lw_t5 (List.mem_of_getElem? (i := 31) rfl), lw_t7 (List.mem_of_getElem? (i := 77) rfl), lw_t7 (List.mem_of_getElem? (i := 78) rfl)⟩
theorem lw_p106 : lw_okq (⟨"SkySpireModel", "swaps", "(II)V"⟩, 54) := ⟨⟨by decide +kernel, by decide +kernel⟩, lw_t5 (List.mem_of_getElem? (i := 31) rfl), lw_t7 (List.mem_of_getElem? (i := 89) rfl), lw_t7 (List.mem_of_getElem? (i := 90) rfl)⟩
theorem lw_p107 : lw_okq (⟨"SkySpireModel", "playOf", "(IIIII)I"⟩, 54) := ⟨⟨by decide +kernel, by decide +kernel⟩, lw_t5 (List.mem_of_getElem? (i := 31) rfl), lw_t7 (List.mem_of_getElem? (i := 98) rfl), lw_t7 (List.mem_of_getElem? (i := 99) rfl)⟩
theorem lw_p108 : lw_okq (⟨"SkySpireModel", "bestAt", "(IZ)I"⟩, 54) := ⟨⟨by decide +kernel, by decide +kernel⟩, lw_t5 (List.mem_of_getElem? (i := 31) rfl), lw_t7 (List.mem_of_getElem? (i := 103) rfl), lw_t7 (List.mem_of_getElem? (i := 104) rfl)⟩
theorem lw_p109 : lw_okq (⟨"SkySpireModel", "laysStiffs", "(III)V"⟩, 54) := ⟨⟨by decide +kernel, by decide +kernel⟩, lw_t5 (List.mem_of_getElem? (i := 31) rfl), lw_t7 (List.mem_of_getElem? (i := 112) rfl), lw_t7 (List.mem_of_getElem? (i := 113) rfl)⟩
theorem lw_p110 : lw_okq (⟨"SkySpireModel", "isRest", "(I)Z"⟩, 54) := ⟨⟨by decide +kernel, by decide +kernel⟩, lw_t5 (List.mem_of_getElem? (i := 31) rfl), lw_t7 (List.mem_of_getElem? (i := 116) rfl), lw_t7 (List.mem_of_getElem? (i := 117) rfl)⟩
theorem lw_p111 : lw_okq (⟨"SkySpireModel", "parting", "(I)I"⟩, 54) := ⟨⟨by decide +kernel, by decide +kernel⟩, lw_t5 (List.mem_of_getElem? (i := 31) rfl), lw_t7 (List.mem_of_getElem? (i := 129) rfl), lw_t7 (List.mem_of_getElem? (i := 130) rfl)⟩
def lw_privs_7 : List (MethodName × Nat) := [(⟨"SkySpireModel", "carriesAll", "(IZ)V"⟩, 54), (⟨"SkySpireModel", "carryRow", "([I)V"⟩, 54), (⟨"SkySpireModel", "goFor", "(I)V"⟩, 54), (⟨"SkySpireModel", "allStrokes", "()I"⟩, 54), (⟨"SkySpireModel", "like", "()I"⟩, 54), (⟨"SkySpireModel", "laysBack", "()V"⟩, 54), (⟨"SkySpireModel", "signedAt", "(Z)I"⟩, 54), (⟨"SkySpireModel", "isSigned", "(Z)Z"⟩, 54), (⟨"SkySpireModel", "likeIn", "(I)I"⟩, 54), (⟨"SkySpireModel", "leaves", "(III)Z"⟩, 54), (⟨"SkySpireModel", "swaps", "(II)V"⟩, 54), (⟨"SkySpireModel", "playOf", "(IIIII)I"⟩, 54), (⟨"SkySpireModel", "bestAt", "(IZ)I"⟩, 54), (⟨"SkySpireModel", "laysStiffs", "(III)V"⟩, 54), (⟨"SkySpireModel", "isRest", "(I)Z"⟩, 54), (⟨"SkySpireModel", "parting", "(I)I"⟩, 54)]
theorem lw_r7 : ∀ q ∈ lw_privs_7, lw_okq q := List.forall_mem_cons.mpr ⟨lw_p96, List.forall_mem_cons.mpr ⟨lw_p97, List.forall_mem_cons.mpr ⟨lw_p98, List.forall_mem_cons.mpr ⟨lw_p99, List.forall_mem_cons.mpr ⟨lw_p100, List.forall_mem_cons.mpr ⟨lw_p101, List.forall_mem_cons.mpr ⟨lw_p102, List.forall_mem_cons.mpr ⟨lw_p103, List.forall_mem_cons.mpr ⟨lw_p104, List.forall_mem_cons.mpr ⟨lw_p105, List.forall_mem_cons.mpr ⟨lw_p106, List.forall_mem_cons.mpr ⟨lw_p107, List.forall_mem_cons.mpr ⟨lw_p108, List.forall_mem_cons.mpr ⟨lw_p109, List.forall_mem_cons.mpr ⟨lw_p110, List.forall_mem_cons.mpr ⟨lw_p111, fun _ h => absurd h List.not_mem_nil⟩⟩⟩⟩⟩⟩⟩⟩⟩⟩⟩⟩⟩⟩⟩⟩
theorem lw_p112 : lw_okq (⟨"SkySpireModel", "mostAlike", "(II)I"⟩, 54) := ⟨⟨by decide +kernel, by decide +kernel⟩, lw_t5 (List.mem_of_getElem? (i := 31) rfl), lw_t7 (List.mem_of_getElem? (i := 133) rfl), lw_t7 (List.mem_of_getElem? (i := 134) rfl)⟩
theorem lw_p113 : lw_okq (⟨"SkySpireModel", "couldRule", "(I)Z"⟩, 54) := ⟨⟨by decide +kernel, by decide +kernel⟩, lw_t5 (List.mem_of_getElem? (i := 31) rfl), lw_t7 (List.mem_of_getElem? (i := 145) rfl), lw_t7 (List.mem_of_getElem? (i := 146) rfl)⟩
theorem lw_p114 : lw_okq (⟨"SkySpireModel", "draws", "(I)I"⟩, 54) := ⟨⟨by decide +kernel, by decide +kernel⟩, lw_t5 (List.mem_of_getElem? (i := 31) rfl), lw_t7 (List.mem_of_getElem? (i := 162) rfl), lw_t7 (List.mem_of_getElem? (i := 163) rfl)⟩
def lw_privs_8 : List (MethodName × Nat) := [(⟨"SkySpireModel", "mostAlike", "(II)I"⟩, 54), (⟨"SkySpireModel", "couldRule", "(I)Z"⟩, 54), (⟨"SkySpireModel", "draws", "(I)I"⟩, 54)]
theorem lw_r8 : ∀ q ∈ lw_privs_8, lw_okq q := List.forall_mem_cons.mpr ⟨lw_p112, List.forall_mem_cons.mpr ⟨lw_p113, List.forall_mem_cons.mpr ⟨lw_p114, fun _ h => absurd h List.not_mem_nil⟩⟩⟩
def lw_privs : List (MethodName × Nat) := lw_privs_1 ++ (lw_privs_2 ++ (lw_privs_3 ++ (lw_privs_4 ++ (lw_privs_5 ++ (lw_privs_6 ++ (lw_privs_7 ++ (lw_privs_8)))))))
def lw_tbl : List Cond := k2_sels lw_privs ++ tables_1
theorem lw_privs_ok : ∀ q ∈ lw_privs, lw_okq q := by
  show ∀ q ∈ lw_privs_1 ++ (lw_privs_2 ++ (lw_privs_3 ++ (lw_privs_4 ++ (lw_privs_5 ++ (lw_privs_6 ++ (lw_privs_7 ++ (lw_privs_8))))))), lw_okq q
  exact List.forall_mem_append.mpr ⟨lw_r1, List.forall_mem_append.mpr ⟨lw_r2, List.forall_mem_append.mpr ⟨lw_r3, List.forall_mem_append.mpr ⟨lw_r4, List.forall_mem_append.mpr ⟨lw_r5, List.forall_mem_append.mpr ⟨lw_r6, List.forall_mem_append.mpr ⟨lw_r7, lw_r8⟩⟩⟩⟩⟩⟩⟩
-- ===== ONE list of words for every method: the tables' words that hold all through a run =====
def lw_all : List Cond := lw_tbl.filter goodWord
/-- a word of the tables by its place: claim/WORDS.tsv -/
theorem lw_w {w : Cond} (i : Nat) (h : lw_tbl[i]? = some w) (g : goodWord w = true) : w ∈ lw_all := List.mem_filter.mpr ⟨List.mem_of_getElem? h, g⟩
theorem lw_all_tbl {w : Cond} (h : w ∈ lw_all) : w ∈ lw_tbl := (List.mem_filter.mp h).1
theorem lw_self : GoodIn lw_all lw_all := fun w h => ⟨h, good_of_word (List.mem_filter.mp h).2⟩
/-- a class's field words, by their places -/
theorem lw_in (ws : List Cond) (ps : List Nat) (hp : ws = ps.filterMap (fun i => lw_tbl[i]?)) (hg : ws.all goodWord = true) : ∀ w ∈ ws, w ∈ lw_all := by
  intro w h
  have h1 := List.all_eq_true.mp hg w h
  rw [hp] at h
  obtain ⟨i, -, hi⟩ := List.mem_filterMap.mp h
  exact lw_w i hi h1
/-- the words of a contract for the method y with code b, L locals, answer r -/
abbrev ws_ (y : MethodName) (b : ByteArray) (L : Nat) (r : Option FieldType) : List Cond := Cond.code y b L r :: lw_all
theorem lw_meth {y : MethodName} {b : ByteArray} {L : Nat} {r : Option FieldType} (h : Cond.code y b L r ∈ lw_all) : GoodIn lw_all (ws_ y b L r) := by
  intro w hw
  rcases List.mem_cons.mp hw with e | e
  · rw [e]
    exact lw_self _ h
  · exact lw_self _ e
theorem lw_app {a c : List Cond} (ha : ∀ w ∈ a, w ∈ lw_all) (hc : GoodIn lw_all c) : GoodIn lw_all (a ++ c) := by
  intro w hw
  rcases List.mem_append.mp hw with e | e
  · exact lw_self w (ha w e)
  · exact hc w e
/-- what a call through an object asks: cwV n hts (lw_V ..) -/
theorem lw_V {own : String} {idx : Nat} {C : String} {y : MethodName} {b : ByteArray} {L : Nat} {r : Option FieldType} (h1 : Cond.methodLink own idx y ∈ lw_all) (h2 : Cond.instanceMethod y ∈ lw_all) (h3 : Cond.selects C y y ∈ lw_all) (h4 : Cond.initialized C ∈ lw_all) (h5 : Cond.code y b L r ∈ lw_all) : GoodIn lw_all (wsV own idx C y (ws_ y b L r)) := by
  refine lw_app ?_ (lw_meth h5)
  intro w hw
  simp only [List.mem_cons, List.not_mem_nil, or_false] at hw
  rcases hw with e | e | e | e
  · rw [e]; exact h1
  · rw [e]; exact h2
  · rw [e]; exact h3
  · rw [e]; exact h4
/-- what a static call asks: va_cwS n hts (lw_S ..) -/
theorem lw_S {own : String} {idx : Nat} {y : MethodName} {b : ByteArray} {L : Nat} {r : Option FieldType} (h1 : Cond.methodLink own idx y ∈ lw_all) (h2 : Cond.static y ∈ lw_all) (h3 : Cond.initialized y.cls ∈ lw_all) (h4 : Cond.code y b L r ∈ lw_all) : GoodIn lw_all (va_wsS own idx y (ws_ y b L r)) := by
  refine lw_app ?_ (lw_meth h4)
  intro w hw
  simp only [List.mem_cons, List.not_mem_nil, or_false] at hw
  rcases hw with e | e | e
  · rw [e]; exact h1
  · rw [e]; exact h2
  · rw [e]; exact h3
/-- the words of a contract for a method WITH HANDLERS (hh: its table) -/
abbrev wsW_ (y : MethodName) (b : ByteArray) (L : Nat) (r : Option FieldType) (hh : List (Nat × Nat × Nat × Nat)) : List Cond := Cond.codeWith y b L r hh :: lw_all
theorem lw_methW {y : MethodName} {b : ByteArray} {L : Nat} {r : Option FieldType} {hh : List (Nat × Nat × Nat × Nat)} (h : Cond.codeWith y b L r hh ∈ lw_all) : GoodIn lw_all (wsW_ y b L r hh) := by
  intro w hw
  rcases List.mem_cons.mp hw with e | e
  · rw [e]
    exact lw_self _ h
  · exact lw_self _ e
/-- any list of words by their places (lw_in), good -/
theorem lw_good {ws : List Cond} (h : ∀ w ∈ ws, w ∈ lw_all) : GoodIn lw_all ws := fun w hw => lw_self w (h w hw)
/-- what a call of a method with handlers asks: vx_cwVW n hts (lw_VW ..), vx_cwSW n hts (lw_SW ..) -/
theorem lw_VW {own : String} {idx : Nat} {C : String} {y : MethodName} {b : ByteArray} {L : Nat} {r : Option FieldType} {hh : List (Nat × Nat × Nat × Nat)} (h1 : Cond.methodLink own idx y ∈ lw_all) (h2 : Cond.instanceMethod y ∈ lw_all) (h3 : Cond.selects C y y ∈ lw_all) (h4 : Cond.initialized C ∈ lw_all) (h5 : Cond.codeWith y b L r hh ∈ lw_all) : GoodIn lw_all (wsV own idx C y (wsW_ y b L r hh)) := by
  refine lw_app ?_ (lw_methW h5)
  intro w hw
  simp only [List.mem_cons, List.not_mem_nil, or_false] at hw
  rcases hw with e | e | e | e
  · rw [e]; exact h1
  · rw [e]; exact h2
  · rw [e]; exact h3
  · rw [e]; exact h4
theorem lw_SW {own : String} {idx : Nat} {y : MethodName} {b : ByteArray} {L : Nat} {r : Option FieldType} {hh : List (Nat × Nat × Nat × Nat)} (h1 : Cond.methodLink own idx y ∈ lw_all) (h2 : Cond.static y ∈ lw_all) (h3 : Cond.initialized y.cls ∈ lw_all) (h4 : Cond.codeWith y b L r hh ∈ lw_all) : GoodIn lw_all (va_wsS own idx y (wsW_ y b L r hh)) := by
  refine lw_app ?_ (lw_methW h4)
  intro w hw
  simp only [List.mem_cons, List.not_mem_nil, or_false] at hw
  rcases hw with e | e | e
  · rw [e]; exact h1
  · rw [e]; exact h2
  · rw [e]; exact h3
/-- a word by its place in its run of the tables -/
theorem lw_at {r : List Cond} (hr : ∀ w ∈ r, w ∈ lw_tbl) {w : Cond} (i : Nat) (h : r[i]? = some w) : w ∈ lw_tbl := hr w (List.mem_of_getElem? h)
theorem lw_g {w : Cond} (h : w ∈ lw_tbl) (g : goodWord w = true) : w ∈ lw_all := List.mem_filter.mpr ⟨h, g⟩
theorem lw_ms : ∀ w ∈ k2_sels lw_privs, w ∈ lw_tbl := fun w h => show w ∈ k2_sels lw_privs ++ tables_1 from List.mem_append_left _ h
theorem lw_m1 : ∀ w ∈ tables_1_1, w ∈ lw_tbl := fun w h => show w ∈ k2_sels lw_privs ++ tables_1 from List.mem_append_right (k2_sels lw_privs) (show w ∈ tables_1 from List.mem_append_left _ h)
theorem lw_m2 : ∀ w ∈ tables_1_2, w ∈ lw_tbl := fun w h => show w ∈ k2_sels lw_privs ++ tables_1 from List.mem_append_right (k2_sels lw_privs) (show w ∈ tables_1 from List.mem_append_right _ (List.mem_append_left _ h))
theorem lw_m3 : ∀ w ∈ tables_1_3, w ∈ lw_tbl := fun w h => show w ∈ k2_sels lw_privs ++ tables_1 from List.mem_append_right (k2_sels lw_privs) (show w ∈ tables_1 from List.mem_append_right _ (List.mem_append_right _ (List.mem_append_left _ h)))
theorem lw_m4 : ∀ w ∈ tables_1_4, w ∈ lw_tbl := fun w h => show w ∈ k2_sels lw_privs ++ tables_1 from List.mem_append_right (k2_sels lw_privs) (show w ∈ tables_1 from List.mem_append_right _ (List.mem_append_right _ (List.mem_append_right _ (List.mem_append_left _ h))))
theorem lw_m5 : ∀ w ∈ tables_1_5, w ∈ lw_tbl := fun w h => show w ∈ k2_sels lw_privs ++ tables_1 from List.mem_append_right (k2_sels lw_privs) (show w ∈ tables_1 from List.mem_append_right _ (List.mem_append_right _ (List.mem_append_right _ (List.mem_append_right _ (List.mem_append_left _ h)))))
theorem lw_m6 : ∀ w ∈ tables_1_6, w ∈ lw_tbl := fun w h => show w ∈ k2_sels lw_privs ++ tables_1 from List.mem_append_right (k2_sels lw_privs) (show w ∈ tables_1 from List.mem_append_right _ (List.mem_append_right _ (List.mem_append_right _ (List.mem_append_right _ (List.mem_append_right _ (List.mem_append_left _ h))))))
theorem lw_m7 : ∀ w ∈ tables_1_7, w ∈ lw_tbl := fun w h => show w ∈ k2_sels lw_privs ++ tables_1 from List.mem_append_right (k2_sels lw_privs) (show w ∈ tables_1 from List.mem_append_right _ (List.mem_append_right _ (List.mem_append_right _ (List.mem_append_right _ (List.mem_append_right _ (List.mem_append_right _ h))))))
theorem qs0 : (Cond.selects "java/lang/Throwable" ⟨"java/lang/Throwable", "fillInStackTrace", "(I)Ljava/lang/Throwable;"⟩ ⟨"java/lang/Throwable", "fillInStackTrace", "(I)Ljava/lang/Throwable;"⟩) ∈ lw_all := lw_g (lw_at lw_ms 0 rfl) rfl
theorem qs1 : (Cond.selects "SkySpire" ⟨"SkySpire", "four", "(I)V"⟩ ⟨"SkySpire", "four", "(I)V"⟩) ∈ lw_all := lw_g (lw_at lw_ms 1 rfl) rfl
theorem qs2 : (Cond.selects "SkySpire$Text" ⟨"SkySpire$Text", "see", "()I"⟩ ⟨"SkySpire$Text", "see", "()I"⟩) ∈ lw_all := lw_g (lw_at lw_ms 2 rfl) rfl
theorem qs3 : (Cond.selects "SkySpire$Text" ⟨"SkySpire$Text", "oneOf", "([Ljava/lang/String;)I"⟩ ⟨"SkySpire$Text", "oneOf", "([Ljava/lang/String;)I"⟩) ∈ lw_all := lw_g (lw_at lw_ms 3 rfl) rfl
theorem qs4 : (Cond.selects "SkySpire$Text" ⟨"SkySpire$Text", "isWord", "(Ljava/lang/String;)Z"⟩ ⟨"SkySpire$Text", "isWord", "(Ljava/lang/String;)Z"⟩) ∈ lw_all := lw_g (lw_at lw_ms 4 rfl) rfl
theorem qs5 : (Cond.selects "SkySpire$Text" ⟨"SkySpire$Text", "letters", "()I"⟩ ⟨"SkySpire$Text", "letters", "()I"⟩) ∈ lw_all := lw_g (lw_at lw_ms 5 rfl) rfl
theorem qs6 : (Cond.selects "SkySpire$Text" ⟨"SkySpire$Text", "demand", "(ZII)V"⟩ ⟨"SkySpire$Text", "demand", "(ZII)V"⟩) ∈ lw_all := lw_g (lw_at lw_ms 6 rfl) rfl
theorem qs7 : (Cond.selects "SkySpire$Text" ⟨"SkySpire$Text", "canBe", "(I)Z"⟩ ⟨"SkySpire$Text", "canBe", "(I)Z"⟩) ∈ lw_all := lw_g (lw_at lw_ms 7 rfl) rfl
theorem qs8 : (Cond.selects "SkySpire$Text" ⟨"SkySpire$Text", "line", "(I)V"⟩ ⟨"SkySpire$Text", "line", "(I)V"⟩) ∈ lw_all := lw_g (lw_at lw_ms 8 rfl) rfl
theorem qs9 : (Cond.selects "SkySpire$Text" ⟨"SkySpire$Text", "skyHere", "()V"⟩ ⟨"SkySpire$Text", "skyHere", "()V"⟩) ∈ lw_all := lw_g (lw_at lw_ms 9 rfl) rfl
theorem qs10 : (Cond.selects "SkySpire$Text" ⟨"SkySpire$Text", "number", "(II)I"⟩ ⟨"SkySpire$Text", "number", "(II)I"⟩) ∈ lw_all := lw_g (lw_at lw_ms 10 rfl) rfl
theorem qs11 : (Cond.selects "SkySpire$Text" ⟨"SkySpire$Text", "isDigit", "(I)Z"⟩ ⟨"SkySpire$Text", "isDigit", "(I)Z"⟩) ∈ lw_all := lw_g (lw_at lw_ms 11 rfl) rfl
theorem qs12 : (Cond.selects "SkySpire$Text" ⟨"SkySpire$Text", "penHere", "()V"⟩ ⟨"SkySpire$Text", "penHere", "()V"⟩) ∈ lw_all := lw_g (lw_at lw_ms 12 rfl) rfl
theorem qs13 : (Cond.selects "SkySpire$Text" ⟨"SkySpire$Text", "cellNumber", "()I"⟩ ⟨"SkySpire$Text", "cellNumber", "()I"⟩) ∈ lw_all := lw_g (lw_at lw_ms 13 rfl) rfl
theorem qs14 : (Cond.selects "SkySpire$Text" ⟨"SkySpire$Text", "windHere", "()V"⟩ ⟨"SkySpire$Text", "windHere", "()V"⟩) ∈ lw_all := lw_g (lw_at lw_ms 14 rfl) rfl
theorem qs15 : (Cond.selects "SkySpire$Text" ⟨"SkySpire$Text", "takesSign", "(I)Z"⟩ ⟨"SkySpire$Text", "takesSign", "(I)Z"⟩) ∈ lw_all := lw_g (lw_at lw_ms 15 rfl) rfl
theorem qs16 : (Cond.selects "SkySpire$Text" ⟨"SkySpire$Text", "ends", "()V"⟩ ⟨"SkySpire$Text", "ends", "()V"⟩) ∈ lw_all := lw_g (lw_at lw_ms 16 rfl) rfl
theorem qs17 : (Cond.selects "SkySpire" ⟨"SkySpire", "faulted", "()I"⟩ ⟨"SkySpire", "faulted", "()I"⟩) ∈ lw_all := lw_g (lw_at lw_ms 17 rfl) rfl
theorem qs18 : (Cond.selects "SkySpire$Text" ⟨"SkySpire$Text", "clauseHere", "()LSkySpire$Clause;"⟩ ⟨"SkySpire$Text", "clauseHere", "()LSkySpire$Clause;"⟩) ∈ lw_all := lw_g (lw_at lw_ms 18 rfl) rfl
theorem qs19 : (Cond.selects "SkySpire$Text" ⟨"SkySpire$Text", "sum", "()LSkySpire$Value;"⟩ ⟨"SkySpire$Text", "sum", "()LSkySpire$Value;"⟩) ∈ lw_all := lw_g (lw_at lw_ms 19 rfl) rfl
theorem qs20 : (Cond.selects "SkySpire$Text" ⟨"SkySpire$Text", "term", "()LSkySpire$Value;"⟩ ⟨"SkySpire$Text", "term", "()LSkySpire$Value;"⟩) ∈ lw_all := lw_g (lw_at lw_ms 20 rfl) rfl
theorem qs21 : (Cond.selects "SkySpire$Text" ⟨"SkySpire$Text", "value", "()LSkySpire$Value;"⟩ ⟨"SkySpire$Text", "value", "()LSkySpire$Value;"⟩) ∈ lw_all := lw_g (lw_at lw_ms 21 rfl) rfl
theorem qs22 : (Cond.selects "SkySpire$Text" ⟨"SkySpire$Text", "makes", "(I)V"⟩ ⟨"SkySpire$Text", "makes", "(I)V"⟩) ∈ lw_all := lw_g (lw_at lw_ms 22 rfl) rfl
theorem qs23 : (Cond.selects "SkySpire$Text" ⟨"SkySpire$Text", "takesWord", "(Ljava/lang/String;)Z"⟩ ⟨"SkySpire$Text", "takesWord", "(Ljava/lang/String;)Z"⟩) ∈ lw_all := lw_g (lw_at lw_ms 23 rfl) rfl
theorem qs24 : (Cond.selects "SkySpire$Text" ⟨"SkySpire$Text", "tested", "()LSkySpire$Test;"⟩ ⟨"SkySpire$Text", "tested", "()LSkySpire$Test;"⟩) ∈ lw_all := lw_g (lw_at lw_ms 24 rfl) rfl
theorem qs25 : (Cond.selects "SkySpire$Text" ⟨"SkySpire$Text", "parted", "()LSkySpire$Test;"⟩ ⟨"SkySpire$Text", "parted", "()LSkySpire$Test;"⟩) ∈ lw_all := lw_g (lw_at lw_ms 25 rfl) rfl
theorem qs26 : (Cond.selects "SkySpire$Text" ⟨"SkySpire$Text", "fact", "()LSkySpire$Test;"⟩ ⟨"SkySpire$Text", "fact", "()LSkySpire$Test;"⟩) ∈ lw_all := lw_g (lw_at lw_ms 26 rfl) rfl
theorem qs27 : (Cond.selects "SkySpire$Text" ⟨"SkySpire$Text", "opens", "(I)V"⟩ ⟨"SkySpire$Text", "opens", "(I)V"⟩) ∈ lw_all := lw_g (lw_at lw_ms 27 rfl) rfl
theorem qs28 : (Cond.selects "SkySpire$Text" ⟨"SkySpire$Text", "sign", "()I"⟩ ⟨"SkySpire$Text", "sign", "()I"⟩) ∈ lw_all := lw_g (lw_at lw_ms 28 rfl) rfl
theorem qs29 : (Cond.selects "SkySpire" ⟨"SkySpire", "isPen", "(I)Z"⟩ ⟨"SkySpire", "isPen", "(I)Z"⟩) ∈ lw_all := lw_g (lw_at lw_ms 29 rfl) rfl
theorem qs30 : (Cond.selects "SkySpire" ⟨"SkySpire", "isCell", "(I)Z"⟩ ⟨"SkySpire", "isCell", "(I)Z"⟩) ∈ lw_all := lw_g (lw_at lw_ms 30 rfl) rfl
theorem qs31 : (Cond.selects "SkySpire" ⟨"SkySpire", "keepsAct", "()V"⟩ ⟨"SkySpire", "keepsAct", "()V"⟩) ∈ lw_all := lw_g (lw_at lw_ms 31 rfl) rfl
theorem qs32 : (Cond.selects "SkySpire" ⟨"SkySpire", "law", "()LSkySpire$Rule;"⟩ ⟨"SkySpire", "law", "()LSkySpire$Rule;"⟩) ∈ lw_all := lw_g (lw_at lw_ms 32 rfl) rfl
theorem qs33 : (Cond.selects "SkySpire$Sky" ⟨"SkySpire$Sky", "writes", "(ILSkySpire$Rule;)Z"⟩ ⟨"SkySpire$Sky", "writes", "(ILSkySpire$Rule;)Z"⟩) ∈ lw_all := lw_g (lw_at lw_ms 33 rfl) rfl
theorem qs34 : (Cond.selects "SkySpire$Sky" ⟨"SkySpire$Sky", "wayOn", "(I)I"⟩ ⟨"SkySpire$Sky", "wayOn", "(I)I"⟩) ∈ lw_all := lw_g (lw_at lw_ms 34 rfl) rfl
theorem qs35 : (Cond.selects "SkySpire$Sky" ⟨"SkySpire$Sky", "forceOn", "(I)I"⟩ ⟨"SkySpire$Sky", "forceOn", "(I)I"⟩) ∈ lw_all := lw_g (lw_at lw_ms 35 rfl) rfl
theorem qs36 : (Cond.selects "SkySpire$Sky" ⟨"SkySpire$Sky", "moves", "()V"⟩ ⟨"SkySpire$Sky", "moves", "()V"⟩) ∈ lw_all := lw_g (lw_at lw_ms 36 rfl) rfl
theorem qs37 : (Cond.selects "SkySpire$Sky" ⟨"SkySpire$Sky", "falls", "(II)V"⟩ ⟨"SkySpire$Sky", "falls", "(II)V"⟩) ∈ lw_all := lw_g (lw_at lw_ms 37 rfl) rfl
theorem qs38 : (Cond.selects "SkySpire" ⟨"SkySpire", "writesAlone", "(III)Z"⟩ ⟨"SkySpire", "writesAlone", "(III)Z"⟩) ∈ lw_all := lw_g (lw_at lw_ms 38 rfl) rfl
theorem qs39 : (Cond.selects "SkySpire" ⟨"SkySpire", "plays", "(IIII)I"⟩ ⟨"SkySpire", "plays", "(IIII)I"⟩) ∈ lw_all := lw_g (lw_at lw_ms 39 rfl) rfl
theorem qs40 : (Cond.selects "SkySpire" ⟨"SkySpire", "isRest", "(II)Z"⟩ ⟨"SkySpire", "isRest", "(II)Z"⟩) ∈ lw_all := lw_g (lw_at lw_ms 40 rfl) rfl
theorem qs41 : (Cond.selects "SkySpire" ⟨"SkySpire", "ruleOf", "(I)LSkySpire$Rule;"⟩ ⟨"SkySpire", "ruleOf", "(I)LSkySpire$Rule;"⟩) ∈ lw_all := lw_g (lw_at lw_ms 41 rfl) rfl
theorem qs42 : (Cond.selects "SkySpire" ⟨"SkySpire", "parts", "(I)I"⟩ ⟨"SkySpire", "parts", "(I)I"⟩) ∈ lw_all := lw_g (lw_at lw_ms 42 rfl) rfl
theorem qs43 : (Cond.selects "SkySpire" ⟨"SkySpire", "alikeOf", "(I)I"⟩ ⟨"SkySpire", "alikeOf", "(I)I"⟩) ∈ lw_all := lw_g (lw_at lw_ms 43 rfl) rfl
theorem qs44 : (Cond.selects "SkySpire" ⟨"SkySpire", "gathersRules", "(I)V"⟩ ⟨"SkySpire", "gathersRules", "(I)V"⟩) ∈ lw_all := lw_g (lw_at lw_ms 44 rfl) rfl
theorem qs45 : (Cond.selects "SkySpire" ⟨"SkySpire", "areNotesSo", "(I)Z"⟩ ⟨"SkySpire", "areNotesSo", "(I)Z"⟩) ∈ lw_all := lw_g (lw_at lw_ms 45 rfl) rfl
theorem qs46 : (Cond.selects "SkySpire" ⟨"SkySpire", "draw", "(I)I"⟩ ⟨"SkySpire", "draw", "(I)I"⟩) ∈ lw_all := lw_g (lw_at lw_ms 46 rfl) rfl
theorem qs47 : (Cond.selects "SkySpireModel" ⟨"SkySpireModel", "put", "(I)V"⟩ ⟨"SkySpireModel", "put", "(I)V"⟩) ∈ lw_all := lw_g (lw_at lw_ms 47 rfl) rfl
theorem qs48 : (Cond.selects "SkySpireModel" ⟨"SkySpireModel", "readsAll", "()V"⟩ ⟨"SkySpireModel", "readsAll", "()V"⟩) ∈ lw_all := lw_g (lw_at lw_ms 48 rfl) rfl
theorem qs49 : (Cond.selects "SkySpireModel" ⟨"SkySpireModel", "starts", "()V"⟩ ⟨"SkySpireModel", "starts", "()V"⟩) ∈ lw_all := lw_g (lw_at lw_ms 49 rfl) rfl
theorem qs50 : (Cond.selects "SkySpireModel" ⟨"SkySpireModel", "skyClause", "(I)V"⟩ ⟨"SkySpireModel", "skyClause", "(I)V"⟩) ∈ lw_all := lw_g (lw_at lw_ms 50 rfl) rfl
theorem qs51 : (Cond.selects "SkySpireModel" ⟨"SkySpireModel", "blanks", "()V"⟩ ⟨"SkySpireModel", "blanks", "()V"⟩) ∈ lw_all := lw_g (lw_at lw_ms 51 rfl) rfl
theorem qs52 : (Cond.selects "SkySpireModel" ⟨"SkySpireModel", "byteHere", "()I"⟩ ⟨"SkySpireModel", "byteHere", "()I"⟩) ∈ lw_all := lw_g (lw_at lw_ms 52 rfl) rfl
theorem qs53 : (Cond.selects "SkySpireModel" ⟨"SkySpireModel", "stood", "(Ljava/lang/String;)Z"⟩ ⟨"SkySpireModel", "stood", "(Ljava/lang/String;)Z"⟩) ∈ lw_all := lw_g (lw_at lw_ms 53 rfl) rfl
theorem qs54 : (Cond.selects "SkySpireModel" ⟨"SkySpireModel", "fails", "(II)V"⟩ ⟨"SkySpireModel", "fails", "(II)V"⟩) ∈ lw_all := lw_g (lw_at lw_ms 54 rfl) rfl
theorem qs55 : (Cond.selects "SkySpireModel" ⟨"SkySpireModel", "isFull", "(II)Z"⟩ ⟨"SkySpireModel", "isFull", "(II)Z"⟩) ∈ lw_all := lw_g (lw_at lw_ms 55 rfl) rfl
theorem qs56 : (Cond.selects "SkySpireModel" ⟨"SkySpireModel", "skyPart", "(I)V"⟩ ⟨"SkySpireModel", "skyPart", "(I)V"⟩) ∈ lw_all := lw_g (lw_at lw_ms 56 rfl) rfl
theorem qs57 : (Cond.selects "SkySpireModel" ⟨"SkySpireModel", "amount", "(II)I"⟩ ⟨"SkySpireModel", "amount", "(II)I"⟩) ∈ lw_all := lw_g (lw_at lw_ms 57 rfl) rfl
theorem qs58 : (Cond.selects "SkySpireModel" ⟨"SkySpireModel", "digits", "(I)I"⟩ ⟨"SkySpireModel", "digits", "(I)I"⟩) ∈ lw_all := lw_g (lw_at lw_ms 58 rfl) rfl
theorem qs59 : (Cond.selects "SkySpireModel" ⟨"SkySpireModel", "isDigit", "()Z"⟩ ⟨"SkySpireModel", "isDigit", "()Z"⟩) ∈ lw_all := lw_g (lw_at lw_ms 59 rfl) rfl
theorem qs60 : (Cond.selects "SkySpireModel" ⟨"SkySpireModel", "goesOn", "()Z"⟩ ⟨"SkySpireModel", "goesOn", "()Z"⟩) ∈ lw_all := lw_g (lw_at lw_ms 60 rfl) rfl
theorem qs61 : (Cond.selects "SkySpireModel" ⟨"SkySpireModel", "begins", "()V"⟩ ⟨"SkySpireModel", "begins", "()V"⟩) ∈ lw_all := lw_g (lw_at lw_ms 61 rfl) rfl
theorem qs62 : (Cond.selects "SkySpireModel" ⟨"SkySpireModel", "ruleClause", "(I)V"⟩ ⟨"SkySpireModel", "ruleClause", "(I)V"⟩) ∈ lw_all := lw_g (lw_at lw_ms 62 rfl) rfl
theorem qs63 : (Cond.selects "SkySpireModel" ⟨"SkySpireModel", "sum", "()V"⟩ ⟨"SkySpireModel", "sum", "()V"⟩) ∈ lw_all := lw_g (lw_at lw_ms 63 rfl) rfl
theorem qs64 : (Cond.selects "SkySpireModel" ⟨"SkySpireModel", "term", "()V"⟩ ⟨"SkySpireModel", "term", "()V"⟩) ∈ lw_all := lw_g (lw_at lw_ms 64 rfl) rfl
theorem qs65 : (Cond.selects "SkySpireModel" ⟨"SkySpireModel", "value", "()V"⟩ ⟨"SkySpireModel", "value", "()V"⟩) ∈ lw_all := lw_g (lw_at lw_ms 65 rfl) rfl
theorem qs66 : (Cond.selects "SkySpireModel" ⟨"SkySpireModel", "isCounted", "(I)V"⟩ ⟨"SkySpireModel", "isCounted", "(I)V"⟩) ∈ lw_all := lw_g (lw_at lw_ms 66 rfl) rfl
theorem qs67 : (Cond.selects "SkySpireModel" ⟨"SkySpireModel", "entry", "(II)V"⟩ ⟨"SkySpireModel", "entry", "(II)V"⟩) ∈ lw_all := lw_g (lw_at lw_ms 67 rfl) rfl
theorem qs68 : (Cond.selects "SkySpireModel" ⟨"SkySpireModel", "takes", "(Ljava/lang/String;)Z"⟩ ⟨"SkySpireModel", "takes", "(Ljava/lang/String;)Z"⟩) ∈ lw_all := lw_g (lw_at lw_ms 68 rfl) rfl
theorem qs69 : (Cond.selects "SkySpireModel" ⟨"SkySpireModel", "test", "()V"⟩ ⟨"SkySpireModel", "test", "()V"⟩) ∈ lw_all := lw_g (lw_at lw_ms 69 rfl) rfl
theorem qs70 : (Cond.selects "SkySpireModel" ⟨"SkySpireModel", "fact", "()Z"⟩ ⟨"SkySpireModel", "fact", "()Z"⟩) ∈ lw_all := lw_g (lw_at lw_ms 70 rfl) rfl
theorem qs71 : (Cond.selects "SkySpireModel" ⟨"SkySpireModel", "opens", "(I)V"⟩ ⟨"SkySpireModel", "opens", "(I)V"⟩) ∈ lw_all := lw_g (lw_at lw_ms 71 rfl) rfl
theorem qs72 : (Cond.selects "SkySpireModel" ⟨"SkySpireModel", "compared", "()V"⟩ ⟨"SkySpireModel", "compared", "()V"⟩) ∈ lw_all := lw_g (lw_at lw_ms 72 rfl) rfl
theorem qs73 : (Cond.selects "SkySpireModel" ⟨"SkySpireModel", "answers", "(I)V"⟩ ⟨"SkySpireModel", "answers", "(I)V"⟩) ∈ lw_all := lw_g (lw_at lw_ms 73 rfl) rfl
theorem qs74 : (Cond.selects "SkySpireModel" ⟨"SkySpireModel", "top", "()I"⟩ ⟨"SkySpireModel", "top", "()I"⟩) ∈ lw_all := lw_g (lw_at lw_ms 74 rfl) rfl
theorem qs75 : (Cond.selects "SkySpireModel" ⟨"SkySpireModel", "isPen", "(I)Z"⟩ ⟨"SkySpireModel", "isPen", "(I)Z"⟩) ∈ lw_all := lw_g (lw_at lw_ms 75 rfl) rfl
theorem qs76 : (Cond.selects "SkySpireModel" ⟨"SkySpireModel", "strokesOf", "(I)I"⟩ ⟨"SkySpireModel", "strokesOf", "(I)I"⟩) ∈ lw_all := lw_g (lw_at lw_ms 76 rfl) rfl
theorem qs77 : (Cond.selects "SkySpireModel" ⟨"SkySpireModel", "cells", "()I"⟩ ⟨"SkySpireModel", "cells", "()I"⟩) ∈ lw_all := lw_g (lw_at lw_ms 77 rfl) rfl
theorem qs78 : (Cond.selects "SkySpireModel" ⟨"SkySpireModel", "isCell", "(I)Z"⟩ ⟨"SkySpireModel", "isCell", "(I)Z"⟩) ∈ lw_all := lw_g (lw_at lw_ms 78 rfl) rfl
theorem qs79 : (Cond.selects "SkySpireModel" ⟨"SkySpireModel", "movesAll", "(IZ)V"⟩ ⟨"SkySpireModel", "movesAll", "(IZ)V"⟩) ∈ lw_all := lw_g (lw_at lw_ms 79 rfl) rfl
theorem qs80 : (Cond.selects "SkySpireModel" ⟨"SkySpireModel", "moves", "(I)I"⟩ ⟨"SkySpireModel", "moves", "(I)I"⟩) ∈ lw_all := lw_g (lw_at lw_ms 80 rfl) rfl
theorem qs81 : (Cond.selects "SkySpireModel" ⟨"SkySpireModel", "movesRow", "([I)V"⟩ ⟨"SkySpireModel", "movesRow", "([I)V"⟩) ∈ lw_all := lw_g (lw_at lw_ms 81 rfl) rfl
theorem qs82 : (Cond.selects "SkySpireModel" ⟨"SkySpireModel", "isSky", "()Z"⟩ ⟨"SkySpireModel", "isSky", "()Z"⟩) ∈ lw_all := lw_g (lw_at lw_ms 82 rfl) rfl
theorem qs83 : (Cond.selects "SkySpireModel" ⟨"SkySpireModel", "keepsAct", "()V"⟩ ⟨"SkySpireModel", "keepsAct", "()V"⟩) ∈ lw_all := lw_g (lw_at lw_ms 83 rfl) rfl
theorem qs84 : (Cond.selects "SkySpireModel" ⟨"SkySpireModel", "goes", "()I"⟩ ⟨"SkySpireModel", "goes", "()I"⟩) ∈ lw_all := lw_g (lw_at lw_ms 84 rfl) rfl
theorem qs85 : (Cond.selects "SkySpireModel" ⟨"SkySpireModel", "writes", "(I)Z"⟩ ⟨"SkySpireModel", "writes", "(I)Z"⟩) ∈ lw_all := lw_g (lw_at lw_ms 85 rfl) rfl
theorem qs86 : (Cond.selects "SkySpireModel" ⟨"SkySpireModel", "wayOf", "(I)I"⟩ ⟨"SkySpireModel", "wayOf", "(I)I"⟩) ∈ lw_all := lw_g (lw_at lw_ms 86 rfl) rfl
theorem qs87 : (Cond.selects "SkySpireModel" ⟨"SkySpireModel", "forceOf", "(I)I"⟩ ⟨"SkySpireModel", "forceOf", "(I)I"⟩) ∈ lw_all := lw_g (lw_at lw_ms 87 rfl) rfl
theorem qs88 : (Cond.selects "SkySpireModel" ⟨"SkySpireModel", "wanted", "()J"⟩ ⟨"SkySpireModel", "wanted", "()J"⟩) ∈ lw_all := lw_g (lw_at lw_ms 88 rfl) rfl
theorem qs89 : (Cond.selects "SkySpireModel" ⟨"SkySpireModel", "answer", "(III)J"⟩ ⟨"SkySpireModel", "answer", "(III)J"⟩) ∈ lw_all := lw_g (lw_at lw_ms 89 rfl) rfl
theorem qs90 : (Cond.selects "SkySpireModel" ⟨"SkySpireModel", "drifts", "()V"⟩ ⟨"SkySpireModel", "drifts", "()V"⟩) ∈ lw_all := lw_g (lw_at lw_ms 90 rfl) rfl
theorem qs91 : (Cond.selects "SkySpireModel" ⟨"SkySpireModel", "beside", "(II)I"⟩ ⟨"SkySpireModel", "beside", "(II)I"⟩) ∈ lw_all := lw_g (lw_at lw_ms 91 rfl) rfl
theorem qs92 : (Cond.selects "SkySpireModel" ⟨"SkySpireModel", "strikes", "(I)V"⟩ ⟨"SkySpireModel", "strikes", "(I)V"⟩) ∈ lw_all := lw_g (lw_at lw_ms 92 rfl) rfl
theorem qs93 : (Cond.selects "SkySpireModel" ⟨"SkySpireModel", "lays", "(II)V"⟩ ⟨"SkySpireModel", "lays", "(II)V"⟩) ∈ lw_all := lw_g (lw_at lw_ms 93 rfl) rfl
theorem qs94 : (Cond.selects "SkySpireModel" ⟨"SkySpireModel", "fades", "()V"⟩ ⟨"SkySpireModel", "fades", "()V"⟩) ∈ lw_all := lw_g (lw_at lw_ms 94 rfl) rfl
theorem qs95 : (Cond.selects "SkySpireModel" ⟨"SkySpireModel", "keepsAll", "()V"⟩ ⟨"SkySpireModel", "keepsAll", "()V"⟩) ∈ lw_all := lw_g (lw_at lw_ms 95 rfl) rfl
theorem qs96 : (Cond.selects "SkySpireModel" ⟨"SkySpireModel", "carriesAll", "(IZ)V"⟩ ⟨"SkySpireModel", "carriesAll", "(IZ)V"⟩) ∈ lw_all := lw_g (lw_at lw_ms 96 rfl) rfl
theorem qs97 : (Cond.selects "SkySpireModel" ⟨"SkySpireModel", "carryRow", "([I)V"⟩ ⟨"SkySpireModel", "carryRow", "([I)V"⟩) ∈ lw_all := lw_g (lw_at lw_ms 97 rfl) rfl
theorem qs98 : (Cond.selects "SkySpireModel" ⟨"SkySpireModel", "goFor", "(I)V"⟩ ⟨"SkySpireModel", "goFor", "(I)V"⟩) ∈ lw_all := lw_g (lw_at lw_ms 98 rfl) rfl
theorem qs99 : (Cond.selects "SkySpireModel" ⟨"SkySpireModel", "allStrokes", "()I"⟩ ⟨"SkySpireModel", "allStrokes", "()I"⟩) ∈ lw_all := lw_g (lw_at lw_ms 99 rfl) rfl
theorem qs100 : (Cond.selects "SkySpireModel" ⟨"SkySpireModel", "like", "()I"⟩ ⟨"SkySpireModel", "like", "()I"⟩) ∈ lw_all := lw_g (lw_at lw_ms 100 rfl) rfl
theorem qs101 : (Cond.selects "SkySpireModel" ⟨"SkySpireModel", "laysBack", "()V"⟩ ⟨"SkySpireModel", "laysBack", "()V"⟩) ∈ lw_all := lw_g (lw_at lw_ms 101 rfl) rfl
theorem qs102 : (Cond.selects "SkySpireModel" ⟨"SkySpireModel", "signedAt", "(Z)I"⟩ ⟨"SkySpireModel", "signedAt", "(Z)I"⟩) ∈ lw_all := lw_g (lw_at lw_ms 102 rfl) rfl
theorem qs103 : (Cond.selects "SkySpireModel" ⟨"SkySpireModel", "isSigned", "(Z)Z"⟩ ⟨"SkySpireModel", "isSigned", "(Z)Z"⟩) ∈ lw_all := lw_g (lw_at lw_ms 103 rfl) rfl
theorem qs104 : (Cond.selects "SkySpireModel" ⟨"SkySpireModel", "likeIn", "(I)I"⟩ ⟨"SkySpireModel", "likeIn", "(I)I"⟩) ∈ lw_all := lw_g (lw_at lw_ms 104 rfl) rfl
theorem qs105 : (Cond.selects "SkySpireModel" ⟨"SkySpireModel", "leaves", "(III)Z"⟩ ⟨"SkySpireModel", "leaves", "(III)Z"⟩) ∈ lw_all := lw_g (lw_at lw_ms 105 rfl) rfl
theorem qs106 : (Cond.selects "SkySpireModel" ⟨"SkySpireModel", "swaps", "(II)V"⟩ ⟨"SkySpireModel", "swaps", "(II)V"⟩) ∈ lw_all := lw_g (lw_at lw_ms 106 rfl) rfl
theorem qs107 : (Cond.selects "SkySpireModel" ⟨"SkySpireModel", "playOf", "(IIIII)I"⟩ ⟨"SkySpireModel", "playOf", "(IIIII)I"⟩) ∈ lw_all := lw_g (lw_at lw_ms 107 rfl) rfl
theorem qs108 : (Cond.selects "SkySpireModel" ⟨"SkySpireModel", "bestAt", "(IZ)I"⟩ ⟨"SkySpireModel", "bestAt", "(IZ)I"⟩) ∈ lw_all := lw_g (lw_at lw_ms 108 rfl) rfl
theorem qs109 : (Cond.selects "SkySpireModel" ⟨"SkySpireModel", "laysStiffs", "(III)V"⟩ ⟨"SkySpireModel", "laysStiffs", "(III)V"⟩) ∈ lw_all := lw_g (lw_at lw_ms 109 rfl) rfl
theorem qs110 : (Cond.selects "SkySpireModel" ⟨"SkySpireModel", "isRest", "(I)Z"⟩ ⟨"SkySpireModel", "isRest", "(I)Z"⟩) ∈ lw_all := lw_g (lw_at lw_ms 110 rfl) rfl
theorem qs111 : (Cond.selects "SkySpireModel" ⟨"SkySpireModel", "parting", "(I)I"⟩ ⟨"SkySpireModel", "parting", "(I)I"⟩) ∈ lw_all := lw_g (lw_at lw_ms 111 rfl) rfl
theorem qs112 : (Cond.selects "SkySpireModel" ⟨"SkySpireModel", "mostAlike", "(II)I"⟩ ⟨"SkySpireModel", "mostAlike", "(II)I"⟩) ∈ lw_all := lw_g (lw_at lw_ms 112 rfl) rfl
theorem qs113 : (Cond.selects "SkySpireModel" ⟨"SkySpireModel", "couldRule", "(I)Z"⟩ ⟨"SkySpireModel", "couldRule", "(I)Z"⟩) ∈ lw_all := lw_g (lw_at lw_ms 113 rfl) rfl
theorem qs114 : (Cond.selects "SkySpireModel" ⟨"SkySpireModel", "draws", "(I)I"⟩ ⟨"SkySpireModel", "draws", "(I)I"⟩) ∈ lw_all := lw_g (lw_at lw_ms 114 rfl) rfl
-- ===== end of PART A; then your names; then what follows =====
