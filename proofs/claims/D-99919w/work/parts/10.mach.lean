/-! ===== the abstract heap: kind, length, ints, longs, references, next token, slots used ===== -/
set_option maxRecDepth 100000
def Hp : Type := (Nat → Nat) × (Nat → Nat) × (Nat → Nat → Int32) × (Nat → Nat → Int64) × (Nat → Nat → Option Nat) × Nat × Nat
def Hp.mk (K : Nat → Nat) (L : Nat → Nat) (I : Nat → Nat → Int32) (J : Nat → Nat → Int64) (P : Nat → Nat → Option Nat) (N S : Nat) : Hp := (K, L, I, J, P, N, S)
def Hp.K (h : Hp) : Nat → Nat := h.1
def Hp.L (h : Hp) : Nat → Nat := h.2.1
def Hp.I (h : Hp) : Nat → Nat → Int32 := h.2.2.1
def Hp.J (h : Hp) : Nat → Nat → Int64 := h.2.2.2.1
def Hp.P (h : Hp) : Nat → Nat → Option Nat := h.2.2.2.2.1
def Hp.N (h : Hp) : Nat := h.2.2.2.2.2.1
def Hp.S (h : Hp) : Nat := h.2.2.2.2.2.2
def u2 {α : Type} (f : Nat → Nat → α) (t k : Nat) (v : α) : Nat → Nat → α := fun t' k' => if t' = t ∧ k' = k then v else f t' k'
def ur {α : Type} (f : Nat → α) (t : Nat) (r : α) : Nat → α := fun t' => if t' = t then r else f t'
/-- one int, one long, one reference is written; a row of ints is laid -/
def Hp.si (h : Hp) (t k : Nat) (v : Int32) : Hp := Hp.mk h.K h.L (u2 h.I t k v) h.J h.P h.N h.S
def Hp.sj (h : Hp) (t k : Nat) (v : Int64) : Hp := Hp.mk h.K h.L h.I (u2 h.J t k v) h.P h.N h.S
def Hp.sp (h : Hp) (t k : Nat) (v : Option Nat) : Hp := Hp.mk h.K h.L h.I h.J (u2 h.P t k v) h.N h.S
def Hp.sr (h : Hp) (t : Nat) (r : Nat → Int32) : Hp := Hp.mk h.K h.L (ur h.I t r) h.J h.P h.N h.S
/-- a new cell: kind, length, slots -/
def Hp.nw (h : Hp) (kd ln sl : Nat) : Hp := Hp.mk (ur h.K h.N kd) (ur h.L h.N ln) (ur h.I h.N (fun _ => 0)) (ur h.J h.N (fun _ => 0)) (ur h.P h.N (fun _ => none)) (h.N + 1) (h.S + sl)
/-- a method: its class' number, its name, its bytes, its locals, its answer, its handlers -/
def MR : Type := Nat × MethodName × ByteArray × Nat × Option FieldType × List (Nat × Nat × Nat × Nat)
def MR.cn (M : MR) : Nat := M.1
def MR.y (M : MR) : MethodName := M.2.1
def MR.code (M : MR) : ByteArray := M.2.2.1
def MR.mx (M : MR) : Nat := M.2.2.2.1
def MR.ret (M : MR) : Option FieldType := M.2.2.2.2.1
def MR.hh (M : MR) : List (Nat × Nat × Nat × Nat) := M.2.2.2.2.2
def lk {α : Type} : List (Nat × α) → Nat → Option α
  | [], _ => none
  | (k, a) :: l, x => bif Nat.beq k x then some a else lk l x
theorem lk_mem {α : Type} {x : Nat} {a : α} : ∀ {l : List (Nat × α)}, lk l x = some a → (x, a) ∈ l
  | [], h => by simp [lk] at h
  | (k, b) :: l, h => by
    rw [lk] at h
    by_cases e : Nat.beq k x = true
    · rw [e] at h
      have e2 := Nat.eq_of_beq_eq_true e
      subst e2
      simp only [cond_true, Option.some.injEq] at h
      subst h
      exact List.mem_cons_self
    · have e3 : Nat.beq k x = false := by
        cases hb : Nat.beq k x with
        | false => rfl
        | true => exact absurd hb e
      rw [e3] at h
      exact List.mem_cons_of_mem _ (lk_mem h)
def mJ0_init : MR := (16, yJ0_init, cJ0_init, 1, (Option.none : Option Jvm.ClassFile.FieldType), [])
def mJ0_init_2 : MR := (16, yJ0_init_2, cJ0_init_2, 5, (Option.none : Option Jvm.ClassFile.FieldType), [])
def mJ1_init : MR := (17, yJ1_init, cJ1_init, 5, (Option.none : Option Jvm.ClassFile.FieldType), [])
def mJ2_init : MR := (18, yJ2_init, cJ2_init, 5, (Option.none : Option Jvm.ClassFile.FieldType), [])
def mJ3_length : MR := (19, yJ3_length, cJ3_length, 1, (Option.some Jvm.ClassFile.FieldType.int), [])
def mJ3_coder : MR := (19, yJ3_coder, cJ3_coder, 1, (Option.some Jvm.ClassFile.FieldType.byte), [])
def mJ3_charAt : MR := (19, yJ3_charAt, cJ3_charAt, 2, (Option.some Jvm.ClassFile.FieldType.char), [])
def mJ3_isLatin1 : MR := (19, yJ3_isLatin1, cJ3_isLatin1, 1, (Option.some Jvm.ClassFile.FieldType.boolean), [])
def mJ3_checkIndex : MR := (19, yJ3_checkIndex, cJ3_checkIndex, 2, (Option.none : Option Jvm.ClassFile.FieldType), [])
def mJ4_charAt : MR := (20, yJ4_charAt, cJ4_charAt, 2, (Option.some Jvm.ClassFile.FieldType.char), [])
def mJ5_checkIndex : MR := (21, yJ5_checkIndex, cJ5_checkIndex, 3, (Option.some Jvm.ClassFile.FieldType.int), [])
def mJ6_charAt : MR := (22, yJ6_charAt, cJ6_charAt, 2, (Option.some Jvm.ClassFile.FieldType.char), [])
def mJ6_checkIndex : MR := (22, yJ6_checkIndex, cJ6_checkIndex, 2, (Option.none : Option Jvm.ClassFile.FieldType), [])
def mJ6_length : MR := (22, yJ6_length, cJ6_length, 1, (Option.some Jvm.ClassFile.FieldType.int), [])
def mJ6_getChar : MR := (22, yJ6_getChar, cJ6_getChar, 2, (Option.some Jvm.ClassFile.FieldType.char), [])
def mJ7_bitCount : MR := (23, yJ7_bitCount, cJ7_bitCount, 1, (Option.some Jvm.ClassFile.FieldType.int), [])
def mJ8_max : MR := (24, yJ8_max, cJ8_max, 2, (Option.some Jvm.ClassFile.FieldType.int), [])
def mJ9_init : MR := (25, yJ9_init, cJ9_init, 1, (Option.none : Option Jvm.ClassFile.FieldType), [])
def mL_law : MR := (26, ⟨"SkySpireLaw", "law", "([I)Z"⟩, cL_law, 4, (some .boolean), [])
def mX0_init : MR := (0, yX0_init, cX0_init, 1, (Option.none : Option Jvm.ClassFile.FieldType), [])
def mX0_feed : MR := (0, yX0_feed, cX0_feed, 6, (Option.some Jvm.ClassFile.FieldType.int), [])
def mX0_four : MR := (0, yX0_four, cX0_four, 3, (Option.none : Option Jvm.ClassFile.FieldType), [])
def mX0_end : MR := (0, yX0_end, cX0_end, 2, (Option.some Jvm.ClassFile.FieldType.int), [])
def mX0_sky : MR := (0, yX0_sky, cX0_sky, 3, (Option.some Jvm.ClassFile.FieldType.int), [((0 : Nat), (30 : Nat), (33 : Nat), (33 : Nat))])
def mX0_in : MR := (0, yX0_in, cX0_in, 6, (Option.some Jvm.ClassFile.FieldType.boolean), [])
def mX0_faulted : MR := (0, yX0_faulted, cX0_faulted, 1, (Option.some Jvm.ClassFile.FieldType.int), [])
def mX0_rule : MR := (0, yX0_rule, cX0_rule, 3, (Option.some Jvm.ClassFile.FieldType.int), [((16 : Nat), (46 : Nat), (49 : Nat), (33 : Nat))])
def mX0_force : MR := (0, yX0_force, cX0_force, 3, (Option.some Jvm.ClassFile.FieldType.int), [])
def mX0_pen : MR := (0, yX0_pen, cX0_pen, 3, (Option.some Jvm.ClassFile.FieldType.int), [])
def mX0_isPen : MR := (0, yX0_isPen, cX0_isPen, 2, (Option.some Jvm.ClassFile.FieldType.boolean), [])
def mX0_cell : MR := (0, yX0_cell, cX0_cell, 3, (Option.some Jvm.ClassFile.FieldType.int), [])
def mX0_isCell : MR := (0, yX0_isCell, cX0_isCell, 2, (Option.some Jvm.ClassFile.FieldType.boolean), [])
def mX0_undo : MR := (0, yX0_undo, cX0_undo, 1, (Option.some Jvm.ClassFile.FieldType.int), [])
def mX0_day : MR := (0, yX0_day, cX0_day, 1, (Option.some Jvm.ClassFile.FieldType.int), [])
def mX0_keepsAct : MR := (0, yX0_keepsAct, cX0_keepsAct, 1, (Option.none : Option Jvm.ClassFile.FieldType), [])
def mX0_law : MR := (0, yX0_law, cX0_law, 1, (Option.some (Jvm.ClassFile.FieldType.object "SkySpire$Rule")), [])
def mX0_has : MR := (0, yX0_has, cX0_has, 2, (Option.some Jvm.ClassFile.FieldType.boolean), [])
def mX0_stay : MR := (0, yX0_stay, cX0_stay, 2, (Option.some Jvm.ClassFile.FieldType.int), [])
def mX0_set : MR := (0, yX0_set, cX0_set, 4, (Option.some Jvm.ClassFile.FieldType.int), [])
def mX0_bend : MR := (0, yX0_bend, cX0_bend, 4, (Option.some Jvm.ClassFile.FieldType.int), [])
def mX0_blot : MR := (0, yX0_blot, cX0_blot, 3, (Option.some Jvm.ClassFile.FieldType.int), [])
def mX0_ahead : MR := (0, yX0_ahead, cX0_ahead, 4, (Option.some Jvm.ClassFile.FieldType.int), [])
def mX0_sign : MR := (0, yX0_sign, cX0_sign, 2, (Option.some Jvm.ClassFile.FieldType.int), [])
def mX0_clean : MR := (0, yX0_clean, cX0_clean, 2, (Option.some Jvm.ClassFile.FieldType.int), [])
def mX0_hold : MR := (0, yX0_hold, cX0_hold, 7, (Option.some Jvm.ClassFile.FieldType.int), [])
def mX0_wrote : MR := (0, yX0_wrote, cX0_wrote, 5, (Option.some Jvm.ClassFile.FieldType.int), [])
def mX0_writesAlone : MR := (0, yX0_writesAlone, cX0_writesAlone, 6, (Option.some Jvm.ClassFile.FieldType.boolean), [])
def mX0_came : MR := (0, yX0_came, cX0_came, 8, (Option.some Jvm.ClassFile.FieldType.int), [])
def mX0_change : MR := (0, yX0_change, cX0_change, 9, (Option.some Jvm.ClassFile.FieldType.int), [])
def mX0_game : MR := (0, yX0_game, cX0_game, 6, (Option.some Jvm.ClassFile.FieldType.int), [])
def mX0_plays : MR := (0, yX0_plays, cX0_plays, 12, (Option.some Jvm.ClassFile.FieldType.int), [])
def mX0_rests : MR := (0, yX0_rests, cX0_rests, 8, (Option.some Jvm.ClassFile.FieldType.int), [])
def mX0_isRest : MR := (0, yX0_isRest, cX0_isRest, 4, (Option.some Jvm.ClassFile.FieldType.boolean), [])
def mX0_pence : MR := (0, yX0_pence, cX0_pence, 9, (Option.some Jvm.ClassFile.FieldType.int), [])
def mX0_read : MR := (0, yX0_read, cX0_read, 4, (Option.some Jvm.ClassFile.FieldType.int), [])
def mX0_ruleOf : MR := (0, yX0_ruleOf, cX0_ruleOf, 2, (Option.some (Jvm.ClassFile.FieldType.object "SkySpire$Rule")), [])
def mX0_parts : MR := (0, yX0_parts, cX0_parts, 6, (Option.some Jvm.ClassFile.FieldType.int), [])
def mX0_alikeOf : MR := (0, yX0_alikeOf, cX0_alikeOf, 6, (Option.some Jvm.ClassFile.FieldType.int), [])
def mX0_note : MR := (0, yX0_note, cX0_note, 5, (Option.some Jvm.ClassFile.FieldType.int), [])
def mX0_ruled : MR := (0, yX0_ruled, cX0_ruled, 5, (Option.some Jvm.ClassFile.FieldType.int), [])
def mX0_gathersRules : MR := (0, yX0_gathersRules, cX0_gathersRules, 4, (Option.none : Option Jvm.ClassFile.FieldType), [])
def mX0_areNotesSo : MR := (0, yX0_areNotesSo, cX0_areNotesSo, 3, (Option.some Jvm.ClassFile.FieldType.boolean), [])
def mX0_look : MR := (0, yX0_look, cX0_look, 3, (Option.some Jvm.ClassFile.FieldType.int), [])
def mX0_seed : MR := (0, yX0_seed, cX0_seed, 3, (Option.some Jvm.ClassFile.FieldType.int), [])
def mX0_rains : MR := (0, yX0_rains, cX0_rains, 9, (Option.some Jvm.ClassFile.FieldType.int), [])
def mX0_draw : MR := (0, yX0_draw, cX0_draw, 2, (Option.some Jvm.ClassFile.FieldType.int), [])
def mX0_count : MR := (0, yX0_count, cX0_count, 2, (Option.some Jvm.ClassFile.FieldType.int), [])
def mX0_image : MR := (0, yX0_image, cX0_image, 3, (Option.some Jvm.ClassFile.FieldType.int), [])
def mX0_back : MR := (0, yX0_back, cX0_back, 2, (Option.some Jvm.ClassFile.FieldType.int), [])
def mX1_init : MR := (1, yX1_init, cX1_init, 1, (Option.none : Option Jvm.ClassFile.FieldType), [])
def mX1_copies : MR := (1, yX1_copies, cX1_copies, 2, (Option.some (Jvm.ClassFile.FieldType.object "SkySpire$Sky")), [])
def mX1_standsAs : MR := (1, yX1_standsAs, cX1_standsAs, 2, (Option.some (Jvm.ClassFile.FieldType.object "SkySpire$Sky")), [])
def mX1_cells : MR := (1, yX1_cells, cX1_cells, 1, (Option.some Jvm.ClassFile.FieldType.int), [])
def mX1_begins : MR := (1, yX1_begins, cX1_begins, 2, (Option.none : Option Jvm.ClassFile.FieldType), [])
def mX1_blots : MR := (1, yX1_blots, cX1_blots, 2, (Option.none : Option Jvm.ClassFile.FieldType), [])
def mX1_strokesOf : MR := (1, yX1_strokesOf, cX1_strokesOf, 4, (Option.some Jvm.ClassFile.FieldType.int), [])
def mX1_takes : MR := (1, yX1_takes, cX1_takes, 3, (Option.none : Option Jvm.ClassFile.FieldType), [])
def mX1_lays : MR := (1, yX1_lays, cX1_lays, 3, (Option.none : Option Jvm.ClassFile.FieldType), [])
def mX1_passes : MR := (1, yX1_passes, cX1_passes, 4, (Option.some Jvm.ClassFile.FieldType.int), [])
def mX1_writes : MR := (1, yX1_writes, cX1_writes, 4, (Option.some Jvm.ClassFile.FieldType.boolean), [])
def mX1_wayOn : MR := (1, yX1_wayOn, cX1_wayOn, 2, (Option.some Jvm.ClassFile.FieldType.int), [])
def mX1_forceOn : MR := (1, yX1_forceOn, cX1_forceOn, 2, (Option.some Jvm.ClassFile.FieldType.int), [])
def mX1_moves : MR := (1, yX1_moves, cX1_moves, 3, (Option.none : Option Jvm.ClassFile.FieldType), [])
def mX1_beside : MR := (1, yX1_beside, cX1_beside, 3, (Option.some Jvm.ClassFile.FieldType.int), [])
def mX1_falls : MR := (1, yX1_falls, cX1_falls, 6, (Option.none : Option Jvm.ClassFile.FieldType), [])
def mX1_draws : MR := (1, yX1_draws, cX1_draws, 3, (Option.none : Option Jvm.ClassFile.FieldType), [])
def mX1_goesOn : MR := (1, yX1_goesOn, cX1_goesOn, 4, (Option.some (Jvm.ClassFile.FieldType.object "SkySpire$Sky")), [])
def mX1_strokes : MR := (1, yX1_strokes, cX1_strokes, 3, (Option.some Jvm.ClassFile.FieldType.int), [])
def mX1_like : MR := (1, yX1_like, cX1_like, 3, (Option.some Jvm.ClassFile.FieldType.int), [])
def mX1_isSigned : MR := (1, yX1_isSigned, cX1_isSigned, 2, (Option.some Jvm.ClassFile.FieldType.boolean), [])
def mX1_swapsWinds : MR := (1, yX1_swapsWinds, cX1_swapsWinds, 5, (Option.none : Option Jvm.ClassFile.FieldType), [])
def mX10_init : MR := (10, yX10_init, cX10_init, 4, (Option.none : Option Jvm.ClassFile.FieldType), [])
def mX10_of : MR := (10, yX10_of, cX10_of, 6, (Option.some Jvm.ClassFile.FieldType.long), [])
def mX11_init : MR := (11, yX11_init, cX11_init, 1, (Option.none : Option Jvm.ClassFile.FieldType), [])
def mX12_init : MR := (12, yX12_init, cX12_init, 2, (Option.none : Option Jvm.ClassFile.FieldType), [])
def mX12_is : MR := (12, yX12_is, cX12_is, 2, (Option.some Jvm.ClassFile.FieldType.boolean), [])
def mX13_init : MR := (13, yX13_init, cX13_init, 4, (Option.none : Option Jvm.ClassFile.FieldType), [])
def mX13_is : MR := (13, yX13_is, cX13_is, 6, (Option.some Jvm.ClassFile.FieldType.boolean), [])
def mX14_init : MR := (14, yX14_init, cX14_init, 4, (Option.none : Option Jvm.ClassFile.FieldType), [])
def mX14_is : MR := (14, yX14_is, cX14_is, 2, (Option.some Jvm.ClassFile.FieldType.boolean), [])
def mX15_init : MR := (15, yX15_init, cX15_init, 1, (Option.none : Option Jvm.ClassFile.FieldType), [])
def mX2_init : MR := (2, yX2_init, cX2_init, 1, (Option.none : Option Jvm.ClassFile.FieldType), [])
def mX3_init : MR := (3, yX3_init, cX3_init, 1, (Option.none : Option Jvm.ClassFile.FieldType), [])
def mX3_feed : MR := (3, yX3_feed, cX3_feed, 6, (Option.some Jvm.ClassFile.FieldType.int), [])
def mX3_put : MR := (3, yX3_put, cX3_put, 3, (Option.none : Option Jvm.ClassFile.FieldType), [])
def mX3_end : MR := (3, yX3_end, cX3_end, 2, (Option.some Jvm.ClassFile.FieldType.int), [])
def mX3_sky : MR := (3, yX3_sky, cX3_sky, 2, (Option.some Jvm.ClassFile.FieldType.int), [])
def mX3_readsAll : MR := (3, yX3_readsAll, cX3_readsAll, 3, (Option.none : Option Jvm.ClassFile.FieldType), [])
def mX3_starts : MR := (3, yX3_starts, cX3_starts, 1, (Option.none : Option Jvm.ClassFile.FieldType), [])
def mX3_skyClause : MR := (3, yX3_skyClause, cX3_skyClause, 4, (Option.none : Option Jvm.ClassFile.FieldType), [])
def mX3_blanks : MR := (3, yX3_blanks, cX3_blanks, 1, (Option.none : Option Jvm.ClassFile.FieldType), [])
def mX3_byteHere : MR := (3, yX3_byteHere, cX3_byteHere, 1, (Option.some Jvm.ClassFile.FieldType.int), [])
def mX3_skyWord : MR := (3, yX3_skyWord, cX3_skyWord, 1, (Option.some (Jvm.ClassFile.FieldType.object "java/lang/String")), [])
def mX3_stood : MR := (3, yX3_stood, cX3_stood, 5, (Option.some Jvm.ClassFile.FieldType.boolean), [])
def mX3_fails : MR := (3, yX3_fails, cX3_fails, 3, (Option.none : Option Jvm.ClassFile.FieldType), [])
def mX3_isFull : MR := (3, yX3_isFull, cX3_isFull, 3, (Option.some Jvm.ClassFile.FieldType.boolean), [])
def mX3_skyPart : MR := (3, yX3_skyPart, cX3_skyPart, 4, (Option.none : Option Jvm.ClassFile.FieldType), [])
def mX3_amount : MR := (3, yX3_amount, cX3_amount, 5, (Option.some Jvm.ClassFile.FieldType.int), [])
def mX3_digits : MR := (3, yX3_digits, cX3_digits, 4, (Option.some Jvm.ClassFile.FieldType.int), [])
def mX3_isDigit : MR := (3, yX3_isDigit, cX3_isDigit, 1, (Option.some Jvm.ClassFile.FieldType.boolean), [])
def mX3_in : MR := (3, yX3_in, cX3_in, 6, (Option.some Jvm.ClassFile.FieldType.boolean), [])
def mX3_goesOn : MR := (3, yX3_goesOn, cX3_goesOn, 2, (Option.some Jvm.ClassFile.FieldType.boolean), [])
def mX3_copies : MR := (3, yX3_copies, cX3_copies, 3, (Option.none : Option Jvm.ClassFile.FieldType), [])
def mX3_begins : MR := (3, yX3_begins, cX3_begins, 2, (Option.none : Option Jvm.ClassFile.FieldType), [])
def mX3_rule : MR := (3, yX3_rule, cX3_rule, 3, (Option.some Jvm.ClassFile.FieldType.int), [])
def mX3_ruleClause : MR := (3, yX3_ruleClause, cX3_ruleClause, 4, (Option.none : Option Jvm.ClassFile.FieldType), [])
def mX3_sum : MR := (3, yX3_sum, cX3_sum, 2, (Option.none : Option Jvm.ClassFile.FieldType), [])
def mX3_term : MR := (3, yX3_term, cX3_term, 2, (Option.none : Option Jvm.ClassFile.FieldType), [])
def mX3_value : MR := (3, yX3_value, cX3_value, 3, (Option.none : Option Jvm.ClassFile.FieldType), [])
def mX3_isCounted : MR := (3, yX3_isCounted, cX3_isCounted, 2, (Option.none : Option Jvm.ClassFile.FieldType), [])
def mX3_entry : MR := (3, yX3_entry, cX3_entry, 3, (Option.none : Option Jvm.ClassFile.FieldType), [])
def mX3_wordOf : MR := (3, yX3_wordOf, cX3_wordOf, 1, (Option.some (Jvm.ClassFile.FieldType.object "java/lang/String")), [])
def mX3_takes : MR := (3, yX3_takes, cX3_takes, 3, (Option.some Jvm.ClassFile.FieldType.boolean), [])
def mX3_test : MR := (3, yX3_test, cX3_test, 5, (Option.none : Option Jvm.ClassFile.FieldType), [])
def mX3_fact : MR := (3, yX3_fact, cX3_fact, 1, (Option.some Jvm.ClassFile.FieldType.boolean), [])
def mX3_opens : MR := (3, yX3_opens, cX3_opens, 2, (Option.none : Option Jvm.ClassFile.FieldType), [])
def mX3_compared : MR := (3, yX3_compared, cX3_compared, 3, (Option.none : Option Jvm.ClassFile.FieldType), [])
def mX3_answers : MR := (3, yX3_answers, cX3_answers, 2, (Option.none : Option Jvm.ClassFile.FieldType), [])
def mX3_top : MR := (3, yX3_top, cX3_top, 1, (Option.some Jvm.ClassFile.FieldType.int), [])
def mX3_force : MR := (3, yX3_force, cX3_force, 3, (Option.some Jvm.ClassFile.FieldType.int), [])
def mX3_pen : MR := (3, yX3_pen, cX3_pen, 3, (Option.some Jvm.ClassFile.FieldType.int), [])
def mX3_isPen : MR := (3, yX3_isPen, cX3_isPen, 2, (Option.some Jvm.ClassFile.FieldType.boolean), [])
def mX3_strokesOf : MR := (3, yX3_strokesOf, cX3_strokesOf, 4, (Option.some Jvm.ClassFile.FieldType.int), [])
def mX3_cells : MR := (3, yX3_cells, cX3_cells, 1, (Option.some Jvm.ClassFile.FieldType.int), [])
def mX3_cell : MR := (3, yX3_cell, cX3_cell, 3, (Option.some Jvm.ClassFile.FieldType.int), [])
def mX3_isCell : MR := (3, yX3_isCell, cX3_isCell, 2, (Option.some Jvm.ClassFile.FieldType.boolean), [])
def mX3_undo : MR := (3, yX3_undo, cX3_undo, 1, (Option.some Jvm.ClassFile.FieldType.int), [])
def mX3_movesAll : MR := (3, yX3_movesAll, cX3_movesAll, 4, (Option.none : Option Jvm.ClassFile.FieldType), [])
def mX3_moves : MR := (3, yX3_moves, cX3_moves, 3, (Option.some Jvm.ClassFile.FieldType.int), [])
def mX3_movesRow : MR := (3, yX3_movesRow, cX3_movesRow, 3, (Option.none : Option Jvm.ClassFile.FieldType), [])
def mX3_day : MR := (3, yX3_day, cX3_day, 1, (Option.some Jvm.ClassFile.FieldType.int), [])
def mX3_isSky : MR := (3, yX3_isSky, cX3_isSky, 1, (Option.some Jvm.ClassFile.FieldType.boolean), [])
def mX3_keepsAct : MR := (3, yX3_keepsAct, cX3_keepsAct, 2, (Option.none : Option Jvm.ClassFile.FieldType), [])
def mX3_goes : MR := (3, yX3_goes, cX3_goes, 3, (Option.some Jvm.ClassFile.FieldType.int), [])
def mX3_writes : MR := (3, yX3_writes, cX3_writes, 2, (Option.some Jvm.ClassFile.FieldType.boolean), [])
def mX3_has : MR := (3, yX3_has, cX3_has, 2, (Option.some Jvm.ClassFile.FieldType.boolean), [])
def mX3_wayOf : MR := (3, yX3_wayOf, cX3_wayOf, 2, (Option.some Jvm.ClassFile.FieldType.int), [])
def mX3_forceOf : MR := (3, yX3_forceOf, cX3_forceOf, 2, (Option.some Jvm.ClassFile.FieldType.int), [])
def mX3_wanted : MR := (3, yX3_wanted, cX3_wanted, 3, (Option.some Jvm.ClassFile.FieldType.long), [])
def mX3_answer : MR := (3, yX3_answer, cX3_answer, 8, (Option.some Jvm.ClassFile.FieldType.long), [])
def mX3_both : MR := (3, yX3_both, cX3_both, 5, (Option.some Jvm.ClassFile.FieldType.long), [])
def mX3_truth : MR := (3, yX3_truth, cX3_truth, 1, (Option.some Jvm.ClassFile.FieldType.long), [])
def mX3_drifts : MR := (3, yX3_drifts, cX3_drifts, 4, (Option.none : Option Jvm.ClassFile.FieldType), [])
def mX3_beside : MR := (3, yX3_beside, cX3_beside, 6, (Option.some Jvm.ClassFile.FieldType.int), [])
def mX3_strikes : MR := (3, yX3_strikes, cX3_strikes, 6, (Option.none : Option Jvm.ClassFile.FieldType), [])
def mX3_lays : MR := (3, yX3_lays, cX3_lays, 3, (Option.none : Option Jvm.ClassFile.FieldType), [])
def mX3_fades : MR := (3, yX3_fades, cX3_fades, 2, (Option.none : Option Jvm.ClassFile.FieldType), [])
def mX3_stay : MR := (3, yX3_stay, cX3_stay, 2, (Option.some Jvm.ClassFile.FieldType.int), [])
def mX3_set : MR := (3, yX3_set, cX3_set, 4, (Option.some Jvm.ClassFile.FieldType.int), [])
def mX3_bend : MR := (3, yX3_bend, cX3_bend, 4, (Option.some Jvm.ClassFile.FieldType.int), [])
def mX3_blot : MR := (3, yX3_blot, cX3_blot, 3, (Option.some Jvm.ClassFile.FieldType.int), [])
def mX3_ahead : MR := (3, yX3_ahead, cX3_ahead, 6, (Option.some Jvm.ClassFile.FieldType.int), [])
def mX3_keepsAll : MR := (3, yX3_keepsAll, cX3_keepsAll, 1, (Option.none : Option Jvm.ClassFile.FieldType), [])
def mX3_carriesAll : MR := (3, yX3_carriesAll, cX3_carriesAll, 3, (Option.none : Option Jvm.ClassFile.FieldType), [])
def mX3_carryRow : MR := (3, yX3_carryRow, cX3_carryRow, 3, (Option.none : Option Jvm.ClassFile.FieldType), [])
def mX3_goFor : MR := (3, yX3_goFor, cX3_goFor, 3, (Option.none : Option Jvm.ClassFile.FieldType), [])
def mX3_allStrokes : MR := (3, yX3_allStrokes, cX3_allStrokes, 1, (Option.some Jvm.ClassFile.FieldType.int), [])
def mX3_like : MR := (3, yX3_like, cX3_like, 3, (Option.some Jvm.ClassFile.FieldType.int), [])
def mX3_laysBack : MR := (3, yX3_laysBack, cX3_laysBack, 1, (Option.none : Option Jvm.ClassFile.FieldType), [])
def mX3_sign : MR := (3, yX3_sign, cX3_sign, 1, (Option.some Jvm.ClassFile.FieldType.int), [])
def mX3_signedAt : MR := (3, yX3_signedAt, cX3_signedAt, 4, (Option.some Jvm.ClassFile.FieldType.int), [])
def mX3_isSigned : MR := (3, yX3_isSigned, cX3_isSigned, 3, (Option.some Jvm.ClassFile.FieldType.boolean), [])
def mX3_clean : MR := (3, yX3_clean, cX3_clean, 1, (Option.some Jvm.ClassFile.FieldType.int), [])
def mX3_hold : MR := (3, yX3_hold, cX3_hold, 7, (Option.some Jvm.ClassFile.FieldType.int), [])
def mX3_likeIn : MR := (3, yX3_likeIn, cX3_likeIn, 3, (Option.some Jvm.ClassFile.FieldType.int), [])
def mX3_bits : MR := (3, yX3_bits, cX3_bits, 3, (Option.some Jvm.ClassFile.FieldType.int), [])
def mX3_wrote : MR := (3, yX3_wrote, cX3_wrote, 5, (Option.some Jvm.ClassFile.FieldType.int), [])
def mX3_leaves : MR := (3, yX3_leaves, cX3_leaves, 7, (Option.some Jvm.ClassFile.FieldType.boolean), [])
def mX3_came : MR := (3, yX3_came, cX3_came, 9, (Option.some Jvm.ClassFile.FieldType.int), [])
def mX3_change : MR := (3, yX3_change, cX3_change, 9, (Option.some Jvm.ClassFile.FieldType.int), [])
def mX3_swaps : MR := (3, yX3_swaps, cX3_swaps, 5, (Option.none : Option Jvm.ClassFile.FieldType), [])
def mX3_game : MR := (3, yX3_game, cX3_game, 8, (Option.some Jvm.ClassFile.FieldType.int), [])
def mX3_playOf : MR := (3, yX3_playOf, cX3_playOf, 12, (Option.some Jvm.ClassFile.FieldType.int), [])
def mX3_bestAt : MR := (3, yX3_bestAt, cX3_bestAt, 5, (Option.some Jvm.ClassFile.FieldType.int), [])
def mX3_rests : MR := (3, yX3_rests, cX3_rests, 8, (Option.some Jvm.ClassFile.FieldType.int), [])
def mX3_laysStiffs : MR := (3, yX3_laysStiffs, cX3_laysStiffs, 5, (Option.none : Option Jvm.ClassFile.FieldType), [])
def mX3_isRest : MR := (3, yX3_isRest, cX3_isRest, 3, (Option.some Jvm.ClassFile.FieldType.boolean), [])
def mX3_pence : MR := (3, yX3_pence, cX3_pence, 8, (Option.some Jvm.ClassFile.FieldType.int), [])
def mX3_read : MR := (3, yX3_read, cX3_read, 5, (Option.some Jvm.ClassFile.FieldType.int), [])
def mX3_parting : MR := (3, yX3_parting, cX3_parting, 4, (Option.some Jvm.ClassFile.FieldType.int), [])
def mX3_mostAlike : MR := (3, yX3_mostAlike, cX3_mostAlike, 7, (Option.some Jvm.ClassFile.FieldType.int), [])
def mX3_note : MR := (3, yX3_note, cX3_note, 5, (Option.some Jvm.ClassFile.FieldType.int), [])
def mX3_ruled : MR := (3, yX3_ruled, cX3_ruled, 5, (Option.some Jvm.ClassFile.FieldType.int), [])
def mX3_couldRule : MR := (3, yX3_couldRule, cX3_couldRule, 4, (Option.some Jvm.ClassFile.FieldType.boolean), [])
def mX3_look : MR := (3, yX3_look, cX3_look, 6, (Option.some Jvm.ClassFile.FieldType.int), [])
def mX3_seed : MR := (3, yX3_seed, cX3_seed, 3, (Option.some Jvm.ClassFile.FieldType.int), [])
def mX3_rains : MR := (3, yX3_rains, cX3_rains, 11, (Option.some Jvm.ClassFile.FieldType.int), [])
def mX3_draws : MR := (3, yX3_draws, cX3_draws, 2, (Option.some Jvm.ClassFile.FieldType.int), [])
def mX3_count : MR := (3, yX3_count, cX3_count, 2, (Option.some Jvm.ClassFile.FieldType.int), [])
def mX3_image : MR := (3, yX3_image, cX3_image, 2, (Option.some Jvm.ClassFile.FieldType.int), [])
def mX3_back : MR := (3, yX3_back, cX3_back, 2, (Option.some Jvm.ClassFile.FieldType.int), [])
def mX4_init : MR := (4, yX4_init, cX4_init, 2, (Option.none : Option Jvm.ClassFile.FieldType), [])
def mX4_skyTold : MR := (4, yX4_skyTold, cX4_skyTold, 3, (Option.some (Jvm.ClassFile.FieldType.object "SkySpire$Sky")), [])
def mX4_see : MR := (4, yX4_see, cX4_see, 1, (Option.some Jvm.ClassFile.FieldType.int), [])
def mX4_oneOf : MR := (4, yX4_oneOf, cX4_oneOf, 3, (Option.some Jvm.ClassFile.FieldType.int), [])
def mX4_isWord : MR := (4, yX4_isWord, cX4_isWord, 5, (Option.some Jvm.ClassFile.FieldType.boolean), [])
def mX4_letters : MR := (4, yX4_letters, cX4_letters, 2, (Option.some Jvm.ClassFile.FieldType.int), [])
def mX4_demand : MR := (4, yX4_demand, cX4_demand, 4, (Option.none : Option Jvm.ClassFile.FieldType), [])
def mX4_canBe : MR := (4, yX4_canBe, cX4_canBe, 2, (Option.some Jvm.ClassFile.FieldType.boolean), [])
def mX4_line : MR := (4, yX4_line, cX4_line, 2, (Option.none : Option Jvm.ClassFile.FieldType), [])
def mX4_skyHere : MR := (4, yX4_skyHere, cX4_skyHere, 1, (Option.none : Option Jvm.ClassFile.FieldType), [])
def mX4_number : MR := (4, yX4_number, cX4_number, 5, (Option.some Jvm.ClassFile.FieldType.int), [])
def mX4_isDigit : MR := (4, yX4_isDigit, cX4_isDigit, 2, (Option.some Jvm.ClassFile.FieldType.boolean), [])
def mX4_penHere : MR := (4, yX4_penHere, cX4_penHere, 1, (Option.none : Option Jvm.ClassFile.FieldType), [])
def mX4_cellNumber : MR := (4, yX4_cellNumber, cX4_cellNumber, 1, (Option.some Jvm.ClassFile.FieldType.int), [])
def mX4_windHere : MR := (4, yX4_windHere, cX4_windHere, 1, (Option.none : Option Jvm.ClassFile.FieldType), [])
def mX4_takesSign : MR := (4, yX4_takesSign, cX4_takesSign, 2, (Option.some Jvm.ClassFile.FieldType.boolean), [])
def mX4_ends : MR := (4, yX4_ends, cX4_ends, 1, (Option.none : Option Jvm.ClassFile.FieldType), [])
def mX4_ruleTold : MR := (4, yX4_ruleTold, cX4_ruleTold, 3, (Option.some (Jvm.ClassFile.FieldType.object "SkySpire$Rule")), [])
def mX4_clauseHere : MR := (4, yX4_clauseHere, cX4_clauseHere, 2, (Option.some (Jvm.ClassFile.FieldType.object "SkySpire$Clause")), [])
def mX4_sum : MR := (4, yX4_sum, cX4_sum, 3, (Option.some (Jvm.ClassFile.FieldType.object "SkySpire$Value")), [])
def mX4_term : MR := (4, yX4_term, cX4_term, 3, (Option.some (Jvm.ClassFile.FieldType.object "SkySpire$Value")), [])
def mX4_value : MR := (4, yX4_value, cX4_value, 3, (Option.some (Jvm.ClassFile.FieldType.object "SkySpire$Value")), [])
def mX4_makes : MR := (4, yX4_makes, cX4_makes, 2, (Option.none : Option Jvm.ClassFile.FieldType), [])
def mX4_takesWord : MR := (4, yX4_takesWord, cX4_takesWord, 2, (Option.some Jvm.ClassFile.FieldType.boolean), [])
def mX4_tested : MR := (4, yX4_tested, cX4_tested, 2, (Option.some (Jvm.ClassFile.FieldType.object "SkySpire$Test")), [])
def mX4_parted : MR := (4, yX4_parted, cX4_parted, 2, (Option.some (Jvm.ClassFile.FieldType.object "SkySpire$Test")), [])
def mX4_fact : MR := (4, yX4_fact, cX4_fact, 6, (Option.some (Jvm.ClassFile.FieldType.object "SkySpire$Test")), [])
def mX4_opens : MR := (4, yX4_opens, cX4_opens, 2, (Option.none : Option Jvm.ClassFile.FieldType), [])
def mX4_sign : MR := (4, yX4_sign, cX4_sign, 3, (Option.some Jvm.ClassFile.FieldType.int), [])
def mX5_init : MR := (5, yX5_init, cX5_init, 1, (Option.none : Option Jvm.ClassFile.FieldType), [])
def mX5_summed : MR := (5, yX5_summed, cX5_summed, 3, (Option.some Jvm.ClassFile.FieldType.long), [])
def mX6_init : MR := (6, yX6_init, cX6_init, 1, (Option.none : Option Jvm.ClassFile.FieldType), [])
def mX6_fits : MR := (6, yX6_fits, cX6_fits, 2, (Option.some Jvm.ClassFile.FieldType.boolean), [])
def mX7_init : MR := (7, yX7_init, cX7_init, 1, (Option.none : Option Jvm.ClassFile.FieldType), [])
def mX8_init : MR := (8, yX8_init, cX8_init, 3, (Option.none : Option Jvm.ClassFile.FieldType), [])
def mX8_of : MR := (8, yX8_of, cX8_of, 2, (Option.some Jvm.ClassFile.FieldType.long), [])
def mX9_init : MR := (9, yX9_init, cX9_init, 2, (Option.none : Option Jvm.ClassFile.FieldType), [])
def mX9_of : MR := (9, yX9_of, cX9_of, 2, (Option.some Jvm.ClassFile.FieldType.long), [])
/-- a call: 0 static, 1 special, 2 on an object of a class, 3 Object(), 4 arraycopy, 5 on a String constant; how many arguments; by the receiver's class -/
abbrev Tg : Type := Nat × Nat × List (Nat × MR)
def mt_X0 : List (Nat × Tg) := [(1, (3, 0, [])), (9, (1, 0, [(0, mX1_init)])), (35, (1, 0, [(0, mX2_init)])), (115, (2, 1, [(0, mX0_four)])), (127, (1, 1, [(0, mX4_init)])), (130, (2, 0, [(4, mX4_skyTold)])), (134, (2, 1, [(1, mX1_copies)])), (143, (2, 0, [(0, mX0_faulted)])), (150, (2, 0, [(4, mX4_ruleTold)])), (157, (2, 1, [(0, mX0_isPen)])), (169, (2, 1, [(1, mX1_strokesOf)])), (173, (2, 1, [(0, mX0_isCell)])), (154, (2, 0, [(1, mX1_cells)])), (178, (0, 3, [(0, mX0_in)])), (205, (2, 1, [(1, mX1_takes)])), (211, (2, 0, [(0, mX0_keepsAct)])), (196, (4, 5, [])), (202, (2, 1, [(1, mX1_lays)])), (214, (2, 0, [(0, mX0_law)])), (217, (2, 1, [(1, mX1_passes)])), (223, (2, 1, [(1, mX1_blots)])), (230, (2, 2, [(1, mX1_goesOn)])), (234, (2, 0, [(1, mX1_strokes)])), (237, (2, 0, [(1, mX1_like)])), (240, (2, 0, [(1, mX1_isSigned)])), (246, (2, 1, [(1, mX1_standsAs)])), (249, (0, 1, [(0, mJ7_bitCount)])), (258, (2, 3, [(0, mX0_writesAlone)])), (254, (0, 2, [(0, mX0_has)])), (265, (2, 2, [(1, mX1_swapsWinds)])), (276, (2, 4, [(0, mX0_plays)])), (269, (2, 2, [(1, mX1_beside)])), (273, (2, 2, [(1, mX1_draws)])), (287, (2, 2, [(0, mX0_isRest)])), (300, (2, 1, [(0, mX0_ruleOf)])), (304, (2, 1, [(0, mX0_parts)])), (297, (2, 1, [(0, mX0_alikeOf)])), (292, (6, 2, [])), (319, (2, 1, [(0, mX0_gathersRules)])), (313, (2, 0, [(1, mX1_begins)])), (316, (2, 1, [(0, mX0_areNotesSo)])), (337, (2, 1, [(0, mX0_draw)])), (351, (1, 0, [(0, mX15_init)]))]
def mt_X1 : List (Nat × Tg) := [(3, (3, 0, [])), (69, (4, 5, [])), (75, (2, 1, [(1, mX1_standsAs)])), (88, (2, 1, [(1, mX1_blots)])), (92, (2, 0, [(1, mX1_cells)])), (124, (2, 2, [(1, mX1_writes)])), (96, (0, 2, [(0, mX0_has)])), (100, (2, 1, [(1, mX1_wayOn)])), (104, (2, 1, [(1, mX1_forceOn)])), (107, (2, 1, [(1, mX1_strokesOf)])), (110, (2, 1, [(5, mX5_summed)])), (128, (2, 0, [(1, mX1_moves)])), (116, (2, 2, [(1, mX1_beside)])), (131, (2, 2, [(1, mX1_falls)])), (120, (2, 2, [(1, mX1_draws)])), (134, (2, 1, [(1, mX1_passes)]))]
def mt_X2 : List (Nat × Tg) := [(3, (1, 4, [(0, mJ2_init)]))]
def mt_X3 : List (Nat × Tg) := [(3, (3, 0, [])), (145, (2, 1, [(3, mX3_put)])), (299, (2, 0, [(3, mX3_readsAll)])), (286, (2, 0, [(3, mX3_starts)])), (289, (2, 1, [(3, mX3_skyClause)])), (193, (2, 0, [(3, mX3_blanks)])), (177, (2, 0, [(3, mX3_byteHere)])), (276, (0, 1, [(0, mX3_skyWord)])), (196, (2, 1, [(3, mX3_stood)])), (184, (5, 0, [(0, mJ3_length)])), (189, (5, 1, [(0, mJ3_charAt)])), (209, (2, 2, [(3, mX3_fails)])), (279, (2, 2, [(3, mX3_isFull)])), (283, (2, 1, [(3, mX3_skyPart)])), (272, (2, 2, [(3, mX3_amount)])), (218, (2, 1, [(3, mX3_digits)])), (213, (2, 0, [(3, mX3_isDigit)])), (138, (0, 3, [(0, mX3_in)])), (292, (2, 0, [(3, mX3_goesOn)])), (295, (0, 2, [(0, mX3_copies)])), (302, (2, 0, [(3, mX3_begins)])), (321, (2, 1, [(3, mX3_ruleClause)])), (238, (2, 0, [(3, mX3_sum)])), (235, (2, 0, [(3, mX3_term)])), (232, (2, 0, [(3, mX3_value)])), (222, (2, 1, [(3, mX3_isCounted)])), (225, (2, 2, [(3, mX3_entry)])), (228, (0, 1, [(0, mX3_wordOf)])), (312, (2, 1, [(3, mX3_takes)])), (315, (2, 0, [(3, mX3_test)])), (258, (2, 0, [(3, mX3_fact)])), (252, (2, 1, [(3, mX3_opens)])), (255, (2, 0, [(3, mX3_compared)])), (261, (2, 1, [(3, mX3_answers)])), (247, (2, 0, [(3, mX3_top)])), (341, (2, 1, [(3, mX3_isPen)])), (338, (2, 1, [(3, mX3_strokesOf)])), (134, (2, 0, [(3, mX3_cells)])), (345, (2, 1, [(3, mX3_isCell)])), (398, (2, 2, [(3, mX3_movesAll)])), (391, (2, 1, [(3, mX3_moves)])), (394, (2, 1, [(3, mX3_movesRow)])), (402, (2, 0, [(3, mX3_isSky)])), (405, (2, 0, [(3, mX3_keepsAct)])), (381, (2, 0, [(3, mX3_goes)])), (369, (2, 1, [(3, mX3_writes)])), (350, (0, 2, [(0, mX3_has)])), (353, (2, 1, [(3, mX3_wayOf)])), (356, (2, 1, [(3, mX3_forceOf)])), (359, (2, 0, [(3, mX3_wanted)])), (326, (2, 3, [(3, mX3_answer)])), (334, (0, 3, [(0, mX3_both)])), (330, (0, 1, [(0, mX3_truth)])), (372, (2, 0, [(3, mX3_drifts)])), (363, (2, 2, [(3, mX3_beside)])), (375, (2, 1, [(3, mX3_strikes)])), (366, (2, 2, [(3, mX3_lays)])), (378, (2, 0, [(3, mX3_fades)])), (426, (2, 0, [(3, mX3_keepsAll)])), (410, (2, 2, [(3, mX3_carriesAll)])), (504, (2, 1, [(3, mX3_carryRow)])), (413, (2, 1, [(3, mX3_goFor)])), (429, (2, 0, [(3, mX3_allStrokes)])), (416, (2, 0, [(3, mX3_like)])), (419, (2, 0, [(3, mX3_laysBack)])), (436, (2, 1, [(3, mX3_signedAt)])), (432, (2, 1, [(3, mX3_isSigned)])), (442, (2, 1, [(3, mX3_likeIn)])), (445, (0, 1, [(0, mX3_bits)])), (448, (2, 3, [(3, mX3_leaves)])), (452, (2, 2, [(3, mX3_swaps)])), (458, (2, 5, [(3, mX3_playOf)])), (462, (2, 2, [(3, mX3_bestAt)])), (468, (2, 3, [(3, mX3_laysStiffs)])), (472, (2, 1, [(3, mX3_isRest)])), (480, (2, 1, [(3, mX3_parting)])), (477, (2, 2, [(3, mX3_mostAlike)])), (483, (2, 1, [(3, mX3_couldRule)])), (495, (2, 1, [(3, mX3_draws)]))]
def mt_X4 : List (Nat × Tg) := [(9, (3, 0, [])), (146, (2, 1, [(1, mX1_copies)])), (52, (2, 0, [(4, mX4_see)])), (153, (2, 1, [(4, mX4_oneOf)])), (68, (2, 1, [(4, mX4_isWord)])), (56, (2, 0, [(4, mX4_letters)])), (59, (5, 0, [(0, mJ3_length)])), (64, (5, 1, [(0, mJ3_charAt)])), (76, (2, 3, [(4, mX4_demand)])), (157, (2, 1, [(4, mX4_canBe)])), (160, (2, 1, [(4, mX4_line)])), (130, (2, 0, [(4, mX4_skyHere)])), (107, (2, 2, [(4, mX4_number)])), (72, (2, 1, [(4, mX4_isDigit)])), (80, (0, 3, [(0, mX0_in)])), (133, (2, 0, [(4, mX4_penHere)])), (121, (2, 0, [(4, mX4_cellNumber)])), (104, (2, 0, [(1, mX1_cells)])), (136, (2, 0, [(4, mX4_windHere)])), (164, (2, 1, [(4, mX4_takesSign)])), (167, (2, 0, [(4, mX4_ends)])), (170, (2, 0, [(1, mX1_begins)])), (198, (1, 0, [(0, mX5_init)])), (207, (2, 0, [(4, mX4_clauseHere)])), (175, (1, 0, [(0, mX6_init)])), (176, (2, 0, [(4, mX4_sum)])), (247, (2, 0, [(4, mX4_term)])), (253, (2, 0, [(4, mX4_value)])), (239, (2, 1, [(4, mX4_makes)])), (259, (1, 1, [(0, mX8_init)])), (264, (1, 1, [(0, mX9_init)])), (252, (1, 3, [(0, mX10_init)])), (185, (2, 1, [(4, mX4_takesWord)])), (188, (2, 0, [(4, mX4_tested)])), (211, (2, 0, [(4, mX4_parted)])), (221, (2, 0, [(4, mX4_fact)])), (228, (2, 1, [(4, mX4_opens)])), (233, (1, 1, [(0, mX12_init)])), (236, (2, 0, [(4, mX4_sign)])), (244, (1, 3, [(0, mX13_init)])), (218, (1, 3, [(0, mX14_init)]))]
def mt_X5 : List (Nat × Tg) := [(3, (3, 0, [])), (21, (2, 1, [(6, mX6_fits)])), (29, (2, 1, [(7, mX8_of), (8, mX9_of), (9, mX10_of)]))]
def mt_X6 : List (Nat × Tg) := [(1, (3, 0, [])), (13, (2, 1, [(10, mX12_is), (11, mX13_is), (12, mX14_is)]))]
def mt_X7 : List (Nat × Tg) := [(1, (3, 0, []))]
def mt_X8 : List (Nat × Tg) := [(1, (1, 0, [(0, mX7_init)]))]
def mt_X9 : List (Nat × Tg) := [(1, (1, 0, [(0, mX7_init)]))]
def mt_X10 : List (Nat × Tg) := [(1, (1, 0, [(0, mX7_init)])), (20, (2, 1, [(7, mX8_of), (8, mX9_of), (9, mX10_of)]))]
def mt_X11 : List (Nat × Tg) := [(1, (3, 0, []))]
def mt_X12 : List (Nat × Tg) := [(1, (1, 0, [(0, mX11_init)])), (13, (2, 1, [(10, mX12_is), (11, mX13_is), (12, mX14_is)]))]
def mt_X13 : List (Nat × Tg) := [(1, (1, 0, [(0, mX11_init)])), (20, (2, 1, [(7, mX8_of), (8, mX9_of), (9, mX10_of)]))]
def mt_X14 : List (Nat × Tg) := [(1, (1, 0, [(0, mX11_init)])), (20, (2, 1, [(10, mX12_is), (11, mX13_is), (12, mX14_is)]))]
def mt_X15 : List (Nat × Tg) := [(1, (3, 0, [])), (9, (1, 0, [(0, mX1_init)]))]
def mt_J0 : List (Nat × Tg) := [(1, (3, 0, []))]
def mt_J1 : List (Nat × Tg) := [(16, (1, 4, [(0, mJ0_init_2)]))]
def mt_J2 : List (Nat × Tg) := [(16, (1, 4, [(0, mJ1_init)]))]
def mt_J3 : List (Nat × Tg) := [(335, (5, 0, [(0, mJ3_coder)])), (492, (5, 0, [(0, mJ3_isLatin1)])), (495, (0, 2, [(0, mJ4_charAt)])), (1059, (0, 3, [(0, mJ5_checkIndex)])), (498, (0, 2, [(0, mJ6_charAt)]))]
def mt_J4 : List (Nat × Tg) := [(9, (0, 2, [(0, mJ3_checkIndex)]))]
def mt_J5 : List (Nat × Tg) := []
def mt_J6 : List (Nat × Tg) := [(67, (0, 2, [(0, mJ6_checkIndex)])), (48, (0, 1, [(0, mJ6_length)])), (414, (0, 2, [(0, mJ3_checkIndex)])), (71, (0, 2, [(0, mJ6_getChar)]))]
def mt_J7 : List (Nat × Tg) := []
def mt_J8 : List (Nat × Tg) := []
def mt_J9 : List (Nat × Tg) := []
def mt_L : List (Nat × Tg) := [(9, (1, 0, [(0, mX0_init)])), (13, (2, 5, [(0, mX0_feed)])), (18, (2, 1, [(0, mX0_end)])), (23, (2, 0, [(0, mX0_sky)])), (28, (2, 0, [(0, mX0_rule)])), (32, (2, 1, [(0, mX0_force)])), (36, (2, 2, [(0, mX0_pen)])), (41, (2, 2, [(0, mX0_cell)])), (65, (2, 0, [(0, mX0_undo)])), (45, (2, 0, [(0, mX0_day)])), (49, (2, 1, [(0, mX0_stay)])), (53, (2, 2, [(0, mX0_set)])), (57, (2, 2, [(0, mX0_bend)])), (61, (2, 1, [(0, mX0_blot)])), (69, (2, 3, [(0, mX0_ahead)])), (74, (2, 0, [(0, mX0_sign)])), (78, (2, 0, [(0, mX0_clean)])), (82, (2, 2, [(0, mX0_hold)])), (86, (2, 2, [(0, mX0_wrote)])), (90, (2, 4, [(0, mX0_came)])), (95, (2, 2, [(0, mX0_change)])), (99, (2, 4, [(0, mX0_game)])), (103, (2, 4, [(0, mX0_rests)])), (107, (2, 2, [(0, mX0_pence)])), (111, (2, 2, [(0, mX0_read)])), (115, (2, 3, [(0, mX0_note)])), (119, (2, 1, [(0, mX0_ruled)])), (123, (2, 2, [(0, mX0_look)])), (127, (2, 1, [(0, mX0_seed)])), (131, (2, 4, [(0, mX0_rains)])), (135, (2, 1, [(0, mX0_count)])), (139, (2, 1, [(0, mX0_image)])), (143, (2, 1, [(0, mX0_back)])), (12, (1, 0, [(0, mX3_init)])), (17, (2, 5, [(3, mX3_feed)])), (22, (2, 1, [(3, mX3_end)])), (27, (2, 0, [(3, mX3_sky)])), (31, (2, 0, [(3, mX3_rule)])), (35, (2, 1, [(3, mX3_force)])), (40, (2, 2, [(3, mX3_pen)])), (44, (2, 2, [(3, mX3_cell)])), (68, (2, 0, [(3, mX3_undo)])), (48, (2, 0, [(3, mX3_day)])), (52, (2, 1, [(3, mX3_stay)])), (56, (2, 2, [(3, mX3_set)])), (60, (2, 2, [(3, mX3_bend)])), (64, (2, 1, [(3, mX3_blot)])), (73, (2, 3, [(3, mX3_ahead)])), (77, (2, 0, [(3, mX3_sign)])), (81, (2, 0, [(3, mX3_clean)])), (85, (2, 2, [(3, mX3_hold)])), (89, (2, 2, [(3, mX3_wrote)])), (94, (2, 4, [(3, mX3_came)])), (98, (2, 2, [(3, mX3_change)])), (102, (2, 4, [(3, mX3_game)])), (106, (2, 4, [(3, mX3_rests)])), (110, (2, 2, [(3, mX3_pence)])), (114, (2, 2, [(3, mX3_read)])), (118, (2, 3, [(3, mX3_note)])), (122, (2, 1, [(3, mX3_ruled)])), (126, (2, 2, [(3, mX3_look)])), (130, (2, 1, [(3, mX3_seed)])), (134, (2, 4, [(3, mX3_rains)])), (138, (2, 1, [(3, mX3_count)])), (142, (2, 1, [(3, mX3_image)])), (146, (2, 1, [(3, mX3_back)]))]
def mtabL : List (Nat × List (Nat × Tg)) := [(0, mt_X0), (1, mt_X1), (2, mt_X2), (3, mt_X3), (4, mt_X4), (5, mt_X5), (6, mt_X6), (7, mt_X7), (8, mt_X8), (9, mt_X9), (10, mt_X10), (11, mt_X11), (12, mt_X12), (13, mt_X13), (14, mt_X14), (15, mt_X15), (16, mt_J0), (17, mt_J1), (18, mt_J2), (19, mt_J3), (20, mt_J4), (21, mt_J5), (22, mt_J6), (23, mt_J7), (24, mt_J8), (25, mt_J9), (26, mt_L)]
def mtab (cn : Nat) : List (Nat × Tg) := (lk mtabL cn).getD []
def ft_X0 : List (Nat × (Nat × Nat × Nat)) := [(345, (1, 0, 0)), (348, (1, 1, 0)), (140, (1, 2, 0)), (262, (1, 3, 0)), (307, (1, 4, 0)), (190, (1, 5, 0)), (208, (1, 7, 0)), (340, (1, 8, 0)), (166, (1, 9, 0)), (188, (1, 13, 2)), (310, (1, 14, 2)), (161, (1, 15, 2)), (164, (1, 16, 2)), (182, (1, 17, 2)), (185, (1, 18, 2)), (193, (1, 19, 2)), (122, (2, 6, 0)), (119, (2, 7, 0)), (138, (0, 0, 0)), (10, (0, 1, 1)), (16, (0, 2, 1)), (19, (0, 3, 1)), (23, (0, 4, 1)), (26, (0, 5, 1)), (322, (0, 6, 0)), (29, (0, 7, 0)), (36, (0, 8, 1)), (40, (0, 9, 1)), (112, (0, 10, 0)), (54, (0, 11, 1)), (60, (0, 12, 1)), (83, (0, 13, 1)), (88, (0, 14, 1)), (147, (0, 15, 0)), (280, (0, 16, 0)), (92, (0, 17, 1)), (96, (0, 18, 1)), (99, (0, 19, 1)), (103, (0, 20, 1)), (325, (0, 21, 0)), (108, (0, 22, 1)), (358, (13, 0, 2)), (352, (13, 1, 0)), (356, (13, 2, 0)), (357, (13, 3, 0))]
def ft_X1 : List (Nat × (Nat × Nat × Nat)) := [(47, (1, 0, 0)), (51, (1, 1, 0)), (54, (1, 2, 0)), (57, (1, 3, 0)), (60, (1, 4, 0)), (63, (1, 5, 0)), (66, (1, 6, 0)), (79, (1, 7, 0)), (82, (1, 8, 0)), (85, (1, 9, 0)), (9, (1, 10, 1)), (15, (1, 11, 1)), (18, (1, 12, 1)), (21, (1, 13, 1)), (25, (1, 14, 1)), (28, (1, 15, 1)), (31, (1, 16, 1)), (34, (1, 17, 1)), (37, (1, 18, 1)), (40, (1, 19, 1)), (43, (1, 20, 1))]
def ft_X2 : List (Nat × (Nat × Nat × Nat)) := []
def ft_X3 : List (Nat × (Nat × Nat × Nat)) := [(9, (3, 1, 1)), (13, (3, 2, 1)), (16, (3, 3, 1)), (19, (3, 4, 1)), (22, (3, 5, 1)), (25, (3, 6, 1)), (28, (3, 7, 1)), (31, (3, 8, 1)), (34, (3, 9, 1)), (37, (3, 10, 1)), (40, (3, 11, 1)), (43, (3, 12, 1)), (46, (3, 13, 1)), (49, (3, 14, 1)), (52, (3, 15, 1)), (55, (3, 16, 1)), (58, (3, 17, 1)), (61, (3, 18, 1)), (64, (3, 19, 1)), (142, (3, 20, 0)), (174, (3, 21, 0)), (171, (3, 22, 0)), (200, (3, 23, 0)), (318, (3, 24, 0)), (203, (3, 25, 0)), (244, (3, 26, 0)), (206, (3, 27, 0)), (241, (3, 28, 0)), (67, (3, 29, 0)), (71, (3, 30, 1)), (75, (3, 31, 1)), (78, (3, 32, 1)), (81, (3, 33, 1)), (84, (3, 34, 1)), (87, (3, 35, 1)), (90, (3, 36, 1)), (93, (3, 37, 1)), (96, (3, 38, 1)), (100, (3, 39, 1)), (103, (3, 40, 1)), (106, (3, 41, 1)), (305, (3, 42, 0)), (388, (3, 43, 0)), (384, (3, 44, 0)), (109, (3, 45, 1)), (112, (3, 46, 1)), (115, (3, 47, 1)), (118, (3, 48, 1)), (121, (3, 49, 1)), (124, (3, 50, 1)), (127, (3, 51, 1)), (501, (3, 52, 0)), (498, (3, 53, 0))]
def ft_X4 : List (Nat × (Nat × Nat × Nat)) := [(111, (1, 0, 0)), (114, (1, 1, 0)), (98, (1, 2, 0)), (101, (1, 3, 0)), (93, (1, 6, 0)), (117, (1, 10, 2)), (124, (1, 11, 2)), (127, (1, 12, 2)), (139, (1, 13, 2)), (33, (2, 6, 0)), (39, (2, 7, 0)), (22, (0, 4, 2)), (143, (0, 5, 2)), (29, (0, 8, 2)), (48, (0, 9, 2)), (45, (0, 10, 0)), (150, (0, 11, 2)), (199, (0, 12, 2)), (15, (0, 13, 2)), (19, (4, 0, 1)), (26, (4, 1, 1)), (42, (4, 2, 0)), (87, (4, 3, 0)), (84, (4, 4, 0)), (90, (4, 5, 0)), (3, (4, 6, 1)), (202, (5, 0, 2)), (206, (5, 1, 0)), (180, (6, 0, 0)), (192, (6, 1, 0))]
def ft_X5 : List (Nat × (Nat × Nat × Nat)) := [(11, (5, 0, 1)), (17, (5, 1, 0)), (25, (6, 0, 0))]
def ft_X6 : List (Nat × (Nat × Nat × Nat)) := [(7, (6, 1, 0))]
def ft_X7 : List (Nat × (Nat × Nat × Nat)) := []
def ft_X8 : List (Nat × (Nat × Nat × Nat)) := [(7, (7, 0, 1))]
def ft_X9 : List (Nat × (Nat × Nat × Nat)) := [(7, (8, 0, 1))]
def ft_X10 : List (Nat × (Nat × Nat × Nat)) := [(7, (9, 0, 1)), (17, (9, 1, 1)), (13, (9, 2, 1))]
def ft_X11 : List (Nat × (Nat × Nat × Nat)) := []
def ft_X12 : List (Nat × (Nat × Nat × Nat)) := [(7, (10, 0, 1))]
def ft_X13 : List (Nat × (Nat × Nat × Nat)) := [(7, (11, 0, 1)), (17, (11, 1, 1)), (13, (11, 2, 1))]
def ft_X14 : List (Nat × (Nat × Nat × Nat)) := [(7, (12, 0, 1)), (17, (12, 1, 1)), (13, (12, 2, 1))]
def ft_X15 : List (Nat × (Nat × Nat × Nat)) := [(10, (13, 0, 1))]
def ft_J0 : List (Nat × (Nat × Nat × Nat)) := [(31, (2, 3, 0)), (7, (2, 0, 0)), (17, (2, 1, 0)), (24, (2, 2, 0))]
def ft_J1 : List (Nat × (Nat × Nat × Nat)) := []
def ft_J2 : List (Nat × (Nat × Nat × Nat)) := []
def ft_J3 : List (Nat × (Nat × Nat × Nat)) := []
def ft_J4 : List (Nat × (Nat × Nat × Nat)) := []
def ft_J5 : List (Nat × (Nat × Nat × Nat)) := []
def ft_J6 : List (Nat × (Nat × Nat × Nat)) := []
def ft_J7 : List (Nat × (Nat × Nat × Nat)) := []
def ft_J8 : List (Nat × (Nat × Nat × Nat)) := []
def ft_J9 : List (Nat × (Nat × Nat × Nat)) := []
def ft_L : List (Nat × (Nat × Nat × Nat)) := []
/-- fields: class of the heap, place, whether it may be written (0: yes, 1: in the constructor, 2: no) -/
def ftabL : List (Nat × List (Nat × (Nat × Nat × Nat))) := [(0, ft_X0), (1, ft_X1), (2, ft_X2), (3, ft_X3), (4, ft_X4), (5, ft_X5), (6, ft_X6), (7, ft_X7), (8, ft_X8), (9, ft_X9), (10, ft_X10), (11, ft_X11), (12, ft_X12), (13, ft_X13), (14, ft_X14), (15, ft_X15), (16, ft_J0), (17, ft_J1), (18, ft_J2), (19, ft_J3), (20, ft_J4), (21, ft_J5), (22, ft_J6), (23, ft_J7), (24, ft_J8), (25, ft_J9), (26, ft_L)]
def ftab (cn : Nat) : List (Nat × (Nat × Nat × Nat)) := (lk ftabL cn).getD []
def ftyT : List (List Nat) := [[3, 3, 3, 3, 3, 3, 0, 0, 3, 3, 0, 3, 3, 3, 3, 0, 0, 3, 3, 3, 3, 0, 3], [0, 0, 0, 0, 0, 0, 0, 0, 0, 0, 3, 3, 3, 3, 3, 3, 3, 3, 3, 3, 3], [3, 3, 3, 3, 3, 0, 0, 0], [0, 3, 3, 3, 3, 3, 3, 3, 3, 3, 3, 3, 3, 3, 3, 3, 3, 3, 3, 3, 0, 0, 0, 0, 0, 0, 0, 0, 0, 0, 3, 3, 3, 3, 3, 3, 3, 3, 3, 3, 3, 3, 0, 0, 1, 3, 3, 3, 3, 3, 3, 3, 0, 1], [3, 3, 0, 0, 0, 0, 3], [3, 0], [3, 3], [2], [0], [3, 3, 0], [3], [3, 3, 0], [3, 3, 1], [3, 1, 0, 0]]
/-- a field's type: 0 int, 1 boolean, 2 long, 3 reference -/
def fty (ci k : Nat) : Nat := (ftyT.getD ci []).getD k 9
def fno (ci : Nat) : Nat := (ftyT.getD ci []).length
def ck_X0 : List (Nat × Nat) := [(7, 1), (33, 2), (106, 13), (125, 4)]
def ak_X0 : List (Nat × Nat) := [(7, 4), (44, 5), (86, 6), (106, 8)]
def ck_X1 : List (Nat × Nat) := []
def ak_X1 : List (Nat × Nat) := []
def ck_X2 : List (Nat × Nat) := []
def ak_X2 : List (Nat × Nat) := []
def ck_X3 : List (Nat × Nat) := []
def ak_X3 : List (Nat × Nat) := []
def ck_X4 : List (Nat × Nat) := [(196, 5), (173, 6), (257, 7), (262, 8), (250, 9), (231, 10), (242, 11), (216, 12)]
def ak_X4 : List (Nat × Nat) := []
def ck_X5 : List (Nat × Nat) := []
def ak_X5 : List (Nat × Nat) := [(9, 7)]
def ck_X6 : List (Nat × Nat) := []
def ak_X6 : List (Nat × Nat) := []
def ck_X7 : List (Nat × Nat) := []
def ak_X7 : List (Nat × Nat) := []
def ck_X8 : List (Nat × Nat) := []
def ak_X8 : List (Nat × Nat) := []
def ck_X9 : List (Nat × Nat) := []
def ak_X9 : List (Nat × Nat) := []
def ck_X10 : List (Nat × Nat) := []
def ak_X10 : List (Nat × Nat) := []
def ck_X11 : List (Nat × Nat) := []
def ak_X11 : List (Nat × Nat) := []
def ck_X12 : List (Nat × Nat) := []
def ak_X12 : List (Nat × Nat) := []
def ck_X13 : List (Nat × Nat) := []
def ak_X13 : List (Nat × Nat) := []
def ck_X14 : List (Nat × Nat) := []
def ak_X14 : List (Nat × Nat) := []
def ck_X15 : List (Nat × Nat) := [(7, 1)]
def ak_X15 : List (Nat × Nat) := []
def ck_J0 : List (Nat × Nat) := []
def ak_J0 : List (Nat × Nat) := []
def ck_J1 : List (Nat × Nat) := []
def ak_J1 : List (Nat × Nat) := []
def ck_J2 : List (Nat × Nat) := []
def ak_J2 : List (Nat × Nat) := []
def ck_J3 : List (Nat × Nat) := []
def ak_J3 : List (Nat × Nat) := []
def ck_J4 : List (Nat × Nat) := []
def ak_J4 : List (Nat × Nat) := []
def ck_J5 : List (Nat × Nat) := []
def ak_J5 : List (Nat × Nat) := []
def ck_J6 : List (Nat × Nat) := []
def ak_J6 : List (Nat × Nat) := []
def ck_J7 : List (Nat × Nat) := []
def ak_J7 : List (Nat × Nat) := []
def ck_J8 : List (Nat × Nat) := []
def ak_J8 : List (Nat × Nat) := []
def ck_J9 : List (Nat × Nat) := []
def ak_J9 : List (Nat × Nat) := []
def ck_L : List (Nat × Nat) := [(7, 0), (10, 3)]
def ak_L : List (Nat × Nat) := []
def ctabL : List (Nat × List (Nat × Nat)) := [(0, ck_X0), (1, ck_X1), (2, ck_X2), (3, ck_X3), (4, ck_X4), (5, ck_X5), (6, ck_X6), (7, ck_X7), (8, ck_X8), (9, ck_X9), (10, ck_X10), (11, ck_X11), (12, ck_X12), (13, ck_X13), (14, ck_X14), (15, ck_X15), (16, ck_J0), (17, ck_J1), (18, ck_J2), (19, ck_J3), (20, ck_J4), (21, ck_J5), (22, ck_J6), (23, ck_J7), (24, ck_J8), (25, ck_J9), (26, ck_L)]
def ctab (cn : Nat) : List (Nat × Nat) := (lk ctabL cn).getD []
def atabL : List (Nat × List (Nat × Nat)) := [(0, ak_X0), (1, ak_X1), (2, ak_X2), (3, ak_X3), (4, ak_X4), (5, ak_X5), (6, ak_X6), (7, ak_X7), (8, ak_X8), (9, ak_X9), (10, ak_X10), (11, ak_X11), (12, ak_X12), (13, ak_X13), (14, ak_X14), (15, ak_X15), (16, ak_J0), (17, ak_J1), (18, ak_J2), (19, ak_J3), (20, ak_J4), (21, ak_J5), (22, ak_J6), (23, ak_J7), (24, ak_J8), (25, ak_J9), (26, ak_L)]
def atab (cn : Nat) : List (Nat × Nat) := (lk atabL cn).getD []
def ki_X0 : List (Nat × Int32) := [(334, 65536)]
def kl_X0 : List (Nat × Int64) := [(176, 2), (221, 9), (226, 100), (228, 3), (244, 60), (283, 4), (285, 20), (290, 9999), (335, 10), (328, 1103515245), (330, 12345), (332, 2147483648), (343, 14)]
def ks_X0 : List (Nat × Nat) := [(46, 0), (48, 1), (50, 2), (52, 3), (58, 4), (63, 5), (65, 6), (67, 7), (69, 8), (71, 9), (73, 10), (75, 11), (77, 12), (79, 13), (81, 14)]
def ki_X1 : List (Nat × Int32) := []
def kl_X1 : List (Nat × Int64) := []
def ks_X1 : List (Nat × Nat) := []
def ki_X2 : List (Nat × Int32) := []
def kl_X2 : List (Nat × Int64) := []
def ks_X2 : List (Nat × Nat) := [(1, 15)]
def ki_X3 : List (Nat × Int32) := [(217, 99999), (455, -100000), (492, 65536)]
def kl_X3 : List (Nat × Int64) := [(180, 48), (182, 57), (324, -1), (348, 2), (408, 9), (422, 3), (424, 100), (440, 60), (456, 4), (466, 20), (475, 9999), (493, 10), (486, 1103515245), (488, 12345), (490, 2147483648)]
def ks_X3 : List (Nat × Nat) := [(268, 16), (149, 17), (270, 18), (165, 19), (308, 20), (151, 21), (153, 22), (155, 23), (156, 24), (157, 25), (159, 26), (161, 27), (163, 28), (167, 29), (169, 30), (310, 31), (250, 32), (264, 33), (266, 34)]
def ki_X4 : List (Nat × Int32) := [(256, 99999)]
def kl_X4 : List (Nat × Int64) := []
def ks_X4 : List (Nat × Nat) := [(183, 35), (226, 36), (224, 37), (214, 38)]
def ki_X5 : List (Nat × Int32) := []
def kl_X5 : List (Nat × Int64) := []
def ks_X5 : List (Nat × Nat) := []
def ki_X6 : List (Nat × Int32) := []
def kl_X6 : List (Nat × Int64) := []
def ks_X6 : List (Nat × Nat) := []
def ki_X7 : List (Nat × Int32) := []
def kl_X7 : List (Nat × Int64) := []
def ks_X7 : List (Nat × Nat) := []
def ki_X8 : List (Nat × Int32) := []
def kl_X8 : List (Nat × Int64) := []
def ks_X8 : List (Nat × Nat) := []
def ki_X9 : List (Nat × Int32) := []
def kl_X9 : List (Nat × Int64) := []
def ks_X9 : List (Nat × Nat) := []
def ki_X10 : List (Nat × Int32) := []
def kl_X10 : List (Nat × Int64) := []
def ks_X10 : List (Nat × Nat) := []
def ki_X11 : List (Nat × Int32) := []
def kl_X11 : List (Nat × Int64) := []
def ks_X11 : List (Nat × Nat) := []
def ki_X12 : List (Nat × Int32) := []
def kl_X12 : List (Nat × Int64) := []
def ks_X12 : List (Nat × Nat) := []
def ki_X13 : List (Nat × Int32) := []
def kl_X13 : List (Nat × Int64) := []
def ks_X13 : List (Nat × Nat) := []
def ki_X14 : List (Nat × Int32) := []
def kl_X14 : List (Nat × Int64) := []
def ks_X14 : List (Nat × Nat) := []
def ki_X15 : List (Nat × Int32) := []
def kl_X15 : List (Nat × Int64) := []
def ks_X15 : List (Nat × Nat) := []
def ki_J0 : List (Nat × Int32) := []
def kl_J0 : List (Nat × Int64) := []
def ks_J0 : List (Nat × Nat) := []
def ki_J1 : List (Nat × Int32) := []
def kl_J1 : List (Nat × Int64) := []
def ks_J1 : List (Nat × Nat) := []
def ki_J2 : List (Nat × Int32) := []
def kl_J2 : List (Nat × Int64) := []
def ks_J2 : List (Nat × Nat) := []
def ki_J3 : List (Nat × Int32) := []
def kl_J3 : List (Nat × Int64) := []
def ks_J3 : List (Nat × Nat) := []
def ki_J4 : List (Nat × Int32) := []
def kl_J4 : List (Nat × Int64) := []
def ks_J4 : List (Nat × Nat) := []
def ki_J5 : List (Nat × Int32) := []
def kl_J5 : List (Nat × Int64) := []
def ks_J5 : List (Nat × Nat) := []
def ki_J6 : List (Nat × Int32) := []
def kl_J6 : List (Nat × Int64) := []
def ks_J6 : List (Nat × Nat) := []
def ki_J7 : List (Nat × Int32) := [(265, 1431655765), (266, 858993459), (267, 252645135)]
def kl_J7 : List (Nat × Int64) := []
def ks_J7 : List (Nat × Nat) := []
def ki_J8 : List (Nat × Int32) := []
def kl_J8 : List (Nat × Int64) := []
def ks_J8 : List (Nat × Nat) := []
def ki_J9 : List (Nat × Int32) := []
def kl_J9 : List (Nat × Int64) := []
def ks_J9 : List (Nat × Nat) := []
def ki_L : List (Nat × Int32) := []
def kl_L : List (Nat × Int64) := []
def ks_L : List (Nat × Nat) := []
def kitabL : List (Nat × List (Nat × Int32)) := [(0, ki_X0), (1, ki_X1), (2, ki_X2), (3, ki_X3), (4, ki_X4), (5, ki_X5), (6, ki_X6), (7, ki_X7), (8, ki_X8), (9, ki_X9), (10, ki_X10), (11, ki_X11), (12, ki_X12), (13, ki_X13), (14, ki_X14), (15, ki_X15), (16, ki_J0), (17, ki_J1), (18, ki_J2), (19, ki_J3), (20, ki_J4), (21, ki_J5), (22, ki_J6), (23, ki_J7), (24, ki_J8), (25, ki_J9), (26, ki_L)]
def kitab (cn : Nat) : List (Nat × Int32) := (lk kitabL cn).getD []
def kltabL : List (Nat × List (Nat × Int64)) := [(0, kl_X0), (1, kl_X1), (2, kl_X2), (3, kl_X3), (4, kl_X4), (5, kl_X5), (6, kl_X6), (7, kl_X7), (8, kl_X8), (9, kl_X9), (10, kl_X10), (11, kl_X11), (12, kl_X12), (13, kl_X13), (14, kl_X14), (15, kl_X15), (16, kl_J0), (17, kl_J1), (18, kl_J2), (19, kl_J3), (20, kl_J4), (21, kl_J5), (22, kl_J6), (23, kl_J7), (24, kl_J8), (25, kl_J9), (26, kl_L)]
def kltab (cn : Nat) : List (Nat × Int64) := (lk kltabL cn).getD []
def kstabL : List (Nat × List (Nat × Nat)) := [(0, ks_X0), (1, ks_X1), (2, ks_X2), (3, ks_X3), (4, ks_X4), (5, ks_X5), (6, ks_X6), (7, ks_X7), (8, ks_X8), (9, ks_X9), (10, ks_X10), (11, ks_X11), (12, ks_X12), (13, ks_X13), (14, ks_X14), (15, ks_X15), (16, ks_J0), (17, ks_J1), (18, ks_J2), (19, ks_J3), (20, ks_J4), (21, ks_J5), (22, ks_J6), (23, ks_J7), (24, ks_J8), (25, ks_J9), (26, ks_L)]
def kstab (cn : Nat) : List (Nat × Nat) := (lk kstabL cn).getD []
/-- the String constants' bytes; token 1000000 + i is constant i, 2000000 + i its bytes -/
def sbT : List (List Int32) := [[115, 107, 121], [112, 101, 110], [119, 105, 110, 100], [109, 97, 114, 107], [119, 114, 105, 116, 101], [114, 111, 119], [99, 111, 108, 117, 109, 110], [115, 116, 105, 102, 102], [119, 97, 121], [102, 111, 114, 99, 101], [105, 110, 107], [104, 101, 114, 101], [109, 105, 110, 101], [110, 101, 120, 116], [100, 97, 121], [102, 97, 117, 108, 116], [115, 107, 121], [112, 101, 110], [119, 105, 110, 100], [109, 97, 114, 107], [119, 114, 105, 116, 101], [114, 111, 119], [99, 111, 108, 117, 109, 110], [115, 116, 105, 102, 102], [119, 97, 121], [102, 111, 114, 99, 101], [105, 110, 107], [104, 101, 114, 101], [109, 105, 110, 101], [110, 101, 120, 116], [100, 97, 121], [105, 102], [110, 111, 116], [97, 110, 100], [111, 114], [105, 102], [110, 111, 116], [97, 110, 100], [111, 114]]
def sown (i : Nat) : String := ["SkySpire", "SkySpire", "SkySpire", "SkySpire", "SkySpire", "SkySpire", "SkySpire", "SkySpire", "SkySpire", "SkySpire", "SkySpire", "SkySpire", "SkySpire", "SkySpire", "SkySpire", "SkySpire$Fault", "SkySpireModel", "SkySpireModel", "SkySpireModel", "SkySpireModel", "SkySpireModel", "SkySpireModel", "SkySpireModel", "SkySpireModel", "SkySpireModel", "SkySpireModel", "SkySpireModel", "SkySpireModel", "SkySpireModel", "SkySpireModel", "SkySpireModel", "SkySpireModel", "SkySpireModel", "SkySpireModel", "SkySpireModel", "SkySpire$Text", "SkySpire$Text", "SkySpire$Text", "SkySpire$Text"].getD i ""
def sidx (i : Nat) : Nat := [46, 48, 50, 52, 58, 63, 65, 67, 69, 71, 73, 75, 77, 79, 81, 1, 268, 149, 270, 165, 308, 151, 153, 155, 156, 157, 159, 161, 163, 167, 169, 310, 250, 264, 266, 183, 226, 224, 214].getD i 0
def stxt (i : Nat) : String := ["sky", "pen", "wind", "mark", "write", "row", "column", "stiff", "way", "force", "ink", "here", "mine", "next", "day", "fault", "sky", "pen", "wind", "mark", "write", "row", "column", "stiff", "way", "force", "ink", "here", "mine", "next", "day", "if", "not", "and", "or", "if", "not", "and", "or"].getD i ""
def xf_X0 : List (Nat × Nat) := []
def xf_X1 : List (Nat × Nat) := []
def xf_X2 : List (Nat × Nat) := []
def xf_X3 : List (Nat × Nat) := []
def xf_X4 : List (Nat × Nat) := []
def xf_X5 : List (Nat × Nat) := []
def xf_X6 : List (Nat × Nat) := []
def xf_X7 : List (Nat × Nat) := []
def xf_X8 : List (Nat × Nat) := []
def xf_X9 : List (Nat × Nat) := []
def xf_X10 : List (Nat × Nat) := []
def xf_X11 : List (Nat × Nat) := []
def xf_X12 : List (Nat × Nat) := []
def xf_X13 : List (Nat × Nat) := []
def xf_X14 : List (Nat × Nat) := []
def xf_X15 : List (Nat × Nat) := []
def xf_J0 : List (Nat × Nat) := []
def xf_J1 : List (Nat × Nat) := []
def xf_J2 : List (Nat × Nat) := []
def xf_J3 : List (Nat × Nat) := [(9, 0), (15, 1)]
def xf_J4 : List (Nat × Nat) := []
def xf_J5 : List (Nat × Nat) := []
def xf_J6 : List (Nat × Nat) := []
def xf_J7 : List (Nat × Nat) := []
def xf_J8 : List (Nat × Nat) := []
def xf_J9 : List (Nat × Nat) := []
def xf_L : List (Nat × Nat) := []
def xftabL : List (Nat × List (Nat × Nat)) := [(0, xf_X0), (1, xf_X1), (2, xf_X2), (3, xf_X3), (4, xf_X4), (5, xf_X5), (6, xf_X6), (7, xf_X7), (8, xf_X8), (9, xf_X9), (10, xf_X10), (11, xf_X11), (12, xf_X12), (13, xf_X13), (14, xf_X14), (15, xf_X15), (16, xf_J0), (17, xf_J1), (18, xf_J2), (19, xf_J3), (20, xf_J4), (21, xf_J5), (22, xf_J6), (23, xf_J7), (24, xf_J8), (25, xf_J9), (26, xf_L)]
def xftab (cn : Nat) : List (Nat × Nat) := (lk xftabL cn).getD []
def xs_X0 : List (Nat × Value) := []
def xs_X1 : List (Nat × Value) := []
def xs_X2 : List (Nat × Value) := []
def xs_X3 : List (Nat × Value) := []
def xs_X4 : List (Nat × Value) := []
def xs_X5 : List (Nat × Value) := []
def xs_X6 : List (Nat × Value) := []
def xs_X7 : List (Nat × Value) := []
def xs_X8 : List (Nat × Value) := []
def xs_X9 : List (Nat × Value) := []
def xs_X10 : List (Nat × Value) := []
def xs_X11 : List (Nat × Value) := []
def xs_X12 : List (Nat × Value) := []
def xs_X13 : List (Nat × Value) := []
def xs_X14 : List (Nat × Value) := []
def xs_X15 : List (Nat × Value) := []
def xs_J0 : List (Nat × Value) := [(13, .ref 3000001), (20, .ref 3000002)]
def xs_J1 : List (Nat × Value) := []
def xs_J2 : List (Nat × Value) := []
def xs_J3 : List (Nat × Value) := [(38, .int 1), (1053, .ref 3000000)]
def xs_J4 : List (Nat × Value) := []
def xs_J5 : List (Nat × Value) := []
def xs_J6 : List (Nat × Value) := []
def xs_J7 : List (Nat × Value) := []
def xs_J8 : List (Nat × Value) := []
def xs_J9 : List (Nat × Value) := []
def xs_L : List (Nat × Value) := []
def xstabL : List (Nat × List (Nat × Value)) := [(0, xs_X0), (1, xs_X1), (2, xs_X2), (3, xs_X3), (4, xs_X4), (5, xs_X5), (6, xs_X6), (7, xs_X7), (8, xs_X8), (9, xs_X9), (10, xs_X10), (11, xs_X11), (12, xs_X12), (13, xs_X13), (14, xs_X14), (15, xs_X15), (16, xs_J0), (17, xs_J1), (18, xs_J2), (19, xs_J3), (20, xs_J4), (21, xs_J5), (22, xs_J6), (23, xs_J7), (24, xs_J8), (25, xs_J9), (26, xs_L)]
def xstab (cn : Nat) : List (Nat × Value) := (lk xstabL cn).getD []
/-! ===== one instruction ===== -/
abbrev Lc : Type := List (Option Value)
abbrev Rs : Type := Option Value ⊕ Nat
abbrev Nx : Type := Option ((Nat × Lc × List Value × Hp) ⊕ (Rs × Hp))
def gt (pc : Nat) (ls : Lc) (st : List Value) (h : Hp) : Nx := some (.inl (pc, ls, st, h))
def rt (v : Option Value) (h : Hp) : Nx := some (.inr (.inl v, h))
def lget (ls : Lc) (i : Nat) : Option Value := (ls[i]?).getD none
def lclr (ls : Lc) (i : Nat) : Lc := match i with
  | 0 => ls
  | j + 1 => match lget ls j with
    | some w => if w.category = 2 then ls.set j none else ls
    | none => ls
def lset (ls : Lc) (i : Nat) (v : Value) : Lc := if v.category = 2 then ((lclr ls i).set i (some v)).set (i + 1) none else (lclr ls i).set i (some v)
/-- instructions of the stack alone -/
def pst (i : Instr) (st : List Value) : Option (List Value) := match i with
  | .iconst n => some (.int (Int32.ofInt n) :: st)
  | .bipush n => some (.int (Int8.ofInt n).toInt32 :: st)
  | .sipush n => some (.int (Int16.ofInt n).toInt32 :: st)
  | .lconst n => some (.long (Int64.ofNat (n : Nat)) :: st)
  | .aconst_null => some (.null :: st)
  | .iadd => match st with
    | .int y :: .int x :: r => some (.int (x + y) :: r)
    | _ => none
  | .isub => match st with
    | .int y :: .int x :: r => some (.int (x - y) :: r)
    | _ => none
  | .imul => match st with
    | .int y :: .int x :: r => some (.int (x * y) :: r)
    | _ => none
  | .iand => match st with
    | .int y :: .int x :: r => some (.int (x &&& y) :: r)
    | _ => none
  | .ior => match st with
    | .int y :: .int x :: r => some (.int (x ||| y) :: r)
    | _ => none
  | .ixor => match st with
    | .int y :: .int x :: r => some (.int (x ^^^ y) :: r)
    | _ => none
  | .idiv => match st with
    | .int y :: .int x :: r => if y = 0 then none else some (.int (x / y) :: r)
    | _ => none
  | .irem => match st with
    | .int y :: .int x :: r => if y = 0 then none else some (.int (x - x / y * y) :: r)
    | _ => none
  | .ishl => match st with
    | .int y :: .int x :: r => some (.int (x <<< (y &&& 31)) :: r)
    | _ => none
  | .ishr => match st with
    | .int y :: .int x :: r => some (.int (x >>> (y &&& 31)) :: r)
    | _ => none
  | .iushr => match st with
    | .int y :: .int x :: r => some (.int (x.toUInt32 >>> (y.toUInt32 &&& Int32.toUInt32 31)).toInt32 :: r)
    | _ => none
  | .ladd => match st with
    | .long y :: .long x :: r => some (.long (x + y) :: r)
    | _ => none
  | .lsub => match st with
    | .long y :: .long x :: r => some (.long (x - y) :: r)
    | _ => none
  | .lmul => match st with
    | .long y :: .long x :: r => some (.long (x * y) :: r)
    | _ => none
  | .land => match st with
    | .long y :: .long x :: r => some (.long (x &&& y) :: r)
    | _ => none
  | .lor => match st with
    | .long y :: .long x :: r => some (.long (x ||| y) :: r)
    | _ => none
  | .ldiv => match st with
    | .long y :: .long x :: r => if y = 0 then none else some (.long (x / y) :: r)
    | _ => none
  | .lrem => match st with
    | .long y :: .long x :: r => if y = 0 then none else some (.long (x - x / y * y) :: r)
    | _ => none
  | .lcmp => match st with
    | .long y :: .long x :: r => some (.int (lg_cmp x y) :: r)
    | _ => none
  | .i2l => match st with
    | .int x :: r => some (.long x.toInt64 :: r)
    | _ => none
  | .l2i => match st with
    | .long x :: r => some (.int x.toInt32 :: r)
    | _ => none
  | .i2b => match st with
    | .int x :: r => some (.int x.toInt8.toInt32 :: r)
    | _ => none
  | .i2c => match st with
    | .int x :: r => some (.int (x.toUInt32 % 65536).toInt32 :: r)
    | _ => none
  | .dup => match st with
    | v :: r => if v.category = 1 then some (v :: v :: r) else none
    | _ => none
  | .dup2 => match st with
    | v :: w :: r => if v.category = 1 ∧ w.category = 1 then some (v :: w :: v :: w :: r) else none
    | _ => none
  | .pop => match st with
    | v :: r => if v.category = 1 then some r else none
    | _ => none
  | _ => none
/-- how long an instruction is; the instructions that this machine takes -/
def iln (i : Instr) : Nat := match i with
  | .bipush _ | .iload _ | .lload _ | .aload _ | .istore _ | .lstore _ | .astore _ | .newarray _ | .ldc _ => 2
  | .sipush _ | .iinc _ _ | .ifCond _ _ | .if_icmp _ _ | .goto _ | .ifnull _ | .ifnonnull _ | .getfield _ | .putfield _ | .getstatic _ | .new _ | .anewarray _ | .invokevirtual _ | .invokespecial _ | .invokestatic _ | .ldc_w _ | .ldc2_w _ => 3
  | _ => 1
/-- a jump's target -/
def jmp (pc : Nat) (off : Int) : Nat := ((pc : Int) + off).toNat
def jok (pc : Nat) (off : Int) : Prop := (pc : Int) + off = (jmp pc off : Int)
def icv (c : Jvm.ClassFile.Cond) (x y : Int32) : Prop := match c with
  | .eq => x = y
  | .ne => ¬ x = y
  | .lt => x < y
  | .ge => y ≤ x
  | .gt => y < x
  | .le => x ≤ y
def isi : Value → Prop := fun v => match v with
  | .int _ => True
  | _ => False
def isr : Value → Prop := fun v => match v with
  | .ref _ => True
  | .null => True
  | _ => False
def isl : Value → Prop := fun v => match v with
  | .long _ => True
  | _ => False
/-- a local is loaded, stored -/
def nld (pc n : Nat) (ls : Lc) (st : List Value) (h : Hp) (i : Nat) (ty : Nat) : Nx := match lget ls i with
  | some (.int x) => if ty = 0 then gt (pc + n) ls (.int x :: st) h else none
  | some (.long x) => if ty = 2 then gt (pc + n) ls (.long x :: st) h else none
  | some (.ref x) => if ty = 3 then gt (pc + n) ls (.ref x :: st) h else none
  | some .null => if ty = 3 then gt (pc + n) ls (.null :: st) h else none
  | _ => none
def nst (pc n mx : Nat) (ls : Lc) (st : List Value) (h : Hp) (i : Nat) (ty : Nat) : Nx := match st with
  | .int x :: r => if ty = 0 ∧ i < mx then gt (pc + n) (lset ls i (.int x)) r h else none
  | .long x :: r => if ty = 2 ∧ i + 1 < mx then gt (pc + n) (lset ls i (.long x)) r h else none
  | .ref x :: r => if ty = 3 ∧ i < mx then gt (pc + n) (lset ls i (.ref x)) r h else none
  | .null :: r => if ty = 3 ∧ i < mx then gt (pc + n) (lset ls i .null) r h else none
  | _ => none
def fv (h : Hp) (ty t k : Nat) : Value := match ty with
  | 0 => .int (h.I t k)
  | 1 => .int (h.I t k)
  | 2 => .long (h.J t k)
  | _ => va_rf (h.P t k)
def fp (h : Hp) (ty t k : Nat) (v : Value) : Option Hp := match ty, v with
  | 0, .int x => some (h.si t k x)
  | 1, .int x => if x = 0 ∨ x = 1 then some (h.si t k x) else none
  | 2, .long x => some (h.sj t k x)
  | 3, .ref q => some (h.sp t k (some q))
  | 3, .null => some (h.sp t k none)
  | _, _ => none
/-- a field that is read, written -/
def ngf (cn pc idx : Nat) (ls : Lc) (st : List Value) (h : Hp) : Nx := match st with
  | .ref t :: r => match lk (ftab cn) idx with
    | some (ci, k, _) => if h.K t = 16 + ci then gt (pc + 3) ls (fv h (fty ci k) t k :: r) h else none
    | none => match lk (xftab cn) idx with
      | some 0 => if 1000000 ≤ t ∧ t < 1000039 then gt (pc + 3) ls (.ref (t + 1000000) :: r) h else none
      | some _ => if 1000000 ≤ t ∧ t < 1000039 then gt (pc + 3) ls (.int 0 :: r) h else none
      | none => none
  | _ => none
def npf (cn : Nat) (ini : Bool) (pc idx : Nat) (ls : Lc) (st : List Value) (h : Hp) : Nx := match st with
  | v :: .ref t :: r => match lk (ftab cn) idx with
    | some (ci, k, w) => if h.K t = 16 + ci ∧ (w = 0 ∨ (w = 1 ∧ ini = true)) then
        match fp h (fty ci k) t k v with
        | some h' => gt (pc + 3) ls r h'
        | none => none
      else none
    | none => none
  | _ => none
def inb (i : Int32) (n : Nat) : Prop := vp_in i n
/-- arrays: the element of kind ty (0 int, 1 byte or boolean, 3 long, 4 reference) -/
def nal (pc : Nat) (ls : Lc) (st : List Value) (h : Hp) (ty : Nat) : Nx := match st with
  | .int i :: .ref t :: r =>
    if ¬ (i < 0 ∨ h.L t ≤ i.toNatClampNeg) ∧ ((ty = 0 ∧ h.K t = 0) ∨ (ty = 1 ∧ (h.K t = 1 ∨ h.K t = 2))) then gt (pc + 1) ls (.int (h.I t i.toNatClampNeg) :: r) h
    else if ¬ (i < 0 ∨ h.L t ≤ i.toNatClampNeg) ∧ ty = 3 ∧ h.K t = 3 then gt (pc + 1) ls (.long (h.J t i.toNatClampNeg) :: r) h
    else if ¬ (i < 0 ∨ h.L t ≤ i.toNatClampNeg) ∧ ty = 4 ∧ 4 ≤ h.K t ∧ h.K t ≤ 8 then gt (pc + 1) ls (va_rf (h.P t i.toNatClampNeg) :: r) h
    else if ty = 1 ∧ 2000000 ≤ t ∧ t < 2000039 ∧ ¬ (i < 0 ∨ (sbT.getD (t - 2000000) []).length ≤ i.toNatClampNeg) then gt (pc + 1) ls (.int ((sbT.getD (t - 2000000) []).getD i.toNatClampNeg 0) :: r) h
    else none
  | _ => none
def aok (h : Hp) (kt q : Nat) : Prop := (kt = 4 ∧ h.K q = 17) ∨ (kt = 5 ∧ 1000000 ≤ q ∧ q < 1000039) ∨ (kt = 6 ∧ h.K q = 21) ∨ (kt = 7 ∧ h.K q = 22) ∨ (kt = 8 ∧ h.K q = 29)
def nas (pc : Nat) (ls : Lc) (st : List Value) (h : Hp) (ty : Nat) : Nx := match st with
  | .int x :: .int i :: .ref t :: r =>
    if ¬ (i < 0 ∨ h.L t ≤ i.toNatClampNeg) ∧ ty = 0 ∧ h.K t = 0 ∧ 0 < t then gt (pc + 1) ls r (h.si t i.toNatClampNeg x)
    else if ¬ (i < 0 ∨ h.L t ≤ i.toNatClampNeg) ∧ ty = 1 ∧ h.K t = 1 then gt (pc + 1) ls r (h.si t i.toNatClampNeg x.toInt8.toInt32)
    else if ¬ (i < 0 ∨ h.L t ≤ i.toNatClampNeg) ∧ ty = 1 ∧ h.K t = 2 then gt (pc + 1) ls r (h.si t i.toNatClampNeg (x &&& 1))
    else none
  | .long x :: .int i :: .ref t :: r =>
    if ¬ (i < 0 ∨ h.L t ≤ i.toNatClampNeg) ∧ ty = 3 ∧ h.K t = 3 then gt (pc + 1) ls r (h.sj t i.toNatClampNeg x) else none
  | .ref q :: .int i :: .ref t :: r =>
    if ¬ (i < 0 ∨ h.L t ≤ i.toNatClampNeg) ∧ ty = 4 ∧ ((h.K t = 4 ∧ h.K q = 17) ∨ (h.K t = 5 ∧ 1000000 ≤ q ∧ q < 1000039) ∨ (h.K t = 6 ∧ h.K q = 21) ∨ (h.K t = 7 ∧ h.K q = 22) ∨ (h.K t = 8 ∧ h.K q = 29)) then gt (pc + 1) ls r (h.sp t i.toNatClampNeg (some q)) else none
  | _ => none
def nlen (pc : Nat) (ls : Lc) (st : List Value) (h : Hp) : Nx := match st with
  | .ref t :: r => if h.K t ≤ 8 then gt (pc + 1) ls (.int (Int32.ofNat (h.L t)) :: r) h
    else if 2000000 ≤ t ∧ t < 2000039 then gt (pc + 1) ls (.int (Int32.ofNat (sbT.getD (t - 2000000) []).length) :: r) h else none
  | _ => none
def nnew (pc n : Nat) (ls : Lc) (r : List Value) (h : Hp) (kd ln sl : Nat) : Nx := if h.N < 900000 then gt (pc + n) ls (.ref h.N :: r) (h.nw kd ln sl) else none
def akd (a : ArrayType) : Nat := match a with
  | .int => 0
  | .byte => 1
  | .boolean => 2
  | .long => 3
  | _ => 999
def nna (pc : Nat) (ls : Lc) (st : List Value) (h : Hp) (a : ArrayType) : Nx := match st with
  | .int n :: r => if 0 ≤ n ∧ n.toNatClampNeg ≤ 100000 ∧ akd a ≤ 3 then nnew pc 2 ls r h (akd a) n.toNatClampNeg n.toNatClampNeg else none
  | _ => none
def naa (cn pc idx : Nat) (ls : Lc) (st : List Value) (h : Hp) : Nx := match st with
  | .int n :: r => match lk (atab cn) idx with
    | some kd => if 0 ≤ n ∧ n.toNatClampNeg ≤ 100000 then nnew pc 3 ls r h kd n.toNatClampNeg n.toNatClampNeg else none
    | none => none
  | _ => none
/-- what a throw does: the handler that covers the place (the thrown thing is laid into a local that is not read), or out -/
def nth (M : MR) (pc : Nat) (ls : Lc) (q : Nat) (h : Hp) : Nx := match M.hh with
  | [] => some (.inr (.inr q, h))
  | [(a, b, hp, ct)] => if a ≤ pc ∧ pc < b ∧ M.cn = 0 ∧ ct = 33 then
      match decode M.code hp with
      | .ok (.astore_n k, 1) => if (k : Nat) < M.mx then gt (hp + 1) ((lclr ls k).set k none) [] h else none
      | _ => none
    else none
  | _ => none
def csum (st : List Value) : Nat := (st.map fun v => v.category).sum
/-- behind a call -/
def nbk (M : MR) (pc : Nat) (ls : Lc) (rest : List Value) (o : Option (Rs × Hp)) : Nx := match o with
  | none => none
  | some (.inl v, h) => gt (pc + 3) ls (v.toList ++ rest) h
  | some (.inr q, h) => nth M pc ls q h
def cpo (h : Hp) (s d : Nat) (sp dp n : Int32) : Prop := 0 ≤ sp ∧ 0 ≤ dp ∧ 0 ≤ n ∧ sp.toNatClampNeg + n.toNatClampNeg ≤ h.L s ∧ dp.toNatClampNeg + n.toNatClampNeg ≤ h.L d ∧ 0 < s ∧ 0 < d ∧ ((h.K s = 0 ∧ h.K d = 0) ∨ (h.K s = 2 ∧ h.K d = 2 ∧ ∀ i, i < n.toNatClampNeg → (h.I s (sp.toNatClampNeg + i) = 0 ∨ h.I s (sp.toNatClampNeg + i) = 1)))
noncomputable def ncp (pc : Nat) (ls : Lc) (st : List Value) (h : Hp) : Nx := match st with
  | .int n :: .int dp :: .ref d :: .int sp :: .ref s :: r =>
    @ite _ (cpo h s d sp dp n ∧ csum r ≤ 8) (Classical.propDecidable _) (gt (pc + 3) ls r (h.sr d (va_cpy (h.I s) (h.I d) sp.toNatClampNeg dp.toNatClampNeg n.toNatClampNeg))) none
  | _ => none
noncomputable def nvS (C : MR → List Value → Hp → Option (Rs × Hp)) (M : MR) (pc : Nat) (ls : Lc) (st : List Value) (h : Hp) (n : Nat) (l : List (Nat × MR)) : Nx := match l with
  | (_, y) :: _ => if csum (st.drop n) ≤ 8 then nbk M pc ls (st.drop n) (C y (st.take n).reverse h) else none
  | [] => none
noncomputable def nvI (C : MR → List Value → Hp → Option (Rs × Hp)) (M : MR) (pc : Nat) (ls : Lc) (st : List Value) (h : Hp) (n : Nat) (l : List (Nat × MR)) : Nx := match l, st.drop n with
  | (_, y) :: _, .ref t :: r => if csum r ≤ 8 ∧ t < 3000000 then nbk M pc ls r (C y (.ref t :: (st.take n).reverse) h) else none
  | _, _ => none
noncomputable def nvV (C : MR → List Value → Hp → Option (Rs × Hp)) (M : MR) (pc : Nat) (ls : Lc) (st : List Value) (h : Hp) (n : Nat) (l : List (Nat × MR)) : Nx := match st.drop n with
  | .ref t :: r => match lk l (h.K t - 16) with
    | some y => if 16 ≤ h.K t ∧ csum r ≤ 8 then nbk M pc ls r (C y (.ref t :: (st.take n).reverse) h) else none
    | none => none
  | _ => none
def nvO (pc : Nat) (ls : Lc) (st : List Value) (h : Hp) (n : Nat) : Nx := match st.drop n with
  | .ref t :: r => if csum r ≤ 8 ∧ t < 3000000 ∧ n = 0 then gt (pc + 3) ls r h else none
  | _ => none
noncomputable def nvT (C : MR → List Value → Hp → Option (Rs × Hp)) (M : MR) (pc : Nat) (ls : Lc) (st : List Value) (h : Hp) (n : Nat) (l : List (Nat × MR)) : Nx := match l, st.drop n with
  | (_, y) :: _, .ref t :: r => if csum r ≤ 8 ∧ 1000000 ≤ t ∧ t < 1000039 then nbk M pc ls r (C y (.ref t :: (st.take n).reverse) h) else none
  | _, _ => none
def nmx (pc : Nat) (ls : Lc) (st : List Value) (h : Hp) : Nx := match st with
  | .int y :: .int x :: r => if csum r ≤ 8 then gt (pc + 3) ls (.int (if x < y then y else x) :: r) h else none
  | _ => none
noncomputable def niv (C : MR → List Value → Hp → Option (Rs × Hp)) (M : MR) (u pc idx : Nat) (ls : Lc) (st : List Value) (h : Hp) : Nx :=
  match lk (mtab M.cn) idx with
  | none => none
  | some (kd, n, l) =>
    if n ≤ st.length then
      if u = 0 then (if kd = 0 then nvS C M pc ls st h n l else if kd = 4 then ncp pc ls st h else if kd = 6 then nmx pc ls st h else none)
      else if u = 1 then (if kd = 1 then nvI C M pc ls st h n l else if kd = 3 then nvO pc ls st h n else none)
      else (if kd = 2 then nvV C M pc ls st h n l else if kd = 5 then nvT C M pc ls st h n l else none)
    else none
def rok (ty : FieldType) (x : Int32) : Prop := match ty with
  | .int => True
  | .boolean => x = 0 ∨ x = 1
  | .byte => x.toInt8.toInt32 = x
  | .char => x.toUInt32.toUInt16.toUInt32.toInt32 = x
  | _ => False
noncomputable def nrt (M : MR) (st : List Value) (h : Hp) (ty : Nat) : Nx := match st, M.ret with
  | [.int x], some t => @ite _ (ty = 0 ∧ rok t x) (Classical.propDecidable _) (rt (some (.int x)) h) none
  | [.long x], some .long => if ty = 2 then rt (some (.long x)) h else none
  | [.ref x], some (.object _) => if ty = 3 then rt (some (.ref x)) h else none
  | [.null], some (.object _) => if ty = 3 then rt (some .null) h else none
  | [], none => if ty = 4 then rt none h else none
  | _, _ => none
noncomputable def nsw (pc : Nat) (ls : Lc) (st : List Value) (h : Hp) (i : Instr) : Nx := match i, st with
  | .tableswitch d lo hi offs, .int x :: r =>
    if x.toInt < lo ∨ hi < x.toInt then (if (pc : Int) + d = (jmp pc d : Int) then gt (jmp pc d) ls r h else none)
    else match offs[(x.toInt - lo).toNat]? with
      | some o => if (pc : Int) + o = (jmp pc o : Int) then gt (jmp pc o) ls r h else none
      | none => none
  | .lookupswitch d ps, .int x :: r =>
    if (ps.toList.zip (ps.toList.drop 1)).all (fun (a, next) => a.1 < next.1) = true ∧ (pc : Int) + Op.lookupswitch.offset ps.toList d x.toInt = (jmp pc (Op.lookupswitch.offset ps.toList d x.toInt) : Int) then gt (jmp pc (Op.lookupswitch.offset ps.toList d x.toInt)) ls r h else none
  | _, _ => none
/-- a jump on a condition -/
noncomputable def njc (pc : Nat) (ls : Lc) (r : List Value) (h : Hp) (c : Prop) (o : Int) : Nx :=
  if (pc : Int) + o = (jmp pc o : Int) then @ite _ c (Classical.propDecidable _) (gt (jmp pc o) ls r h) (gt (pc + 3) ls r h) else none
noncomputable def nxi (C : MR → List Value → Hp → Option (Rs × Hp)) (M : MR) (pc : Nat) (i : Instr) (ls : Lc) (st : List Value) (h : Hp) : Nx := match i with
  | .iload k => nld pc 2 ls st h k 0
  | .iload_n k => nld pc 1 ls st h k 0
  | .lload k => nld pc 2 ls st h k 2
  | .lload_n k => nld pc 1 ls st h k 2
  | .aload k => nld pc 2 ls st h k 3
  | .aload_n k => nld pc 1 ls st h k 3
  | .istore k => nst pc 2 M.mx ls st h k 0
  | .istore_n k => nst pc 1 M.mx ls st h k 0
  | .lstore k => nst pc 2 M.mx ls st h k 2
  | .lstore_n k => nst pc 1 M.mx ls st h k 2
  | .astore k => nst pc 2 M.mx ls st h k 3
  | .astore_n k => nst pc 1 M.mx ls st h k 3
  | .iinc k n => match lget ls k with
    | some (.int x) => if k < M.mx then gt (pc + 3) (lset ls k (.int (x + Int32.ofInt n))) st h else none
    | _ => none
  | .goto o => if (pc : Int) + o = (jmp pc o : Int) then gt (jmp pc o) ls st h else none
  | .ifCond c o => match st with
    | .int x :: r => njc pc ls r h (icv c x 0) o
    | _ => none
  | .if_icmp c o => match st with
    | .int y :: .int x :: r => njc pc ls r h (icv c x y) o
    | _ => none
  | .ifnull o => match st with
    | .null :: r => if (pc : Int) + o = (jmp pc o : Int) then gt (jmp pc o) ls r h else none
    | .ref t :: r => if t < 3000000 then gt (pc + 3) ls r h else none
    | _ => none
  | .ifnonnull o => match st with
    | .ref t :: r => if t < 3000000 ∧ (pc : Int) + o = (jmp pc o : Int) then gt (jmp pc o) ls r h else none
    | .null :: r => gt (pc + 3) ls r h
    | _ => none
  | .tableswitch d lo hi offs => nsw pc ls st h (.tableswitch d lo hi offs)
  | .lookupswitch d ps => nsw pc ls st h (.lookupswitch d ps)
  | .ldc k => match lk (kitab M.cn) k with
    | some v => gt (pc + 2) ls (.int v :: st) h
    | none => match lk (kstab M.cn) k with
      | some s => gt (pc + 2) ls (.ref (1000000 + s) :: st) h
      | none => none
  | .ldc_w k => match lk (kitab M.cn) k with
    | some v => gt (pc + 3) ls (.int v :: st) h
    | none => match lk (kstab M.cn) k with
      | some s => gt (pc + 3) ls (.ref (1000000 + s) :: st) h
      | none => none
  | .ldc2_w k => match lk (kltab M.cn) k with
    | some v => gt (pc + 3) ls (.long v :: st) h
    | none => none
  | .getstatic k => match lk (xstab M.cn) k with
    | some v => gt (pc + 3) ls (v :: st) h
    | none => none
  | .getfield k => ngf M.cn pc k ls st h
  | .putfield k => npf M.cn (decide (M.y.name = "<init>")) pc k ls st h
  | .iaload => nal pc ls st h 0
  | .baload => nal pc ls st h 1
  | .laload => nal pc ls st h 3
  | .aaload => nal pc ls st h 4
  | .iastore => nas pc ls st h 0
  | .bastore => nas pc ls st h 1
  | .lastore => nas pc ls st h 3
  | .aastore => nas pc ls st h 4
  | .arraylength => nlen pc ls st h
  | .newarray a => nna pc ls st h a
  | .anewarray k => naa M.cn pc k ls st h
  | .new k => match lk (ctab M.cn) k with
    | some ci => nnew pc 3 ls st h (16 + ci) (fno ci) (fno ci)
    | none => none
  | .invokestatic k => niv C M 0 pc k ls st h
  | .invokespecial k => niv C M 1 pc k ls st h
  | .invokevirtual k => niv C M 2 pc k ls st h
  | .ireturn => nrt M st h 0
  | .lreturn => nrt M st h 2
  | .areturn => nrt M st h 3
  | .return_ => nrt M st h 4
  | .athrow => match st with
    | .ref q :: _ => if h.K q = 18 then nth M pc ls q h else none
    | _ => none
  | _ => match pst i st with
    | some st' => gt (pc + iln i) ls st' h
    | none => none
def isw (i : Instr) : Bool := match i with
  | .tableswitch _ _ _ _ => true
  | .lookupswitch _ _ => true
  | _ => false
noncomputable def nxt (C : MR → List Value → Hp → Option (Rs × Hp)) (M : MR) (pc : Nat) (ls : Lc) (st : List Value) (h : Hp) : Nx :=
  match decode M.code pc with
  | .ok (i, n) => if isw i = true ∨ n = iln i then nxi C M pc i ls st h else none
  | .error _ => none
/-- runs -/
noncomputable def runN (C : MR → List Value → Hp → Option (Rs × Hp)) (M : MR) : Nat → Nat → Lc → List Value → Hp → Option (Rs × Hp)
  | 0, _, _, _, _ => none
  | n + 1, pc, ls, st, h => match nxt C M pc ls st h with
    | none => none
    | some (.inl (pc', ls', st', h')) => runN C M n pc' ls' st' h'
    | some (.inr r) => some r
noncomputable def lim {α : Type} (f : Nat → Option α) : Option α := @dite _ (∃ (n : Nat) (a : α), f n = some a) (Classical.propDecidable _) (fun hx => some (Classical.choose (Classical.choose_spec hx))) (fun _ => none)
theorem lim_some {α : Type} {f : Nat → Option α} (hm : ∀ n a, f n = some a → f (n + 1) = some a) {n : Nat} {a : α} (h : f n = some a) : lim f = some a := by
  have hmm : ∀ k n a, f n = some a → f (n + k) = some a := by
    intro k
    induction k with
    | zero => intro n a h; exact h
    | succ k ih => intro n a h; exact hm _ _ (ih n a h)
  have hx : ∃ (n : Nat) (a : α), f n = some a := ⟨n, a, h⟩
  unfold lim
  rw [dif_pos hx]
  have h2 := Classical.choose_spec (Classical.choose_spec hx)
  have h3 := hmm n _ _ h2
  have h4 := hmm (Classical.choose hx) _ _ h
  rw [Nat.add_comm] at h4
  rw [h3] at h4
  exact h4
theorem lim_get {α : Type} {f : Nat → Option α} {a : α} (h : lim f = some a) : ∃ n, f n = some a := by
  unfold lim at h
  by_cases hx : ∃ (n : Nat) (a : α), f n = some a
  · rw [dif_pos hx] at h
    exact ⟨Classical.choose hx, by rw [← h]; exact Classical.choose_spec (Classical.choose_spec hx)⟩
  · rw [dif_neg hx] at h
    cases h
noncomputable def ev (C : MR → List Value → Hp → Option (Rs × Hp)) (M : MR) (pc : Nat) (ls : Lc) (st : List Value) (h : Hp) : Option (Rs × Hp) := lim (fun n => runN C M n pc ls st h)
theorem runN_mono {C : MR → List Value → Hp → Option (Rs × Hp)} {M : MR} : ∀ (n pc : Nat) (ls : Lc) (st : List Value) (h : Hp) (a : Rs × Hp), runN C M n pc ls st h = some a → runN C M (n + 1) pc ls st h = some a := by
  intro n
  induction n with
  | zero => intro pc ls st h a e; simp [runN] at e
  | succ n ih =>
    intro pc ls st h a e
    rw [runN] at e ⊢
    cases hn : nxt C M pc ls st h with
    | none => rw [hn] at e; simp at e
    | some x =>
      rw [hn] at e
      cases x with
      | inl q => obtain ⟨pc', ls', st', h'⟩ := q; exact ih _ _ _ _ _ e
      | inr r => exact e
theorem ev_of {C : MR → List Value → Hp → Option (Rs × Hp)} {M : MR} {n pc : Nat} {ls : Lc} {st : List Value} {h : Hp} {a : Rs × Hp} (e : runN C M n pc ls st h = some a) : ev C M pc ls st h = some a := lim_some (f := fun n => runN C M n pc ls st h) (fun n a h1 => runN_mono n _ _ _ _ a h1) e
theorem ev_get {C : MR → List Value → Hp → Option (Rs × Hp)} {M : MR} {pc : Nat} {ls : Lc} {st : List Value} {h : Hp} {a : Rs × Hp} (e : ev C M pc ls st h = some a) : ∃ n, runN C M n pc ls st h = some a := lim_get e
/-- one instruction of a run -/
theorem ev_go {C : MR → List Value → Hp → Option (Rs × Hp)} {M : MR} {pc pc' : Nat} {ls ls' : Lc} {st st' : List Value} {h h' : Hp} (e : nxt C M pc ls st h = gt pc' ls' st' h') : ev C M pc ls st h = ev C M pc' ls' st' h' := by
  have key : ∀ a, ev C M pc ls st h = some a ↔ ev C M pc' ls' st' h' = some a := by
    intro a
    constructor
    · intro h1
      obtain ⟨n, h2⟩ := ev_get h1
      cases n with
      | zero => simp [runN] at h2
      | succ n =>
        rw [runN, e] at h2
        exact ev_of h2
    · intro h1
      obtain ⟨n, h2⟩ := ev_get h1
      exact ev_of (n := n + 1) (by rw [runN, e]; exact h2)
  cases h1 : ev C M pc' ls' st' h' with
  | some a => exact (key a).mpr h1
  | none =>
    cases h2 : ev C M pc ls st h with
    | none => rfl
    | some a => rw [(key a).mp h2] at h1; cases h1
theorem ev_rt {C : MR → List Value → Hp → Option (Rs × Hp)} {M : MR} {pc : Nat} {ls : Lc} {st : List Value} {h : Hp} {r : Rs × Hp} (e : nxt C M pc ls st h = some (.inr r)) : ev C M pc ls st h = some r := ev_of (n := 1) (by rw [runN, e])
theorem ev_no {C : MR → List Value → Hp → Option (Rs × Hp)} {M : MR} {pc : Nat} {ls : Lc} {st : List Value} {h : Hp} (e : nxt C M pc ls st h = none) : ev C M pc ls st h = none := by
  cases h2 : ev C M pc ls st h with
  | none => rfl
  | some a =>
    obtain ⟨n, h3⟩ := ev_get h2
    cases n with
    | zero => simp [runN] at h3
    | succ n => rw [runN, e] at h3; cases h3
/-- the locals at a method's start -/
def entL : List Value → Lc
  | [] => []
  | v :: vs => if v.category = 2 then some v :: none :: entL vs else some v :: entL vs
def ent (as : List Value) (n : Nat) : Lc := entL as ++ List.replicate (n - (entL as).length) none
/-- a call, with d calls left below it -/
noncomputable def evC : Nat → MR → List Value → Hp → Option (Rs × Hp)
  | 0 => fun _ _ _ => none
  | d + 1 => fun M as h => if (entL as).length ≤ M.mx then ev (evC d) M 0 (ent as M.mx) [] h else none
