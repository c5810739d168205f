/-! ===== what holds around a method; what one write, one new cell does to the heap ===== -/
set_option maxRecDepth 100000
def EX (B : Bs) (U : State) (H : Heap) : Prop :=
  va_X B.scr B.L B.xs U H ∧ B.scr ≤ B.base ∧
  (∀ i, i < 39 → va_O "java/lang/String" (B.sA i) (AA B) U H ∧ va_OF "java/lang/String" "coder" "B" (.int 0) (B.sA i) (AA B) U H ∧ va_OF "java/lang/String" "value" "[B" (.ref (B.sV i)) (B.sA i) (AA B) U H ∧ va_T .byte (B.sV i) (sbT.getD i []).length (fun j => .int ((sbT.getD i []).getD j 0)) (AA B) U H ∧ vk_R (sown i) (sidx i) (stxt i) (B.sA i) U) ∧
  (∀ x ∈ stL, va_Z x.1 x.2.1 x.2.2.1 (cv B x.2.2.2) (AA B) U H)
theorem EX.kept {B : Bs} {U : State} {H H1 : Heap} (h : EX B U H) (hq : ∀ a : Nat, a < H.size → ¬ AA B a → H1[a]? = H[a]?) : EX B U H1 := by
  obtain ⟨h1, h2, h3, h4⟩ := h
  refine ⟨h1.kept (hq _ ?_ ?_), h2, fun i hi => ?_, fun x hx => (h4 x hx).kept hq⟩
  · obtain ⟨scr, e, -⟩ := h1
    exact (Array.getElem?_eq_some_iff.mp e).1
  · exact fun z => absurd (show B.base < B.scr from z) (Nat.not_lt.mpr h2)
  · obtain ⟨a1, a2, a3, a4, a5⟩ := h3 i hi
    exact ⟨a1.kept hq, a2.kept hq, a3.kept hq, a4.kept hq, a5⟩
theorem EX.warm {B : Bs} {s U : State} {H : Heap} (h : EX B s H) (hW : s.WarmedH U.vm) : EX B U H := by
  obtain ⟨h1, h2, h3, h4⟩ := h
  have hv := hW.alike
  refine ⟨h1.moved hv, h2, fun i hi => ?_, fun x hx => (h4 x hx).moved hv⟩
  obtain ⟨a1, a2, a3, a4, a5⟩ := h3 i hi
  exact ⟨a1.moved hv, a2.moved hv, a3.moved hv, a4.moved hv, a5.warm hW⟩
theorem EX.same {B : Bs} {s U : State} {H : Heap} (h : EX B s H) (hv : U.vm = s.vm) : EX B U H := by
  obtain ⟨h1, h2, h3, h4⟩ := h
  have hv2 : s.vm.Alike U.vm := by rw [hv]; exact Vm.Alike.refl _
  refine ⟨h1.moved hv2, h2, fun i hi => ?_, fun x hx => (h4 x hx).moved hv2⟩
  obtain ⟨a1, a2, a3, a4, a5⟩ := h3 i hi
  exact ⟨a1.moved hv2, a2.moved hv2, a3.moved hv2, a4.moved hv2, a5.same hv⟩
theorem NW.warm {s U : State} (h : NW s) (hW : s.WarmedH U.vm) : NW U := by
  obtain ⟨h1, h2, h3, h4, h5, h6⟩ := h
  exact ⟨fun x hx => (h1 x hx).warmF hW, fun x hx => (h2 x hx).warmM hW, fun C hC => (h3 C hC).moved hW.alike, h4.warmC hW, h5.warmD hW, h6.warmD hW⟩
theorem NW.same {s U : State} (h : NW s) (hv : s.vm = U.vm) : NW U := by
  obtain ⟨h1, h2, h3, h4, h5, h6⟩ := h
  have hv2 : s.vm.Alike U.vm := by rw [hv]; exact Vm.Alike.refl _
  exact ⟨fun x hx => (h1 x hx).same rfl hv, fun x hx => (h2 x hx).same rfl hv, fun C hC => (h3 C hC).moved hv2, h4.same rfl hv, h5.same rfl hv, h6.same rfl hv⟩
/-- what holds of a state at a method's start -/
def SB (B : Bs) (h : Hp) (U : State) : Prop := KD B U ∧ EX B U U.heap ∧ NW U ∧ Rep B h U.heap
theorem SB.calling {B : Bs} {h : Hp} {U : State} (H : SB B h U) (g : JFrame) (mk : MethodId) (a : Array Value) : SB B h (U.calling g mk a) := by
  obtain ⟨h1, h2, h3, h4⟩ := H
  exact ⟨va_K.moved (u := U) (U := U.calling g mk a) (Vm.Alike.refl U.vm) h1, EX.same (s := U) (U := U.calling g mk a) h2 rfl, NW.same (s := U) (U := U.calling g mk a) h3 rfl, h4⟩
/-- tokens of the heap -/
theorem Rep.lt {B : Bs} {h : Hp} {H : Heap} (r : Rep B h H) {t : Nat} (hk : h.K t ≠ 999) : t < h.N := by
  obtain ⟨-, -, -, -, r5, -⟩ := r
  rcases Nat.lt_or_ge t h.N with q | q
  · exact q
  · exact absurd (r5 t q) hk
theorem Rep.pos {B : Bs} {h : Hp} {H : Heap} (r : Rep B h H) {t : Nat} (hk : h.K t ≠ 0) : 1 ≤ t := by
  obtain ⟨-, -, -, -, -, r6, -⟩ := r
  rcases Nat.eq_zero_or_pos t with q | q
  · rw [q] at hk; exact absurd r6 hk
  · exact q
theorem rp_ra {B : Bs} {h : Hp} {H : Heap} (r : Rep B h H) {t : Nat} (h1 : 1 ≤ t) (h2 : t < h.N) : ra B t = B.base + t := by
  obtain ⟨-, -, r3, -⟩ := r
  rw [ra, if_neg (by omega), if_pos (by omega)]
theorem rp_small {B : Bs} {h : Hp} {H : Heap} (r : Rep B h H) {t : Nat} (hk : h.K t ≠ 999) : t < 900000 := Nat.lt_of_lt_of_le (r.lt hk) r.2.2.1
theorem rp_at {B : Bs} {h : Hp} {H : Heap} (r : Rep B h H) {t : Nat} (h0 : h.K t ≠ 999) (h1 : 1 ≤ t) : va_at B.D clX (ra B t, cellOf B h t) H := by
  rw [rp_ra r h1 (r.lt h0)]
  exact r.2.2.2.1 t h1 (r.lt h0)
theorem rp_obj {B : Bs} {h : Hp} {H : Heap} (r : Rep B h H) {t ci : Nat} (hk : h.K t = 16 + ci) (hc : ci < 14) : va_P B.D clX [(ra B t, .inr (ci, objOf B h t))] H := by
  have e := rp_at r (t := t) (by omega) (r.pos (by omega))
  have e2 : cellOf B h t = .inr (ci, objOf B h t) := by
    rw [cellOf, if_neg (by omega), hk, Nat.add_sub_cancel_left]
  rw [e2] at e
  intro k q hq
  cases k with
  | zero => cases hq; exact e
  | succ k => simp at hq
theorem rp_arr {B : Bs} {h : Hp} {H : Heap} (r : Rep B h H) {t kd : Nat} (hk : h.K t = kd) (hc : kd ≤ 8) (h1 : 1 ≤ t) : va_P B.D clX [(ra B t, .inl (B.dA kd, arrOf B h t))] H := by
  have e := rp_at r (t := t) (by omega) h1
  have e2 : cellOf B h t = .inl (B.dA kd, arrOf B h t) := by
    rw [cellOf, if_pos (by omega), hk]
  rw [e2] at e
  intro k q hq
  cases k with
  | zero => cases hq; exact e
  | succ k => simp at hq
theorem rp_at0 {D : va_G} {cl : List vw_C} {a : Nat} {x : va_E} {H : Heap} (h : va_P D cl [(a, x)] H) : va_at D cl (a, x) H := h 0 _ rfl
theorem objOf_get {B : Bs} {h : Hp} {t ci k : Nat} (hk : h.K t = 16 + ci) (hf : k < fno ci) : (objOf B h t)[k]? = some (cv B (fv h (fty ci k) t k)) := by
  rw [objOf, hk, Nat.add_sub_cancel_left, List.getElem?_map, List.getElem?_range hf]
  rfl
/-- one cell is written -/
theorem rp_upd {B : Bs} {h h' : Hp} {H H1 : Heap} (r : Rep B h H) {t : Nat} (h0 : h.K t ≠ 999) (h1 : 1 ≤ t) (z : H1.size = H.size) (oq : ∀ q : Nat, q ≠ ra B t → H1[q]? = H[q]?) (hN : h'.N = h.N) (hK : h'.K = h.K) (hL : h'.L = h.L)
    (hI : ∀ t', t' ≠ t → h'.I t' = h.I t') (hJ : ∀ t', t' ≠ t → h'.J t' = h.J t') (hP : ∀ t', t' ≠ t → h'.P t' = h.P t') (he : va_at B.D clX (ra B t, cellOf B h' t) H1) : Rep B h' H1 := by
  have ht := r.lt h0
  have hr := rp_ra r h1 ht
  obtain ⟨r1, r2, r3, r4, r5, r6, r7, r8⟩ := r
  refine ⟨by rw [z, hN, r1], by rw [hN]; exact r2, by rw [hN]; exact r3, fun t' a1 a2 => ?_, fun t' a => ?_, by rw [hK]; exact r6, by rw [hL]; exact r7, by rw [hI 0 (by omega)]; exact r8⟩
  · rw [hN] at a2
    by_cases e : t' = t
    · subst e
      rw [← hr]
      exact he
    · have e2 : cellOf B h' t' = cellOf B h t' := by
        have hfv : ∀ ty k, fv h' ty t' k = fv h ty t' k := by
          intro ty k
          unfold fv
          rw [hI t' e, hJ t' e, hP t' e]
        unfold cellOf arrOf objOf
        simp only [hK, hL, hI t' e, hJ t' e, hP t' e, hfv]
      rw [e2]
      exact (r4 t' a1 a2).kept (oq _ (by rw [hr]; omega))
  · rw [hN] at a
    rw [hK]
    exact r5 t' a
/-- a new cell -/
theorem rp_new {B : Bs} {h : Hp} {H H1 : Heap} (r : Rep B h H) {kd ln sl : Nat} (hN : h.N < 900000) (z : H1.size = H.size + 1) (oq : ∀ q : Nat, q < H.size → H1[q]? = H[q]?) (he : va_at B.D clX (ra B h.N, cellOf B (h.nw kd ln sl) h.N) H1) : Rep B (h.nw kd ln sl) H1 := by
  obtain ⟨r1, r2, r3, r4, r5, r6, r7, r8⟩ := r
  have hne : (h.nw kd ln sl).N = h.N + 1 := rfl
  have hK : ∀ t, t ≠ h.N → (h.nw kd ln sl).K t = h.K t := fun t q => if_neg q
  have hL : ∀ t, t ≠ h.N → (h.nw kd ln sl).L t = h.L t := fun t q => if_neg q
  have hI : ∀ t, t ≠ h.N → (h.nw kd ln sl).I t = h.I t := fun t q => if_neg q
  have hJ : ∀ t, t ≠ h.N → (h.nw kd ln sl).J t = h.J t := fun t q => if_neg q
  have hP : ∀ t, t ≠ h.N → (h.nw kd ln sl).P t = h.P t := fun t q => if_neg q
  refine ⟨by rw [z, r1, hne]; omega, by rw [hne]; omega, by rw [hne]; omega, fun t' a1 a2 => ?_, fun t' a => ?_, by rw [hK 0 (by omega)]; exact r6, by rw [hL 0 (by omega)]; exact r7, by rw [hI 0 (by omega)]; exact r8⟩
  · rw [hne] at a2
    by_cases e : t' = h.N
    · subst e
      rw [ra, if_neg (by omega), if_pos (by omega)] at he
      exact he
    · have e2 : cellOf B (h.nw kd ln sl) t' = cellOf B h t' := by
        have hfv : ∀ ty k, fv (h.nw kd ln sl) ty t' k = fv h ty t' k := by
          intro ty k
          unfold fv
          rw [hI t' e, hJ t' e, hP t' e]
        unfold cellOf arrOf objOf
        simp only [hK t' e, hL t' e, hI t' e, hJ t' e, hP t' e, hfv]
      rw [e2]
      exact (r4 t' a1 (by omega)).kept (oq _ (by rw [r1]; show B.base + t' < _; omega))
  · rw [hne] at a
    rw [hK t' (by omega)]
    exact r5 t' (by omega)
/-! locals -/
def LR (B : Bs) (nL : Nat) (ls : Lc) (la : Array Slot) : Prop := la.size = nL ∧ lv_wf la ∧ ∀ i v, lget ls i = some v → la[i]? = some (.val (cv B v))
def lvOf (B : Bs) (ls : Lc) : List (Nat × Value) := (List.range ls.length).filterMap (fun j => (lget ls j).map (fun w => (j, cv B w)))
theorem lget_lt {ls : Lc} {i : Nat} {v : Value} (h : lget ls i = some v) : i < ls.length := by
  unfold lget at h
  rcases Nat.lt_or_ge i ls.length with q | q
  · exact q
  · rw [List.getElem?_eq_none q] at h
    cases h
theorem lvOf_mem {B : Bs} {ls : Lc} {i : Nat} {v : Value} (h : lget ls i = some v) : (i, cv B v) ∈ lvOf B ls := by
  refine List.mem_filterMap.mpr ⟨i, List.mem_range.mpr (lget_lt h), ?_⟩
  rw [h]
  rfl
theorem LR.has {B : Bs} {nL : Nat} {ls : Lc} {la : Array Slot} (h : LR B nL ls la) : lv_has la nL (lvOf B ls) := by
  refine ⟨h.1, h.2.1, fun q hq => ?_⟩
  obtain ⟨j, -, hj⟩ := List.mem_filterMap.mp hq
  cases e : lget ls j with
  | none => rw [e] at hj; cases hj
  | some w => rw [e] at hj; cases hj; exact h.2.2 j w e
theorem lget_set (ls : Lc) (i j : Nat) (x : Option Value) : lget (ls.set i x) j = if i = j ∧ i < ls.length then x else lget ls j := by
  unfold lget
  rw [List.getElem?_set]
  by_cases e : i = j
  · subst e
    by_cases f : i < ls.length
    · simp [f]
    · simp [f]
  · simp [e]
theorem lclr_get {ls : Lc} {i j : Nat} {w : Value} (h : lget (lclr ls i) j = some w) : lget ls j = some w ∧ ¬ (j + 1 = i ∧ w.category = 2) := by
  cases i with
  | zero => exact ⟨h, fun z => by omega⟩
  | succ k =>
    unfold lclr at h
    cases e : lget ls k with
    | none =>
      simp only [e] at h
      refine ⟨h, fun z => ?_⟩
      have : j = k := by omega
      subst this
      rw [e] at h; cases h
    | some u =>
      simp only [e] at h
      by_cases f : u.category = 2
      · rw [if_pos f, lget_set] at h
        by_cases g : k = j ∧ k < ls.length
        · rw [if_pos g] at h; cases h
        · rw [if_neg g] at h
          refine ⟨h, fun z => ?_⟩
          exact g ⟨by omega, lget_lt e⟩
      · rw [if_neg f] at h
        refine ⟨h, fun z => ?_⟩
        have : j = k := by omega
        subst this
        rw [e] at h; cases h
        exact f z.2
theorem lset_get {ls : Lc} {i j : Nat} {v w : Value} (h : lget (lset ls i v) j = some w) : (j = i ∧ w = v) ∨ (j ≠ i ∧ lget ls j = some w ∧ ¬ (j + 1 = i ∧ w.category = 2) ∧ (v.category = 2 → j ≠ i + 1)) := by
  have key : ∀ x : Lc, x = lclr ls i → lget (x.set i (some v)) j = some w → (j = i ∧ w = v) ∨ (j ≠ i ∧ lget ls j = some w ∧ ¬ (j + 1 = i ∧ w.category = 2)) := by
    intro x hx hh
    rw [lget_set] at hh
    by_cases g : i = j ∧ i < x.length
    · rw [if_pos g] at hh
      cases hh
      exact Or.inl ⟨g.1.symm, rfl⟩
    · rw [if_neg g] at hh
      have hl := lget_lt hh
      rw [hx] at hh
      obtain ⟨a1, a2⟩ := lclr_get hh
      exact Or.inr ⟨fun z => g ⟨z.symm, by rw [← z]; exact hl⟩, a1, a2⟩
  unfold lset at h
  by_cases c : v.category = 2
  · rw [if_pos c, lget_set] at h
    by_cases g : i + 1 = j ∧ i + 1 < ((lclr ls i).set i (some v)).length
    · rw [if_pos g] at h; cases h
    · rw [if_neg g] at h
      have hl := lget_lt h
      rcases key _ rfl h with q | q
      · exact Or.inl q
      · exact Or.inr ⟨q.1, q.2.1, q.2.2, fun _ z => g ⟨z.symm, by rw [← z]; exact hl⟩⟩
  · rw [if_neg c] at h
    rcases key _ rfl h with q | q
    · exact Or.inl q
    · exact Or.inr ⟨q.1, q.2.1, q.2.2, fun z => absurd z c⟩
theorem LR.store1 {B : Bs} {nL : Nat} {ls : Lc} {la' : Array Slot} {i : Nat} {v : Value} (hc : v.category = 1) (h' : lv_has la' nL ((i, cv B v) :: (lvOf B ls).filter (fun q => !(q.1 == i) && !(q.1 + 1 == i && q.2.category == 2)))) : LR B nL (lset ls i v) la' := by
  refine ⟨h'.1, h'.2.1, fun j w e => ?_⟩
  rcases lset_get e with ⟨rfl, rfl⟩ | ⟨a1, a2, a3, a4⟩
  · exact h'.2.2 _ List.mem_cons_self
  · refine h'.2.2 (j, cv B w) (List.mem_cons_of_mem _ (List.mem_filter.mpr ⟨lvOf_mem a2, ?_⟩))
    simp only [Bool.and_eq_true, Bool.not_eq_true', beq_eq_false_iff_ne, ne_eq, Bool.and_eq_false_iff]
    refine ⟨a1, ?_⟩
    rcases Nat.lt_or_ge (cv B w).category 2 with q | q
    · exact Or.inr (by omega)
    · rw [cv_cat] at q
      refine Or.inl (fun z => a3 ⟨z, ?_⟩)
      rcases lv_cat w with q2 | q2 <;> omega
theorem LR.store2 {B : Bs} {nL : Nat} {ls : Lc} {la' : Array Slot} {i : Nat} {v : Value} (hc : v.category = 2) (h' : lv_has la' nL ((i, cv B v) :: (lvOf B ls).filter (fun q => !(q.1 == i) && (!(q.1 == i + 1) && !(q.1 + 1 == i && q.2.category == 2))))) : LR B nL (lset ls i v) la' := by
  refine ⟨h'.1, h'.2.1, fun j w e => ?_⟩
  rcases lset_get e with ⟨rfl, rfl⟩ | ⟨a1, a2, a3, a4⟩
  · exact h'.2.2 _ List.mem_cons_self
  · refine h'.2.2 (j, cv B w) (List.mem_cons_of_mem _ (List.mem_filter.mpr ⟨lvOf_mem a2, ?_⟩))
    simp only [Bool.and_eq_true, Bool.not_eq_true', beq_eq_false_iff_ne, ne_eq, Bool.and_eq_false_iff]
    refine ⟨a1, a4 hc, ?_⟩
    rcases Nat.lt_or_ge (cv B w).category 2 with q | q
    · exact Or.inr (by omega)
    · rw [cv_cat] at q
      refine Or.inl (fun z => a3 ⟨z, ?_⟩)
      rcases lv_cat w with q2 | q2 <;> omega
/-- the local k is not known any more -/
theorem LR.store0 {B : Bs} {nL : Nat} {ls : Lc} {la' : Array Slot} {i : Nat} {v : Value} (h' : lv_has la' nL ((i, v) :: (lvOf B ls).filter (fun q => !(q.1 == i) && !(q.1 + 1 == i && q.2.category == 2)))) : LR B nL ((lclr ls i).set i none) la' := by
  refine ⟨h'.1, h'.2.1, fun j w e => ?_⟩
  rw [lget_set] at e
  by_cases g : i = j ∧ i < (lclr ls i).length
  · rw [if_pos g] at e; cases e
  · rw [if_neg g] at e
    have hl := lget_lt e
    obtain ⟨a2, a3⟩ := lclr_get e
    have a1 : j ≠ i := fun z => g ⟨z.symm, by rw [z] at hl; exact hl⟩
    refine h'.2.2 (j, cv B w) (List.mem_cons_of_mem _ (List.mem_filter.mpr ⟨lvOf_mem a2, ?_⟩))
    simp only [Bool.and_eq_true, Bool.not_eq_true', beq_eq_false_iff_ne, ne_eq, Bool.and_eq_false_iff]
    refine ⟨a1, ?_⟩
    rcases Nat.lt_or_ge (cv B w).category 2 with q | q
    · exact Or.inr (by omega)
    · rw [cv_cat] at q
      refine Or.inl (fun z => a3 ⟨z, ?_⟩)
      rcases lv_cat w with q2 | q2 <;> omega
/-! what a run of a method rests on; the goal at a place of it -/
def Cx (B : Bs) (M : MR) (p : Program) (s : State) (m : MethodId) (args : Array Value) (meth : Method) (c : Code) : Prop :=
  p.tables.exec = Jvm.exec ∧ c.code = M.code ∧ meth.sig.returnType = M.ret ∧ meth.locks = false ∧ c.maxLocals = M.mx ∧ s.vm.findClass (cnm M.cn) = some m.cls ∧ (∀ w ∈ lw_all, w.before args s = true) ∧ meth.name = M.y.name ∧ KD B s ∧ EX B s s.heap ∧ NW s ∧ B.base < s.heap.size ∧ c.exceptionTable.toList = M.hh.map (fun e => (⟨e.1, e.2.1, e.2.2.1, e.2.2.2⟩ : ExceptionTableEntry))
def GW (B : Bs) (M : MR) (h0 : Hp) (p : Program) (l : Launch) (e : Env) (R : Room) (s : State) (m : MethodId) (args : Array Value) (below : List Frame) (meth : Method) (c : Code) (Q : State → Prop) (pc : Nat) (ls : Lc) (st : List Value) (h : Hp) : Prop :=
  ∀ (H : Heap) (locs : List Loc) (la : Array Slot), Rep B h H → va_S (AA B) s.heap H locs → LR B M.mx ls la → h0.N ≤ h.N → h0.S ≤ h.S → W p l e R s m args below meth c H locs (h.N - h0.N) (h.S - h0.S) Q (F0 m pc la (st.map (cv B)))
section SN
variable {B : Bs} {M : MR} {h0 : Hp} {p : Program} {l : Launch} {e : Env} {R : Room} {s : State} {m : MethodId} {args : Array Value} {below : List Frame} {meth : Method} {c : Code} {Q : State → Prop}
variable {pc : Nat} {ls : Lc} {st : List Value} {h : Hp}
theorem gt_inj {pc pc' : Nat} {ls ls' : Lc} {st st' : List Value} {h h' : Hp} (e : gt pc ls st h = gt pc' ls' st' h') : pc = pc' ∧ ls = ls' ∧ st = st' ∧ h = h' := by
  simp only [gt, Option.some.injEq, Sum.inl.injEq, Prod.mk.injEq] at e
  exact e
theorem gw_pst {i : Instr} {st' : List Value} (X : Cx B M p s m args meth c) (hd : decode M.code pc = .ok (i, iln i)) (hp : pst i st = some st') (k : GW B M h0 p l e R s m args below meth c Q (pc + iln i) ls st' h) : GW B M h0 p l e R s m args below meth c Q pc ls st h := by
  cases i
  case iconst n =>
    cases hp
    intro H locs la hr hs hl n1 n2
    exact lv_iconst X.1 X.2.1 hd rfl (k H locs la hr hs hl n1 n2)
  case bipush n =>
    cases hp
    intro H locs la hr hs hl n1 n2
    exact lv_bipush X.1 X.2.1 hd rfl (k H locs la hr hs hl n1 n2)
  case sipush n =>
    cases hp
    intro H locs la hr hs hl n1 n2
    exact lv_sipush X.1 X.2.1 hd rfl (k H locs la hr hs hl n1 n2)
  case lconst n =>
    cases hp
    intro H locs la hr hs hl n1 n2
    exact lv_lconst X.1 X.2.1 hd rfl (k H locs la hr hs hl n1 n2)
  case aconst_null =>
    cases hp
    intro H locs la hr hs hl n1 n2
    exact lv_null X.1 X.2.1 hd (k H locs la hr hs hl n1 n2)
  case iadd =>
    simp only [pst] at hp
    split at hp
    · cases hp
      intro H locs la hr hs hl n1 n2
      exact lv_iadd X.1 X.2.1 hd (k H locs la hr hs hl n1 n2)
    · cases hp
  case isub =>
    simp only [pst] at hp
    split at hp
    · cases hp
      intro H locs la hr hs hl n1 n2
      exact lv_isub X.1 X.2.1 hd (k H locs la hr hs hl n1 n2)
    · cases hp
  case imul =>
    simp only [pst] at hp
    split at hp
    · cases hp
      intro H locs la hr hs hl n1 n2
      exact lv_imul X.1 X.2.1 hd (k H locs la hr hs hl n1 n2)
    · cases hp
  case iand =>
    simp only [pst] at hp
    split at hp
    · cases hp
      intro H locs la hr hs hl n1 n2
      exact lv_iand X.1 X.2.1 hd (k H locs la hr hs hl n1 n2)
    · cases hp
  case ior =>
    simp only [pst] at hp
    split at hp
    · cases hp
      intro H locs la hr hs hl n1 n2
      exact lv_ior X.1 X.2.1 hd (k H locs la hr hs hl n1 n2)
    · cases hp
  case ixor =>
    simp only [pst] at hp
    split at hp
    · cases hp
      intro H locs la hr hs hl n1 n2
      exact lv_ixor X.1 X.2.1 hd (k H locs la hr hs hl n1 n2)
    · cases hp
  case ishl =>
    simp only [pst] at hp
    split at hp
    · cases hp
      intro H locs la hr hs hl n1 n2
      exact lv_ishl X.1 X.2.1 hd (k H locs la hr hs hl n1 n2)
    · cases hp
  case ishr =>
    simp only [pst] at hp
    split at hp
    · cases hp
      intro H locs la hr hs hl n1 n2
      exact lv_ishr X.1 X.2.1 hd (k H locs la hr hs hl n1 n2)
    · cases hp
  case ladd =>
    simp only [pst] at hp
    split at hp
    · cases hp
      intro H locs la hr hs hl n1 n2
      exact lv_ladd X.1 X.2.1 hd (k H locs la hr hs hl n1 n2)
    · cases hp
  case lsub =>
    simp only [pst] at hp
    split at hp
    · cases hp
      intro H locs la hr hs hl n1 n2
      exact lv_lsub X.1 X.2.1 hd (k H locs la hr hs hl n1 n2)
    · cases hp
  case lmul =>
    simp only [pst] at hp
    split at hp
    · cases hp
      intro H locs la hr hs hl n1 n2
      exact lv_lmul X.1 X.2.1 hd (k H locs la hr hs hl n1 n2)
    · cases hp
  case land =>
    simp only [pst] at hp
    split at hp
    · cases hp
      intro H locs la hr hs hl n1 n2
      exact lv_land X.1 X.2.1 hd (k H locs la hr hs hl n1 n2)
    · cases hp
  case lor =>
    simp only [pst] at hp
    split at hp
    · cases hp
      intro H locs la hr hs hl n1 n2
      exact lv_lor X.1 X.2.1 hd (k H locs la hr hs hl n1 n2)
    · cases hp
  case lcmp =>
    simp only [pst] at hp
    split at hp
    · cases hp
      intro H locs la hr hs hl n1 n2
      exact W.lcmp X.1 X.2.1 hd (k H locs la hr hs hl n1 n2)
    · cases hp
  case i2l =>
    simp only [pst] at hp
    split at hp
    · cases hp
      intro H locs la hr hs hl n1 n2
      exact lv_i2l X.1 X.2.1 hd rfl (k H locs la hr hs hl n1 n2)
    · cases hp
  case l2i =>
    simp only [pst] at hp
    split at hp
    · cases hp
      intro H locs la hr hs hl n1 n2
      exact lv_l2i X.1 X.2.1 hd rfl (k H locs la hr hs hl n1 n2)
    · cases hp
  case i2b =>
    simp only [pst] at hp
    split at hp
    · cases hp
      intro H locs la hr hs hl n1 n2
      exact lv_i2b X.1 X.2.1 hd rfl (k H locs la hr hs hl n1 n2)
    · cases hp
  case i2c =>
    simp only [pst] at hp
    split at hp
    · cases hp
      intro H locs la hr hs hl n1 n2
      exact lv_i2c X.1 X.2.1 hd rfl (k H locs la hr hs hl n1 n2)
    · cases hp
  case iushr =>
    simp only [pst] at hp
    split at hp
    · cases hp
      intro H locs la hr hs hl n1 n2
      exact lv_iushr X.1 X.2.1 hd rfl (k H locs la hr hs hl n1 n2)
    · cases hp
  case idiv =>
    simp only [pst] at hp
    split at hp
    · split at hp
      · cases hp
      · next hne =>
        cases hp
        intro H locs la hr hs hl n1 n2
        exact lv_idiv X.1 X.2.1 hd hne (k H locs la hr hs hl n1 n2)
    · cases hp
  case irem =>
    simp only [pst] at hp
    split at hp
    · split at hp
      · cases hp
      · next hne =>
        cases hp
        intro H locs la hr hs hl n1 n2
        exact lv_irem X.1 X.2.1 hd hne (k H locs la hr hs hl n1 n2)
    · cases hp
  case ldiv =>
    simp only [pst] at hp
    split at hp
    · split at hp
      · cases hp
      · next hne =>
        cases hp
        intro H locs la hr hs hl n1 n2
        exact lv_ldiv X.1 X.2.1 hd hne (k H locs la hr hs hl n1 n2)
    · cases hp
  case lrem =>
    simp only [pst] at hp
    split at hp
    · split at hp
      · cases hp
      · next hne =>
        cases hp
        intro H locs la hr hs hl n1 n2
        exact lv_lrem X.1 X.2.1 hd hne (k H locs la hr hs hl n1 n2)
    · cases hp
  case dup =>
    simp only [pst] at hp
    split at hp
    · split at hp
      · next hc =>
        cases hp
        intro H locs la hr hs hl n1 n2
        exact lv_dup X.1 X.2.1 hd (by rw [cv_cat]; exact hc) (k H locs la hr hs hl n1 n2)
      · cases hp
    · cases hp
  case pop =>
    simp only [pst] at hp
    split at hp
    · split at hp
      · next hc =>
        cases hp
        intro H locs la hr hs hl n1 n2
        exact lv_pop X.1 X.2.1 hd (by rw [cv_cat]; exact hc) (k H locs la hr hs hl n1 n2)
      · cases hp
    · cases hp
  case dup2 =>
    simp only [pst] at hp
    split at hp
    · split at hp
      · next hc =>
        cases hp
        intro H locs la hr hs hl n1 n2
        exact lv_dup2_11 X.1 X.2.1 hd (by rw [cv_cat]; exact hc.1) (by rw [cv_cat]; exact hc.2) (k H locs la hr hs hl n1 n2)
      · cases hp
    · cases hp
  all_goals (exact absurd hp (by simp [pst]))
end SN
