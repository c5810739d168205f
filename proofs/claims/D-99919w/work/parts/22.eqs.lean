/-! ===== equations of the abstract machine, an instruction each ===== -/
set_option maxRecDepth 100000
def psh (v : Option Value) (r : List Value) : List Value := match v with
  | some w => w :: r
  | none => r
/-- behind a call, in a method without handlers -/
def cb (o : Option (Rs × Hp)) (k : Option Value → Hp → Option (Rs × Hp)) : Option (Rs × Hp) := match o with
  | none => none
  | some (.inl v, h) => k v h
  | some (.inr q, h) => some (.inr q, h)
theorem cb_v {v : Option Value} {h : Hp} {k : Option Value → Hp → Option (Rs × Hp)} : cb (some (.inl v, h)) k = k v h := rfl
theorem cb_x {q : Nat} {h : Hp} {k : Option Value → Hp → Option (Rs × Hp)} : cb (some (.inr q, h)) k = some (.inr q, h) := rfl
theorem psh_s {w : Value} {r : List Value} : psh (some w) r = w :: r := rfl
theorem psh_n {r : List Value} : psh none r = r := rfl
theorem rf_s {t : Nat} : va_rf (some t) = .ref t := rfl
theorem rf_n : va_rf none = .null := rfl
section EQ
variable {C : MR → List Value → Hp → Option (Rs × Hp)} {M : MR} {pc : Nat} {ls : Lc} {st r : List Value} {h : Hp}
theorem nxt_of {i : Instr} {n : Nat} (hd : decode M.code pc = .ok (i, n)) (hl : isw i = true ∨ n = iln i) : nxt C M pc ls st h = nxi C M pc i ls st h := by
  unfold nxt
  rw [hd]
  exact if_pos hl
theorem ev_i {i : Instr} {n pc' : Nat} {ls' : Lc} {st' : List Value} {h' : Hp} (hd : decode M.code pc = .ok (i, n)) (hl : n = iln i) (hx : nxi C M pc i ls st h = gt pc' ls' st' h') : ev C M pc ls st h = ev C M pc' ls' st' h' := ev_go ((nxt_of hd (Or.inr hl)).trans hx)
theorem ev_sw {i : Instr} {n pc' : Nat} {ls' : Lc} {st' : List Value} {h' : Hp} (hd : decode M.code pc = .ok (i, n)) (hl : isw i = true) (hx : nxi C M pc i ls st h = gt pc' ls' st' h') : ev C M pc ls st h = ev C M pc' ls' st' h' := ev_go ((nxt_of hd (Or.inl hl)).trans hx)
theorem ev_r {i : Instr} {n : Nat} {q : Rs × Hp} (hd : decode M.code pc = .ok (i, n)) (hl : n = iln i) (hx : nxi C M pc i ls st h = some (.inr q)) : ev C M pc ls st h = some q := ev_rt ((nxt_of hd (Or.inr hl)).trans hx)
theorem ev_n {i : Instr} {n : Nat} (hd : decode M.code pc = .ok (i, n)) (hl : n = iln i) (hx : nxi C M pc i ls st h = none) : ev C M pc ls st h = none := ev_no ((nxt_of hd (Or.inr hl)).trans hx)
/-- a jump on a condition -/
theorem ev_if {c : Jvm.ClassFile.Cond} {o : Int} {x : Int32} {tg : Nat} {P : Prop} [Decidable P] (hd : decode M.code pc = .ok (.ifCond c o, 3)) (hP : icv c x 0 = P) (ht : jmp pc o = tg) (hj : (pc : Int) + o = (tg : Int)) : ev C M pc ls (.int x :: r) h = if P then ev C M tg ls r h else ev C M (pc + 3) ls r h := by
  subst hP
  subst ht
  by_cases hp : icv c x 0
  · rw [if_pos hp]
    refine ev_i hd rfl ?_
    show njc pc ls r h (icv c x 0) o = _
    rw [njc, if_pos hj, if_pos hp]
  · rw [if_neg hp]
    refine ev_i hd rfl ?_
    show njc pc ls r h (icv c x 0) o = _
    rw [njc, if_pos hj, if_neg hp]
theorem ev_icmp {c : Jvm.ClassFile.Cond} {o : Int} {x y : Int32} {tg : Nat} {P : Prop} [Decidable P] (hd : decode M.code pc = .ok (.if_icmp c o, 3)) (hP : icv c x y = P) (ht : jmp pc o = tg) (hj : (pc : Int) + o = (tg : Int)) : ev C M pc ls (.int y :: .int x :: r) h = if P then ev C M tg ls r h else ev C M (pc + 3) ls r h := by
  subst hP
  subst ht
  by_cases hp : icv c x y
  · rw [if_pos hp]
    refine ev_i hd rfl ?_
    show njc pc ls r h (icv c x y) o = _
    rw [njc, if_pos hj, if_pos hp]
  · rw [if_neg hp]
    refine ev_i hd rfl ?_
    show njc pc ls r h (icv c x y) o = _
    rw [njc, if_pos hj, if_neg hp]
theorem ev_goto {o : Int} {tg : Nat} (hd : decode M.code pc = .ok (.goto o, 3)) (ht : jmp pc o = tg) (hj : (pc : Int) + o = (tg : Int)) : ev C M pc ls st h = ev C M tg ls st h := by
  subst ht
  exact ev_i hd rfl (if_pos hj)
theorem ev_ifnN {o : Int} {tg : Nat} (hd : decode M.code pc = .ok (.ifnull o, 3)) (ht : jmp pc o = tg) (hj : (pc : Int) + o = (tg : Int)) : ev C M pc ls (.null :: r) h = ev C M tg ls r h := by
  subst ht
  exact ev_i hd rfl (if_pos hj)
theorem ev_ifnR {o : Int} {t : Nat} (hd : decode M.code pc = .ok (.ifnull o, 3)) (hs : t < 3000000) : ev C M pc ls (.ref t :: r) h = ev C M (pc + 3) ls r h := ev_i hd rfl (if_pos hs)
theorem ev_ifnnR {o : Int} {t tg : Nat} (hd : decode M.code pc = .ok (.ifnonnull o, 3)) (hs : t < 3000000) (ht : jmp pc o = tg) (hj : (pc : Int) + o = (tg : Int)) : ev C M pc ls (.ref t :: r) h = ev C M tg ls r h := by
  subst ht
  exact ev_i hd rfl (if_pos ⟨hs, hj⟩)
theorem ev_ifnnN {o : Int} (hd : decode M.code pc = .ok (.ifnonnull o, 3)) : ev C M pc ls (.null :: r) h = ev C M (pc + 3) ls r h := ev_i hd rfl rfl
/-- division -/
theorem ev_idiv {x y : Int32} (hd : decode M.code pc = .ok (.idiv, 1)) (hy : ¬ y = 0) : ev C M pc ls (.int y :: .int x :: r) h = ev C M (pc + 1) ls (.int (x / y) :: r) h := ev_i hd rfl (by
  show (match (if y = 0 then none else some (.int (x / y) :: r)) with | some st' => gt (pc + iln .idiv) ls st' h | none => none) = _
  rw [if_neg hy]; rfl)
theorem ev_irem {x y : Int32} (hd : decode M.code pc = .ok (.irem, 1)) (hy : ¬ y = 0) : ev C M pc ls (.int y :: .int x :: r) h = ev C M (pc + 1) ls (.int (x - x / y * y) :: r) h := ev_i hd rfl (by
  show (match (if y = 0 then none else some (.int (x - x / y * y) :: r)) with | some st' => gt (pc + iln .irem) ls st' h | none => none) = _
  rw [if_neg hy]; rfl)
theorem ev_ldiv {x y : Int64} (hd : decode M.code pc = .ok (.ldiv, 1)) (hy : ¬ y = 0) : ev C M pc ls (.long y :: .long x :: r) h = ev C M (pc + 1) ls (.long (x / y) :: r) h := ev_i hd rfl (by
  show (match (if y = 0 then none else some (.long (x / y) :: r)) with | some st' => gt (pc + iln .ldiv) ls st' h | none => none) = _
  rw [if_neg hy]; rfl)
theorem ev_lrem {x y : Int64} (hd : decode M.code pc = .ok (.lrem, 1)) (hy : ¬ y = 0) : ev C M pc ls (.long y :: .long x :: r) h = ev C M (pc + 1) ls (.long (x - x / y * y) :: r) h := ev_i hd rfl (by
  show (match (if y = 0 then none else some (.long (x - x / y * y) :: r)) with | some st' => gt (pc + iln .lrem) ls st' h | none => none) = _
  rw [if_neg hy]; rfl)
/-- fields -/
theorem ev_getf {k ci f w t ty : Nat} (hd : decode M.code pc = .ok (.getfield k, 3)) (hl : lk (ftab M.cn) k = some (ci, f, w)) (hty : fty ci f = ty) (hk : h.K t = 16 + ci) : ev C M pc ls (.ref t :: r) h = ev C M (pc + 3) ls (fv h ty t f :: r) h := by
  subst hty
  refine ev_i hd rfl ?_
  show ngf M.cn pc k ls (.ref t :: r) h = _
  simp only [ngf, hl]
  exact if_pos hk
theorem ev_putf {k ci f w t ty : Nat} {v : Value} {h' : Hp} (hd : decode M.code pc = .ok (.putfield k, 3)) (hl : lk (ftab M.cn) k = some (ci, f, w)) (hty : fty ci f = ty) (hw : w = 0 ∨ (w = 1 ∧ decide (M.y.name = "<init>") = true)) (hk : h.K t = 16 + ci) (hp : fp h ty t f v = some h') : ev C M pc ls (v :: .ref t :: r) h = ev C M (pc + 3) ls r h' := by
  subst hty
  refine ev_i hd rfl ?_
  show npf M.cn _ pc k ls (v :: .ref t :: r) h = _
  simp only [npf, hl, hp]
  exact if_pos ⟨hk, hw⟩
/-- arrays -/
theorem ev_iald {t : Nat} {x : Int32} (hd : decode M.code pc = .ok (.iaload, 1)) (hk : h.K t = 0) (hin : vp_in x (h.L t)) : ev C M pc ls (.int x :: .ref t :: r) h = ev C M (pc + 1) ls (.int (h.I t x.toNatClampNeg) :: r) h := by
  refine ev_i hd rfl ?_
  simp only [nxi, nal]
  exact if_pos ⟨hin, Or.inl ⟨trivial, hk⟩⟩
theorem ev_bald {t : Nat} {x : Int32} (hd : decode M.code pc = .ok (.baload, 1)) (hk : h.K t = 1 ∨ h.K t = 2) (hin : vp_in x (h.L t)) : ev C M pc ls (.int x :: .ref t :: r) h = ev C M (pc + 1) ls (.int (h.I t x.toNatClampNeg) :: r) h := by
  refine ev_i hd rfl ?_
  simp only [nxi, nal]
  exact if_pos ⟨hin, Or.inr ⟨trivial, hk⟩⟩
theorem ev_lald {t : Nat} {x : Int32} (hd : decode M.code pc = .ok (.laload, 1)) (hk : h.K t = 3) (hin : vp_in x (h.L t)) : ev C M pc ls (.int x :: .ref t :: r) h = ev C M (pc + 1) ls (.long (h.J t x.toNatClampNeg) :: r) h := by
  refine ev_i hd rfl ?_
  simp only [nxi, nal]
  rw [if_neg (by simp)]
  exact if_pos ⟨hin, trivial, hk⟩
theorem ev_aald {t : Nat} {x : Int32} (hd : decode M.code pc = .ok (.aaload, 1)) (hk : 4 ≤ h.K t ∧ h.K t ≤ 8) (hin : vp_in x (h.L t)) : ev C M pc ls (.int x :: .ref t :: r) h = ev C M (pc + 1) ls (va_rf (h.P t x.toNatClampNeg) :: r) h := by
  refine ev_i hd rfl ?_
  simp only [nxi, nal]
  rw [if_neg (by simp), if_neg (by simp)]
  exact if_pos ⟨hin, trivial, hk.1, hk.2⟩
theorem ev_iast {t : Nat} {x v : Int32} (hd : decode M.code pc = .ok (.iastore, 1)) (hk : h.K t = 0) (ht : 0 < t) (hin : vp_in x (h.L t)) : ev C M pc ls (.int v :: .int x :: .ref t :: r) h = ev C M (pc + 1) ls r (h.si t x.toNatClampNeg v) := by
  refine ev_i hd rfl ?_
  simp only [nxi, nas]
  exact if_pos ⟨hin, trivial, hk, ht⟩
theorem ev_bast {t : Nat} {x v : Int32} (hd : decode M.code pc = .ok (.bastore, 1)) (hk : h.K t = 1) (hin : vp_in x (h.L t)) : ev C M pc ls (.int v :: .int x :: .ref t :: r) h = ev C M (pc + 1) ls r (h.si t x.toNatClampNeg v.toInt8.toInt32) := by
  refine ev_i hd rfl ?_
  simp only [nxi, nas]
  rw [if_neg (by simp)]
  exact if_pos ⟨hin, trivial, hk⟩
theorem ev_zast {t : Nat} {x v : Int32} (hd : decode M.code pc = .ok (.bastore, 1)) (hk : h.K t = 2) (hin : vp_in x (h.L t)) : ev C M pc ls (.int v :: .int x :: .ref t :: r) h = ev C M (pc + 1) ls r (h.si t x.toNatClampNeg (v &&& 1)) := by
  refine ev_i hd rfl ?_
  simp only [nxi, nas]
  rw [if_neg (by simp), if_neg (by simp [hk])]
  exact if_pos ⟨hin, trivial, hk⟩
theorem ev_last {t : Nat} {x : Int32} {v : Int64} (hd : decode M.code pc = .ok (.lastore, 1)) (hk : h.K t = 3) (hin : vp_in x (h.L t)) : ev C M pc ls (.long v :: .int x :: .ref t :: r) h = ev C M (pc + 1) ls r (h.sj t x.toNatClampNeg v) := by
  refine ev_i hd rfl ?_
  simp only [nxi, nas]
  exact if_pos ⟨hin, trivial, hk⟩
theorem ev_aast {t q : Nat} {x : Int32} (hd : decode M.code pc = .ok (.aastore, 1)) (hk : (h.K t = 4 ∧ h.K q = 17) ∨ (h.K t = 5 ∧ 1000000 ≤ q ∧ q < 1000039) ∨ (h.K t = 6 ∧ h.K q = 21) ∨ (h.K t = 7 ∧ h.K q = 22) ∨ (h.K t = 8 ∧ h.K q = 29)) (hin : vp_in x (h.L t)) : ev C M pc ls (.ref q :: .int x :: .ref t :: r) h = ev C M (pc + 1) ls r (h.sp t x.toNatClampNeg (some q)) := by
  refine ev_i hd rfl ?_
  simp only [nxi, nas]
  exact if_pos ⟨hin, trivial, hk⟩
theorem ev_alen {t : Nat} (hd : decode M.code pc = .ok (.arraylength, 1)) (hk : h.K t ≤ 8) : ev C M pc ls (.ref t :: r) h = ev C M (pc + 1) ls (.int (nI (h.L t)) :: r) h := by
  refine ev_i hd rfl ?_
  simp only [nxi, nlen]
  exact if_pos hk
/-- new cells -/
theorem ev_new {k ci : Nat} (hd : decode M.code pc = .ok (.new k, 3)) (hl : lk (ctab M.cn) k = some ci) (hN : h.N < 900000) : ev C M pc ls st h = ev C M (pc + 3) ls (.ref h.N :: st) (h.nw (16 + ci) (fno ci) (fno ci)) := by
  refine ev_i hd rfl ?_
  simp only [nxi, hl]
  exact if_pos hN
theorem ev_newa {a : ArrayType} {x : Int32} (hd : decode M.code pc = .ok (.newarray a, 2)) (hx : 0 ≤ x ∧ x.toNatClampNeg ≤ 100000) (ha : akd a ≤ 3) (hN : h.N < 900000) : ev C M pc ls (.int x :: r) h = ev C M (pc + 2) ls (.ref h.N :: r) (h.nw (akd a) x.toNatClampNeg x.toNatClampNeg) := by
  refine ev_i hd rfl ?_
  simp only [nxi, nna]
  rw [if_pos ⟨hx.1, hx.2, ha⟩]
  exact if_pos hN
theorem ev_anew {k kd : Nat} {x : Int32} (hd : decode M.code pc = .ok (.anewarray k, 3)) (hl : lk (atab M.cn) k = some kd) (hx : 0 ≤ x ∧ x.toNatClampNeg ≤ 100000) (hN : h.N < 900000) : ev C M pc ls (.int x :: r) h = ev C M (pc + 3) ls (.ref h.N :: r) (h.nw kd x.toNatClampNeg x.toNatClampNeg) := by
  refine ev_i hd rfl ?_
  simp only [nxi, naa, hl]
  rw [if_pos hx]
  exact if_pos hN
/-- constants -/
theorem ev_ldcI {k : Nat} {v : Int32} (hd : decode M.code pc = .ok (.ldc k, 2)) (hl : lk (kitab M.cn) k = some v) : ev C M pc ls st h = ev C M (pc + 2) ls (.int v :: st) h := ev_i hd rfl (by simp only [nxi, hl])
theorem ev_ldcS {k i : Nat} (hd : decode M.code pc = .ok (.ldc k, 2)) (hn : lk (kitab M.cn) k = none) (hl : lk (kstab M.cn) k = some i) : ev C M pc ls st h = ev C M (pc + 2) ls (.ref (1000000 + i) :: st) h := ev_i hd rfl (by simp only [nxi, hn, hl])
theorem ev_ldcSw {k i : Nat} (hd : decode M.code pc = .ok (.ldc_w k, 3)) (hn : lk (kitab M.cn) k = none) (hl : lk (kstab M.cn) k = some i) : ev C M pc ls st h = ev C M (pc + 3) ls (.ref (1000000 + i) :: st) h := ev_i hd rfl (by simp only [nxi, hn, hl])
theorem ev_ldcw {k : Nat} {v : Int32} (hd : decode M.code pc = .ok (.ldc_w k, 3)) (hl : lk (kitab M.cn) k = some v) : ev C M pc ls st h = ev C M (pc + 3) ls (.int v :: st) h := ev_i hd rfl (by simp only [nxi, hl])
theorem ev_ldcL {k : Nat} {v : Int64} (hd : decode M.code pc = .ok (.ldc2_w k, 3)) (hl : lk (kltab M.cn) k = some v) : ev C M pc ls st h = ev C M (pc + 3) ls (.long v :: st) h := ev_i hd rfl (by simp only [nxi, hl])
theorem ev_gets {k : Nat} {v : Value} (hd : decode M.code pc = .ok (.getstatic k, 3)) (hl : lk (xstab M.cn) k = some v) : ev C M pc ls st h = ev C M (pc + 3) ls (v :: st) h := ev_i hd rfl (by simp only [nxi, hl])
/-- calls -/
theorem nbk_ev {o : Option (Rs × Hp)} {rest : List Value} (hh : M.hh = []) (e : nxt C M pc ls st h = nbk M pc ls rest o) : ev C M pc ls st h = cb o (fun v h' => ev C M (pc + 3) ls (psh v rest) h') := by
  cases o with
  | none => exact ev_no e
  | some x =>
    obtain ⟨q, h'⟩ := x
    cases q with
    | inl v =>
      have e2 : nxt C M pc ls st h = gt (pc + 3) ls (v.toList ++ rest) h' := e
      rw [ev_go e2]
      cases v <;> rfl
    | inr q =>
      have e2 : nxt C M pc ls st h = nth M pc ls q h' := e
      refine ev_rt (e2.trans ?_)
      unfold nth
      rw [hh]
theorem ev_callS {k n cc : Nat} {y : MR} {as rest : List Value} (hd : decode M.code pc = .ok (.invokestatic k, 3)) (hl : lk (mtab M.cn) k = some (0, n, [(cc, y)])) (hh : M.hh = []) (hn : as.length = n) (hs : csum rest ≤ 8) : ev C M pc ls (as.reverse ++ rest) h = cb (C y as h) (fun v h' => ev C M (pc + 3) ls (psh v rest) h') := by
  refine nbk_ev hh ((nxt_of hd (Or.inr rfl)).trans ?_)
  have e1 : (as.reverse ++ rest).drop n = rest := by rw [← hn, ← List.length_reverse, List.drop_left]
  have e2 : (as.reverse ++ rest).take n = as.reverse := by rw [← hn, ← List.length_reverse, List.take_left]
  simp only [nxi, niv, hl]
  rw [if_pos (by rw [List.length_append, List.length_reverse]; omega)]
  simp only [nvS, e1, e2, List.reverse_reverse]
  exact if_pos hs
theorem ev_callI {k n cc t : Nat} {y : MR} {as rest : List Value} (hd : decode M.code pc = .ok (.invokespecial k, 3)) (hl : lk (mtab M.cn) k = some (1, n, [(cc, y)])) (hh : M.hh = []) (hn : as.length = n) (hs : csum rest ≤ 8) (ht : t < 3000000) : ev C M pc ls (as.reverse ++ .ref t :: rest) h = cb (C y (.ref t :: as) h) (fun v h' => ev C M (pc + 3) ls (psh v rest) h') := by
  refine nbk_ev hh ((nxt_of hd (Or.inr rfl)).trans ?_)
  have e1 : (as.reverse ++ .ref t :: rest).drop n = .ref t :: rest := by rw [← hn, ← List.length_reverse, List.drop_left]
  have e2 : (as.reverse ++ .ref t :: rest).take n = as.reverse := by rw [← hn, ← List.length_reverse, List.take_left]
  simp only [nxi, niv, hl]
  rw [if_pos (by rw [List.length_append, List.length_reverse]; omega)]
  simp only [nvI, e1, e2, List.reverse_reverse]
  exact if_pos (And.intro hs ht)
theorem ev_callV {k n t : Nat} {l : List (Nat × MR)} {y : MR} {as rest : List Value} (hd : decode M.code pc = .ok (.invokevirtual k, 3)) (hl : lk (mtab M.cn) k = some (2, n, l)) (hh : M.hh = []) (hn : as.length = n) (hs : csum rest ≤ 8) {ci : Nat} (ht : h.K t = 16 + ci) (hy : lk l ci = some y) : ev C M pc ls (as.reverse ++ .ref t :: rest) h = cb (C y (.ref t :: as) h) (fun v h' => ev C M (pc + 3) ls (psh v rest) h') := by
  refine nbk_ev hh ((nxt_of hd (Or.inr rfl)).trans ?_)
  have e1 : (as.reverse ++ .ref t :: rest).drop n = .ref t :: rest := by rw [← hn, ← List.length_reverse, List.drop_left]
  have e2 : (as.reverse ++ .ref t :: rest).take n = as.reverse := by rw [← hn, ← List.length_reverse, List.take_left]
  simp only [nxi, niv, hl]
  rw [if_pos (by rw [List.length_append, List.length_reverse]; omega)]
  simp only [nvV, e1, e2, List.reverse_reverse, ht, Nat.add_sub_cancel_left, hy]
  exact if_pos (And.intro (Nat.le_add_right 16 ci) hs)
theorem ev_callT {k n cc t : Nat} {y : MR} {as rest : List Value} (hd : decode M.code pc = .ok (.invokevirtual k, 3)) (hl : lk (mtab M.cn) k = some (5, n, [(cc, y)])) (hh : M.hh = []) (hn : as.length = n) (hs : csum rest ≤ 8) (ht : 1000000 ≤ t ∧ t < 1000039) : ev C M pc ls (as.reverse ++ .ref t :: rest) h = cb (C y (.ref t :: as) h) (fun v h' => ev C M (pc + 3) ls (psh v rest) h') := by
  refine nbk_ev hh ((nxt_of hd (Or.inr rfl)).trans ?_)
  have e1 : (as.reverse ++ .ref t :: rest).drop n = .ref t :: rest := by rw [← hn, ← List.length_reverse, List.drop_left]
  have e2 : (as.reverse ++ .ref t :: rest).take n = as.reverse := by rw [← hn, ← List.length_reverse, List.take_left]
  simp only [nxi, niv, hl]
  rw [if_pos (by rw [List.length_append, List.length_reverse]; omega)]
  simp only [nvT, e1, e2, List.reverse_reverse]
  exact if_pos (And.intro hs ht)
theorem ev_callO {k t : Nat} {rest : List Value} (hd : decode M.code pc = .ok (.invokespecial k, 3)) (hl : lk (mtab M.cn) k = some (3, 0, [])) (hs : csum rest ≤ 8) (ht : t < 3000000) : ev C M pc ls (.ref t :: rest) h = ev C M (pc + 3) ls rest h := by
  refine ev_i hd rfl ?_
  simp only [nxi, niv, hl]
  rw [if_pos (Nat.zero_le _)]
  exact if_pos (And.intro hs (And.intro ht rfl))
theorem ev_max {k : Nat} {x y : Int32} {rest : List Value} (hd : decode M.code pc = .ok (.invokestatic k, 3)) (hl : lk (mtab M.cn) k = some (6, 2, [])) (hs : csum rest ≤ 8) : ev C M pc ls (.int y :: .int x :: rest) h = ev C M (pc + 3) ls (.int (if x < y then y else x) :: rest) h := by
  refine ev_i hd rfl ?_
  simp only [nxi, niv, hl]
  rw [if_pos (by simp)]
  simp only [nmx]
  exact if_pos hs
theorem ev_copy {k d s : Nat} {sp dp n : Int32} {rest : List Value} (hd : decode M.code pc = .ok (.invokestatic k, 3)) (hl : lk (mtab M.cn) k = some (4, 5, [])) (hc : cpo h s d sp dp n) (hs : csum rest ≤ 8) : ev C M pc ls (.int n :: .int dp :: .ref d :: .int sp :: .ref s :: rest) h = ev C M (pc + 3) ls rest (h.sr d (va_cpy (h.I s) (h.I d) sp.toNatClampNeg dp.toNatClampNeg n.toNatClampNeg)) := by
  refine ev_i hd rfl ?_
  simp only [nxi, niv, hl]
  rw [if_pos (by simp)]
  simp only [ncp]
  exact if_pos (And.intro hc hs)
/-- returns -/
theorem ev_iret {x : Int32} {t : FieldType} (hd : decode M.code pc = .ok (.ireturn, 1)) (hr : M.ret = some t) (hx : rok t x) : ev C M pc ls [.int x] h = some (.inl (some (.int x)), h) := by
  refine ev_r hd rfl ?_
  simp only [nxi, nrt, hr]
  exact if_pos ⟨rfl, hx⟩
theorem ev_lret {x : Int64} (hd : decode M.code pc = .ok (.lreturn, 1)) (hr : M.ret = some .long) : ev C M pc ls [.long x] h = some (.inl (some (.long x)), h) := by
  refine ev_r hd rfl ?_
  simp [nxi, nrt, hr, rt]
theorem ev_aret {x : Nat} {n : String} (hd : decode M.code pc = .ok (.areturn, 1)) (hr : M.ret = some (.object n)) : ev C M pc ls [.ref x] h = some (.inl (some (.ref x)), h) := by
  refine ev_r hd rfl ?_
  simp [nxi, nrt, hr, rt]
theorem ev_aretN {n : String} (hd : decode M.code pc = .ok (.areturn, 1)) (hr : M.ret = some (.object n)) : ev C M pc ls [.null] h = some (.inl (some .null), h) := by
  refine ev_r hd rfl ?_
  simp [nxi, nrt, hr, rt]
theorem ev_vret (hd : decode M.code pc = .ok (.return_, 1)) (hr : M.ret = none) : ev C M pc ls [] h = some (.inl none, h) := by
  refine ev_r hd rfl ?_
  simp [nxi, nrt, hr, rt]
theorem ev_throw {q : Nat} (hd : decode M.code pc = .ok (.athrow, 1)) (hh : M.hh = []) (hk : h.K q = 18) : ev C M pc ls (.ref q :: r) h = some (.inr q, h) := by
  refine ev_r hd rfl ?_
  simp only [nxi]
  rw [if_pos hk]
  unfold nth
  rw [hh]
end EQ
/-- a call -/
theorem evC_in {d : Nat} {M : MR} {as : List Value} {h : Hp} (hl : (entL as).length ≤ M.mx) : evC (d + 1) M as h = ev (evC d) M 0 (ent as M.mx) [] h := by
  simp only [evC]
  exact if_pos hl
/-! stores, switches, handlers -/
def clr (a : Option Value) : Option Value := match a with
  | some w => if w.category = 2 then none else some w
  | none => none
theorem clr_i {x : Int32} : clr (some (.int x)) = some (.int x) := rfl
theorem clr_r {x : Nat} : clr (some (.ref x)) = some (.ref x) := rfl
theorem clr_n : clr (some .null) = some .null := rfl
theorem clr_l {x : Int64} : clr (some (.long x)) = none := rfl
theorem clr_o : clr none = none := rfl
theorem lclr_s {ls : Lc} {k : Nat} : lclr ls (k + 1) = ls.set k (clr (lget ls k)) := by
  show (match lget ls k with | some w => if w.category = 2 then ls.set k none else ls | none => ls) = _
  cases e : lget ls k with
  | none =>
    show ls = ls.set k none
    by_cases hk : k < ls.length
    · have e2 : ls[k] = none := by
        have e3 := e
        unfold lget at e3
        rw [List.getElem?_eq_getElem hk] at e3
        exact e3
      rw [← e2]
      exact (List.set_getElem_self hk).symm
    · rw [List.set_eq_of_length_le (by omega)]
  | some w =>
    by_cases hc : w.category = 2
    · show (if w.category = 2 then ls.set k none else ls) = ls.set k (if w.category = 2 then none else some w)
      rw [if_pos hc, if_pos hc]
    · show (if w.category = 2 then ls.set k none else ls) = ls.set k (if w.category = 2 then none else some w)
      rw [if_neg hc, if_neg hc]
      by_cases hk : k < ls.length
      · have e2 : ls[k] = some w := by
          have e3 := e
          unfold lget at e3
          rw [List.getElem?_eq_getElem hk] at e3
          exact e3
        rw [← e2]
        exact (List.set_getElem_self hk).symm
      · rw [List.set_eq_of_length_le (by omega)]
theorem lset_i {ls : Lc} {k : Nat} {x : Int32} : lset ls k (.int x) = (lclr ls k).set k (some (.int x)) := rfl
theorem lset_r {ls : Lc} {k : Nat} {x : Nat} : lset ls k (.ref x) = (lclr ls k).set k (some (.ref x)) := rfl
theorem lset_n {ls : Lc} {k : Nat} : lset ls k .null = (lclr ls k).set k (some .null) := rfl
theorem lset_l {ls : Lc} {k : Nat} {x : Int64} : lset ls k (.long x) = ((lclr ls k).set k (some (.long x))).set (k + 1) none := rfl
section EQ2
variable {C : MR → List Value → Hp → Option (Rs × Hp)} {M : MR} {pc : Nat} {ls ls' : Lc} {st r : List Value} {h : Hp}
theorem gst_i0 {n mx ty pc' : Nat} {x : Int32} (hty : ty = 0) (hi : 0 < mx) (hp : pc + n = pc') (hl : ls.set 0 (some (.int x)) = ls') : nst pc n mx ls (.int x :: r) h 0 ty = gt pc' ls' r h := by
  subst hp; subst hl
  show (if ty = 0 ∧ 0 < mx then gt (pc + n) (lset ls 0 (.int x)) r h else none) = _
  rw [if_pos ⟨hty, hi⟩]; rfl
theorem gst_i {n mx i ty pc' : Nat} {x : Int32} (hty : ty = 0) (hi : i + 1 < mx) (hp : pc + n = pc') (hl : (ls.set i (clr (lget ls i))).set (i + 1) (some (.int x)) = ls') : nst pc n mx ls (.int x :: r) h (i + 1) ty = gt pc' ls' r h := by
  subst hp; subst hl
  show (if ty = 0 ∧ i + 1 < mx then gt (pc + n) (lset ls (i + 1) (.int x)) r h else none) = _
  rw [if_pos ⟨hty, hi⟩, lset_i, lclr_s]
theorem gst_r0 {n mx ty pc' : Nat} {x : Nat} (hty : ty = 3) (hi : 0 < mx) (hp : pc + n = pc') (hl : ls.set 0 (some (.ref x)) = ls') : nst pc n mx ls (.ref x :: r) h 0 ty = gt pc' ls' r h := by
  subst hp; subst hl
  show (if ty = 3 ∧ 0 < mx then gt (pc + n) (lset ls 0 (.ref x)) r h else none) = _
  rw [if_pos ⟨hty, hi⟩]; rfl
theorem gst_r {n mx i ty pc' : Nat} {x : Nat} (hty : ty = 3) (hi : i + 1 < mx) (hp : pc + n = pc') (hl : (ls.set i (clr (lget ls i))).set (i + 1) (some (.ref x)) = ls') : nst pc n mx ls (.ref x :: r) h (i + 1) ty = gt pc' ls' r h := by
  subst hp; subst hl
  show (if ty = 3 ∧ i + 1 < mx then gt (pc + n) (lset ls (i + 1) (.ref x)) r h else none) = _
  rw [if_pos ⟨hty, hi⟩, lset_r, lclr_s]
theorem gst_n0 {n mx ty pc' : Nat} (hty : ty = 3) (hi : 0 < mx) (hp : pc + n = pc') (hl : ls.set 0 (some .null) = ls') : nst pc n mx ls (.null :: r) h 0 ty = gt pc' ls' r h := by
  subst hp; subst hl
  show (if ty = 3 ∧ 0 < mx then gt (pc + n) (lset ls 0 .null) r h else none) = _
  rw [if_pos ⟨hty, hi⟩]; rfl
theorem gst_n {n mx i ty pc' : Nat} (hty : ty = 3) (hi : i + 1 < mx) (hp : pc + n = pc') (hl : (ls.set i (clr (lget ls i))).set (i + 1) (some .null) = ls') : nst pc n mx ls (.null :: r) h (i + 1) ty = gt pc' ls' r h := by
  subst hp; subst hl
  show (if ty = 3 ∧ i + 1 < mx then gt (pc + n) (lset ls (i + 1) .null) r h else none) = _
  rw [if_pos ⟨hty, hi⟩, lset_n, lclr_s]
theorem gst_l {n mx i ty pc' : Nat} {x : Int64} (hty : ty = 2) (hi : i + 1 + 1 < mx) (hp : pc + n = pc') (hl : ((ls.set i (clr (lget ls i))).set (i + 1) (some (.long x))).set (i + 2) none = ls') : nst pc n mx ls (.long x :: r) h (i + 1) ty = gt pc' ls' r h := by
  subst hp; subst hl
  show (if ty = 2 ∧ i + 1 + 1 < mx then gt (pc + n) (lset ls (i + 1) (.long x)) r h else none) = _
  rw [if_pos ⟨hty, hi⟩, lset_l, lclr_s]
theorem ev_iinc {k n pc' : Nat} {c : Int} {x y : Int32} (hd : decode M.code pc = .ok (.iinc (k + 1) c, n)) (hn : n = 3) (hg : lget ls (k + 1) = some (.int x)) (hk : k + 1 < M.mx) (hp : pc + 3 = pc') (hy : x + Int32.ofInt c = y) (hl : (ls.set k (clr (lget ls k))).set (k + 1) (some (.int y)) = ls') : ev C M pc ls st h = ev C M pc' ls' st h := by
  subst hp; subst hl; subst hy
  refine ev_i hd hn ?_
  simp only [nxi, hg]
  rw [if_pos hk, lset_i, lclr_s]
theorem ev_swO {d lo hi : Int} {n tg : Nat} {offs : Array Int} {x : Int32} (hd : decode M.code pc = .ok (.tableswitch d lo hi offs, n)) (h0 : x.toInt < lo ∨ hi < x.toInt) (ht : jmp pc d = tg) (hj : (pc : Int) + d = (tg : Int)) : ev C M pc ls (.int x :: r) h = ev C M tg ls r h := by
  subst ht
  refine ev_sw hd rfl ?_
  simp only [nxi, nsw]
  rw [if_pos h0, if_pos hj]
theorem ev_swI {d lo hi o : Int} {n tg : Nat} {offs : Array Int} {x : Int32} (hd : decode M.code pc = .ok (.tableswitch d lo hi offs, n)) (h0 : ¬ (x.toInt < lo ∨ hi < x.toInt)) (ho : offs[(x.toInt - lo).toNat]? = some o) (ht : jmp pc o = tg) (hj : (pc : Int) + o = (tg : Int)) : ev C M pc ls (.int x :: r) h = ev C M tg ls r h := by
  subst ht
  refine ev_sw hd rfl ?_
  simp only [nxi, nsw, ho]
  rw [if_neg h0, if_pos hj]
theorem sw_ix {x : Int32} {lo : Int} {n : Nat} (h0 : ¬ (x.toInt < lo ∨ lo + n - 1 < x.toInt)) : ∃ j : Nat, j < n ∧ x = Int32.ofInt (lo + j) := by
  refine ⟨(x.toInt - lo).toNat, by omega, ?_⟩
  rw [show lo + ((x.toInt - lo).toNat : Int) = x.toInt by omega]
  simp
theorem ev_lsw {d : Int} {n tg : Nat} {ps : Array (Int × Int)} {x : Int32} (hd : decode M.code pc = .ok (.lookupswitch d ps, n)) (ho : (ps.toList.zip (ps.toList.drop 1)).all (fun (a, next) => a.1 < next.1) = true) (ht : jmp pc (Op.lookupswitch.offset ps.toList d x.toInt) = tg) (hj : (pc : Int) + Op.lookupswitch.offset ps.toList d x.toInt = (tg : Int)) : ev C M pc ls (.int x :: r) h = ev C M tg ls r h := by
  subst ht
  refine ev_sw hd rfl ?_
  simp only [nxi, nsw]
  rw [if_pos ⟨ho, hj⟩]
theorem ev_bldX {t : Nat} {x : Int32} (hd : decode M.code pc = .ok (.baload, 1)) (hk : ¬ (h.K t = 1 ∨ h.K t = 2)) (ht : 2000000 ≤ t ∧ t < 2000039) (hin : vp_in x (sbT.getD (t - 2000000) []).length) : ev C M pc ls (.int x :: .ref t :: r) h = ev C M (pc + 1) ls (.int ((sbT.getD (t - 2000000) []).getD x.toNatClampNeg 0) :: r) h := by
  refine ev_i hd rfl ?_
  simp only [nxi, nal]
  rw [if_neg (fun z => by rcases z.2 with z | z; exact absurd z.1 (by decide); exact hk z.2), if_neg (fun z => absurd z.2.1 (by decide)), if_neg (fun z => absurd z.2.1 (by decide)), if_pos ⟨trivial, ht.1, ht.2, hin⟩]
theorem ev_alenX {t : Nat} (hd : decode M.code pc = .ok (.arraylength, 1)) (hk : ¬ h.K t ≤ 8) (ht : 2000000 ≤ t ∧ t < 2000039) : ev C M pc ls (.ref t :: r) h = ev C M (pc + 1) ls (.int (nI (sbT.getD (t - 2000000) []).length) :: r) h := by
  refine ev_i hd rfl ?_
  simp only [nxi, nlen]
  rw [if_neg hk, if_pos ht]
  rfl
/-- behind a call that a handler covers -/
def cbk (o : Option (Rs × Hp)) (k : Option Value → Hp → Option (Rs × Hp)) (q : Hp → Option (Rs × Hp)) : Option (Rs × Hp) := match o with
  | none => none
  | some (.inl v, h) => k v h
  | some (.inr _, h) => q h
theorem cbk_v {v : Option Value} {h : Hp} {k : Option Value → Hp → Option (Rs × Hp)} {q : Hp → Option (Rs × Hp)} : cbk (some (.inl v, h)) k q = k v h := rfl
theorem cbk_x {x : Nat} {h : Hp} {k : Option Value → Hp → Option (Rs × Hp)} {q : Hp → Option (Rs × Hp)} : cbk (some (.inr x, h)) k q = q h := rfl
theorem nbk_evH {a b hp ct k : Nat} {o : Option (Rs × Hp)} {rest : List Value} (hh : M.hh = [(a, b, hp, ct)]) (hr : a ≤ pc ∧ pc < b ∧ M.cn = 0 ∧ ct = 33) {kk : Fin 4} (hd : decode M.code hp = .ok (.astore_n kk, 1)) (hk : (kk : Nat) = k + 1) (hm : k + 1 < M.mx) (hl : ((ls.set k (clr (lget ls k))).set (k + 1) none) = ls') (e : nxt C M pc ls st h = nbk M pc ls rest o) : ev C M pc ls st h = cbk o (fun v h' => ev C M (pc + 3) ls (psh v rest) h') (fun h' => ev C M (hp + 1) ls' [] h') := by
  subst hl
  cases o with
  | none => exact ev_no e
  | some x =>
    obtain ⟨q, h'⟩ := x
    cases q with
    | inl v =>
      have e2 : nxt C M pc ls st h = gt (pc + 3) ls (v.toList ++ rest) h' := e
      rw [ev_go e2]
      cases v <;> rfl
    | inr q =>
      have e2 : nxt C M pc ls st h = nth M pc ls q h' := e
      refine ev_go (e2.trans ?_)
      unfold nth
      rw [hh]
      simp only []
      rw [if_pos hr, hd]
      simp only [hk]
      rw [if_pos hm, lclr_s]
theorem nbk_evX {a b hp ct : Nat} {o : Option (Rs × Hp)} {rest : List Value} (hh : M.hh = [(a, b, hp, ct)]) (hr : ¬ (a ≤ pc ∧ pc < b)) (e : nxt C M pc ls st h = nbk M pc ls rest o) : ev C M pc ls st h = cbk o (fun v h' => ev C M (pc + 3) ls (psh v rest) h') (fun _ => none) := by
  cases o with
  | none => exact ev_no e
  | some x =>
    obtain ⟨q, h'⟩ := x
    cases q with
    | inl v =>
      have e2 : nxt C M pc ls st h = gt (pc + 3) ls (v.toList ++ rest) h' := e
      rw [ev_go e2]
      cases v <;> rfl
    | inr q =>
      have e2 : nxt C M pc ls st h = nth M pc ls q h' := e
      refine ev_no (e2.trans ?_)
      unfold nth
      rw [hh]
      simp only []
      rw [if_neg (fun z => hr ⟨z.1, z.2.1⟩)]
theorem nx_callI {k n cc t : Nat} {y : MR} {as rest : List Value} (hd : decode M.code pc = .ok (.invokespecial k, 3)) (hl : lk (mtab M.cn) k = some (1, n, [(cc, y)])) (hn : as.length = n) (hs : csum rest ≤ 8) (ht : t < 3000000) : nxt C M pc ls (as.reverse ++ .ref t :: rest) h = nbk M pc ls rest (C y (.ref t :: as) h) := by
  refine (nxt_of hd (Or.inr rfl)).trans ?_
  have e1 : (as.reverse ++ .ref t :: rest).drop n = .ref t :: rest := by rw [← hn, ← List.length_reverse, List.drop_left]
  have e2 : (as.reverse ++ .ref t :: rest).take n = as.reverse := by rw [← hn, ← List.length_reverse, List.take_left]
  simp only [nxi, niv, hl]
  rw [if_pos (by rw [List.length_append, List.length_reverse]; omega)]
  simp only [nvI, e1, e2, List.reverse_reverse]
  exact if_pos (And.intro hs ht)
theorem nx_callV {k n t : Nat} {l : List (Nat × MR)} {y : MR} {as rest : List Value} (hd : decode M.code pc = .ok (.invokevirtual k, 3)) (hl : lk (mtab M.cn) k = some (2, n, l)) (hn : as.length = n) (hs : csum rest ≤ 8) {ci : Nat} (ht : h.K t = 16 + ci) (hy : lk l ci = some y) : nxt C M pc ls (as.reverse ++ .ref t :: rest) h = nbk M pc ls rest (C y (.ref t :: as) h) := by
  refine (nxt_of hd (Or.inr rfl)).trans ?_
  have e1 : (as.reverse ++ .ref t :: rest).drop n = .ref t :: rest := by rw [← hn, ← List.length_reverse, List.drop_left]
  have e2 : (as.reverse ++ .ref t :: rest).take n = as.reverse := by rw [← hn, ← List.length_reverse, List.take_left]
  simp only [nxi, niv, hl]
  rw [if_pos (by rw [List.length_append, List.length_reverse]; omega)]
  simp only [nvV, e1, e2, List.reverse_reverse, ht, Nat.add_sub_cancel_left, hy]
  exact if_pos (And.intro (Nat.le_add_right 16 ci) hs)
end EQ2
/-- the virtual calls of a tree's knots -/
def vmO (k : Nat) : MR := if k = 23 then mX8_of else if k = 24 then mX9_of else mX10_of
def vmT (k : Nat) : MR := if k = 26 then mX12_is else if k = 27 then mX13_is else mX14_is
