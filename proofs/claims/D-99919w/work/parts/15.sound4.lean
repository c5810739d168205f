/-! ===== arrays, new cells ===== -/
set_option maxRecDepth 100000
section SN
variable {B : Bs} {M : MR} {h0 : Hp} {p : Program} {l : Launch} {e : Env} {R : Room} {s : State} {m : MethodId} {args : Array Value} {below : List Frame} {meth : Method} {c : Code} {Q : State → Prop}
variable {pc : Nat} {ls : Lc} {st : List Value} {h : Hp} {pc' : Nat} {ls' : Lc} {st' : List Value} {h' : Hp}
theorem byt_ix {t : Nat} (h : 2000000 ≤ t ∧ t < 2000039) : ∃ i : Nat, i < 39 ∧ t = 2000000 + i := ⟨t - 2000000, by omega, by omega⟩
theorem str_small {i : Nat} (h : i < 39) : 1000000 + i < 3000000 := by omega
def avl (B : Bs) (h : Hp) (t : Nat) : Nat → Value := if h.K t ≤ 2 then fun j => .int (h.I t j) else if h.K t = 3 then fun j => .long (h.J t j) else fun j => va_rf ((h.P t j).bind (oa B))
theorem arr_cell (cA : ClassId) (t : Nat) : vp_cell cA (arrOf B h t) = arrV cA (h.L t) (avl B h t) := by
  unfold arrOf avl
  by_cases a : h.K t ≤ 2
  · rw [if_pos a, if_pos a]; rfl
  · rw [if_neg a, if_neg a]
    by_cases b : h.K t = 3
    · rw [if_pos b, if_pos b]; rfl
    · rw [if_neg b, if_neg b]; rfl
theorem avl_i {t : Nat} (a : h.K t ≤ 2) : avl B h t = fun j => .int (h.I t j) := if_pos a
theorem avl_l {t : Nat} (a : h.K t = 3) : avl B h t = fun j => .long (h.J t j) := by rw [avl, if_neg (by omega), if_pos a]
theorem avl_q {t : Nat} (a : 4 ≤ h.K t) : avl B h t = fun j => va_rf ((h.P t j).bind (oa B)) := by rw [avl, if_neg (by omega), if_neg (by omega)]
theorem rp_cell {H : Heap} (r : Rep B h H) {t kd : Nat} (hk : h.K t = kd) (hc : kd ≤ 8) (h1 : 1 ≤ t) : H[ra B t]? = some (arrV (B.dA kd) (h.L t) (avl B h t)) := by
  have e := rp_at0 (rp_arr r hk hc h1)
  rw [← arr_cell]
  exact e
theorem Cx.arr (X : Cx B M p s m args meth c) {kd : Nat} (hk : kd ≤ 8) (n : Nat) (z : Nat → Value) : s.isArrayOf (arrV (B.dA kd) n z) (akT kd) := (X.kd.2 kd _ (tysX_at B (by omega))).1 n z
theorem vin_of {i : Int32} {n : Nat} (a : ClassId) (f : Nat → Value) (h : ¬ (i < 0 ∨ n ≤ i.toNatClampNeg)) : ¬ (i < 0 ∨ (arrV a n f).slots.size ≤ i.toNatClampNeg) := by rw [arrV_size]; exact h
theorem vlt_of {i : Int32} {n : Nat} (h : ¬ (i < 0 ∨ n ≤ i.toNatClampNeg)) : i.toNatClampNeg < n := Nat.not_le.mp fun q => h (Or.inr q)
/-- a place of an array is written -/
theorem rp_ast {H H1 : Heap} {locs : List Loc} {j : Nat} (r : Rep B h H) {t kd k : Nat} {v : Value} (hk : h.K t = kd) (hc : kd ≤ 8) (h1 : 1 ≤ t) (hs : va_S (AA B) s.heap H locs) (e : H1[ra B t]? = some ((arrV (B.dA kd) (h.L t) (avl B h t)).setSlot k v)) (z : H1.size = H.size) (oq : ∀ q : Nat, q ≠ ra B t → H1[q]? = H[q]?)
    (f3 : h'.N = h.N) (f5 : h'.K = h.K) (f6 : h'.L = h.L) (f7 : ∀ t', t' ≠ t → h'.I t' = h.I t') (f8 : ∀ t', t' ≠ t → h'.J t' = h.J t') (f9 : ∀ t', t' ≠ t → h'.P t' = h.P t') (hv : avl B h' t = updV (avl B h t) k v) : Rep B h' H1 ∧ va_S (AA B) s.heap H1 (locs ++ [⟨ra B t, j⟩]) := by
  have h999 : h.K t ≠ 999 := by omega
  have hra := rp_ra r h1 (r.lt h999)
  refine ⟨rp_upd r h999 h1 z oq f3 f5 f6 f7 f8 f9 ?_, hs.put z oq (show B.base < ra B t by rw [hra]; omega)⟩
  have hcell : cellOf B h' t = .inl (B.dA kd, arrOf B h' t) := by
    rw [cellOf, f5, if_pos (by omega), hk]
  rw [hcell]
  show H1[ra B t]? = some (vp_cell _ _)
  rw [e, arr_cell, f6, hv, arrV_store]
theorem gw_nal {i : Instr} {ty : Nat} (X : Cx B M p s m args meth c) (hd : decode M.code pc = .ok (i, 1)) (hi : (i = .iaload ∧ ty = 0) ∨ (i = .baload ∧ ty = 1) ∨ (i = .laload ∧ ty = 3) ∨ (i = .aaload ∧ ty = 4)) (hn : nal pc ls st h ty = gt pc' ls' st' h') (kk : GW B M h0 p l e R s m args below meth c Q pc' ls' st' h') : GW B M h0 p l e R s m args below meth c Q pc ls st h := by
  intro H locs la hr hs hl n1 n2
  unfold nal at hn
  split at hn
  · next ix t r =>
    split at hn
    · next hk =>
      obtain ⟨rfl, rfl, rfl, rfl⟩ := gt_inj hn
      obtain ⟨hin, hk⟩ := hk
      have k2 := kk H locs la hr hs hl n1 n2
      rw [List.map_cons] at k2
      by_cases ht0 : t = (0 : Nat)
      · subst ht0
        obtain ⟨r1, r2, r3, r4, r5, r6, r7, r8⟩ := hr
        rcases hk with ⟨rfl, hk⟩ | ⟨rfl, hk⟩
        · rcases hi with ⟨rfl, -⟩ | ⟨-, z⟩ | ⟨-, z⟩ | ⟨-, z⟩
          · rw [List.map_cons, List.map_cons, show cv B (.ref 0) = .ref B.scr from rfl]
            rw [r8] at k2
            rw [r7] at hin
            have hbl : B.scr < s.heap.size := Nat.lt_of_le_of_lt X.ex.2.1 X.base
            exact va_sld X.hx X.hb X.ex.1 hbl (fun z => absurd X.ex.2.1 (Nat.not_le.mpr z)) hs hin hd k2
          all_goals cases z
        · rw [r6] at hk
          rcases hk with z | z <;> cases z
      · have hpos : (1 : Nat) ≤ t := Nat.one_le_iff_ne_zero.mpr ht0
        have hlt : ∀ kd, h.K t = kd → kd ≤ 8 → t < (3000000 : Nat) := fun kd a b => Nat.lt_trans (rp_small hr (t := t) (by omega)) (by omega)
        rcases hk with ⟨rfl, hk⟩ | ⟨rfl, hk⟩
        · rcases hi with ⟨rfl, -⟩ | ⟨-, z⟩ | ⟨-, z⟩ | ⟨-, z⟩
          · rw [List.map_cons, List.map_cons, cv_ref (hlt 0 hk (by omega))]
            exact W.iald X.hx X.hb (rp_cell hr hk (by omega) hpos) (X.arr (kd := 0) (by omega) _ _) (fun q => by cases q) (vin_of _ _ hin) (by rw [arrV_read _ _ (vlt_of hin), avl_i (h := h) (t := t) (by omega)]; rfl) rfl rfl hd k2
          all_goals cases z
        · rcases hi with ⟨-, z⟩ | ⟨rfl, -⟩ | ⟨-, z⟩ | ⟨-, z⟩
          · cases z
          · rcases hk with hk | hk
            · rw [List.map_cons, List.map_cons, cv_ref (hlt 1 hk (by omega))]
              exact W.bald X.hx X.hb (rp_cell hr hk (by omega) hpos) (X.arr (kd := 1) (by omega) _ _) (fun q => by cases q) (vin_of _ _ hin) (by rw [arrV_read _ _ (vlt_of hin), avl_i (h := h) (t := t) (by omega)]; rfl) rfl rfl hd k2
            · rw [List.map_cons, List.map_cons, cv_ref (hlt 2 hk (by omega))]
              exact W.zald X.hx X.hb (rp_cell hr hk (by omega) hpos) (X.arr (kd := 2) (by omega) _ _) (fun q => by cases q) (vin_of _ _ hin) (by rw [arrV_read _ _ (vlt_of hin), avl_i (h := h) (t := t) (by omega)]; rfl) rfl rfl hd k2
          · cases z
          · cases z
    · split at hn
      · next hk =>
        obtain ⟨rfl, rfl, rfl, rfl⟩ := gt_inj hn
        obtain ⟨hin, rfl, hk⟩ := hk
        have k2 := kk H locs la hr hs hl n1 n2
        rw [List.map_cons] at k2
        have hpos := hr.pos (t := t) (by omega)
        have hlt : t < (3000000 : Nat) := Nat.lt_trans (rp_small hr (t := t) (by omega)) (by omega)
        rcases hi with ⟨-, z⟩ | ⟨-, z⟩ | ⟨rfl, -⟩ | ⟨-, z⟩
        · cases z
        · cases z
        · rw [List.map_cons, List.map_cons, cv_ref hlt]
          exact W.lald X.hx X.hb (rp_cell hr hk (by omega) hpos) (X.arr (kd := 3) (by omega) _ _) (fun q => by cases q) (vin_of _ _ hin) (by rw [arrV_read _ _ (vlt_of hin), avl_l (h := h) (t := t) (by omega)]; rfl) rfl rfl hd k2
        · cases z
      · split at hn
        · next hk =>
          obtain ⟨rfl, rfl, rfl, rfl⟩ := gt_inj hn
          obtain ⟨hin, rfl, hk1, hk2⟩ := hk
          have k2 := kk H locs la hr hs hl n1 n2
          rw [List.map_cons, cv_rf] at k2
          have hpos := hr.pos (t := t) (by omega)
          have hlt : t < (3000000 : Nat) := Nat.lt_trans (rp_small hr (t := t) (by omega)) (by omega)
          rcases hi with ⟨-, z⟩ | ⟨-, z⟩ | ⟨-, z⟩ | ⟨rfl, -⟩
          · cases z
          · cases z
          · cases z
          · rw [List.map_cons, List.map_cons, cv_ref hlt]
            refine W.aald X.hx X.hb (rp_cell hr rfl hk2 hpos) (X.arr (kd := h.K t) hk2 _ _) ?_ (fun q => by cases q) (vin_of _ _ hin) (by rw [arrV_read _ _ (vlt_of hin), avl_q hk1]) rfl rfl hd k2
            generalize h.K t = kd at hk1 hk2
            match kd, hk1, hk2 with
            | 4, _, _ => rfl
            | 5, _, _ => rfl
            | 6, _, _ => rfl
            | 7, _, _ => rfl
            | 8, _, _ => rfl
            | k + 9, _, z => exact absurd z (by omega)
        · split at hn
          · next hk =>
            obtain ⟨rfl, rfl, rfl, rfl⟩ := gt_inj hn
            obtain ⟨rfl, a1, a2, hin⟩ := hk
            obtain ⟨j, hj, htj⟩ := byt_ix ⟨a1, a2⟩
            subst htj
            rw [Nat.add_sub_cancel_left] at hin
            have k2 := kk H locs la hr hs hl n1 n2
            rw [List.map_cons, Nat.add_sub_cancel_left] at k2
            rcases hi with ⟨-, z⟩ | ⟨rfl, -⟩ | ⟨-, z⟩ | ⟨-, z⟩
            · cases z
            · rw [List.map_cons, List.map_cons, cv_byt hj]
              exact va_tb X.hx X.hb (X.ex.2.2.1 j hj).2.2.2.1 hs hin rfl hd k2
            · cases z
            · cases z
          · cases hn
  · cases hn
theorem gw_nlen (X : Cx B M p s m args meth c) (hd : decode M.code pc = .ok (.arraylength, 1)) (hn : nlen pc ls st h = gt pc' ls' st' h') (kk : GW B M h0 p l e R s m args below meth c Q pc' ls' st' h') : GW B M h0 p l e R s m args below meth c Q pc ls st h := by
  intro H locs la hr hs hl n1 n2
  unfold nlen at hn
  split at hn
  · next t r =>
    split at hn
    · next hk =>
      obtain ⟨rfl, rfl, rfl, rfl⟩ := gt_inj hn
      have k2 := kk H locs la hr hs hl n1 n2
      rw [List.map_cons] at k2
      rw [List.map_cons]
      by_cases ht0 : t = (0 : Nat)
      · subst ht0
        obtain ⟨r1, r2, r3, r4, r5, r6, r7, r8⟩ := hr
        rw [r7] at k2
        rw [show cv B (.ref 0) = .ref B.scr from rfl]
        exact va_slen X.hx X.hb X.ex.1 (Nat.lt_of_le_of_lt X.ex.2.1 X.base) (fun z => absurd X.ex.2.1 (Nat.not_le.mpr z)) hs hd k2
      · have hpos : (1 : Nat) ≤ t := Nat.one_le_iff_ne_zero.mpr ht0
        have hlt : t < (3000000 : Nat) := Nat.lt_trans (rp_small hr (t := t) (by omega)) (by omega)
        rw [cv_ref hlt]
        exact W.alen X.hx X.hb (rp_cell hr rfl hk hpos) (X.arr hk _ _) (by rw [arrV_size]) rfl rfl hd k2
    · split at hn
      · next hk =>
        obtain ⟨rfl, rfl, rfl, rfl⟩ := gt_inj hn
        obtain ⟨a1, a2⟩ := hk
        obtain ⟨j, hj, htj⟩ := byt_ix ⟨a1, a2⟩
        subst htj
        have k2 := kk H locs la hr hs hl n1 n2
        rw [List.map_cons, Nat.add_sub_cancel_left] at k2
        rw [List.map_cons, cv_byt hj]
        exact va_tlen X.hx X.hb (X.ex.2.2.1 j hj).2.2.2.1 hs rfl hd k2
      · cases hn
  · cases hn
theorem gw_nas {i : Instr} {ty : Nat} (X : Cx B M p s m args meth c) (hd : decode M.code pc = .ok (i, 1)) (hi : (i = .iastore ∧ ty = 0) ∨ (i = .bastore ∧ ty = 1) ∨ (i = .lastore ∧ ty = 3) ∨ (i = .aastore ∧ ty = 4)) (hn : nas pc ls st h ty = gt pc' ls' st' h') (kk : GW B M h0 p l e R s m args below meth c Q pc' ls' st' h') : GW B M h0 p l e R s m args below meth c Q pc ls st h := by
  have hsi : ∀ (t k : Nat) (x : Int32), h.K t ≤ 2 → avl B (h.si t k x) t = updV (avl B h t) k (.int x) := by
    intro t k x hk
    rw [avl_i hk, avl_i (h := h.si t k x) hk]
    funext j
    unfold updV
    by_cases z : j = k
    · rw [if_pos z, show (h.si t k x).I t j = x from if_pos ⟨rfl, z⟩]
    · rw [if_neg z, show (h.si t k x).I t j = h.I t j from if_neg (fun q => z q.2)]
  intro H locs la hr hs hl n1 n2
  unfold nas at hn
  split at hn
  · next x ix t r =>
    split at hn
    · next hk =>
      obtain ⟨hin, rfl, hk, hp⟩ := hk
      obtain ⟨rfl, rfl, rfl, rfl⟩ := gt_inj hn
      have hpos : (1 : Nat) ≤ t := hp
      have hlt : t < (3000000 : Nat) := Nat.lt_trans (rp_small hr (t := t) (by omega)) (by omega)
      rcases hi with ⟨rfl, -⟩ | ⟨-, z⟩ | ⟨-, z⟩ | ⟨-, z⟩
      · rw [List.map_cons, List.map_cons, List.map_cons, cv_ref hlt]
        refine W.iast X.hx X.hb (rp_cell hr hk (by omega) hpos) (X.arr (kd := 0) (by omega) _ _) (fun q => by cases q) (vin_of _ _ hin) rfl rfl hd (fun H1 e1 e2 e3 => ?_)
        obtain ⟨g1, g2⟩ := rp_ast (h' := h.si t ix.toNatClampNeg x) (s := s) (j := ix.toNatClampNeg) hr hk (by omega) hpos hs e1 e2 e3 rfl rfl rfl (fun t' z => funext fun j => if_neg (fun q => z q.1)) (fun _ _ => rfl) (fun _ _ => rfl) (hsi _ _ _ (by omega))
        exact kk H1 _ la g1 g2 hl n1 n2
      all_goals cases z
    · split at hn
      · next hk =>
        obtain ⟨hin, rfl, hk⟩ := hk
        obtain ⟨rfl, rfl, rfl, rfl⟩ := gt_inj hn
        have hpos := hr.pos (t := t) (by omega)
        have hlt : t < (3000000 : Nat) := Nat.lt_trans (rp_small hr (t := t) (by omega)) (by omega)
        rcases hi with ⟨-, z⟩ | ⟨rfl, -⟩ | ⟨-, z⟩ | ⟨-, z⟩
        · cases z
        · rw [List.map_cons, List.map_cons, List.map_cons, cv_ref hlt]
          refine W.bast X.hx X.hb (rp_cell hr hk (by omega) hpos) (X.arr (kd := 1) (by omega) _ _) (fun q => by cases q) (vin_of _ _ hin) rfl rfl hd (fun H1 e1 e2 e3 => ?_)
          obtain ⟨g1, g2⟩ := rp_ast (h' := h.si t ix.toNatClampNeg x.toInt8.toInt32) (s := s) (j := ix.toNatClampNeg) hr hk (by omega) hpos hs e1 e2 e3 rfl rfl rfl (fun t' z => funext fun j => if_neg (fun q => z q.1)) (fun _ _ => rfl) (fun _ _ => rfl) (hsi _ _ _ (by omega))
          exact kk H1 _ la g1 g2 hl n1 n2
        · cases z
        · cases z
      · split at hn
        · next hk =>
          obtain ⟨hin, rfl, hk⟩ := hk
          obtain ⟨rfl, rfl, rfl, rfl⟩ := gt_inj hn
          have hpos := hr.pos (t := t) (by omega)
          have hlt : t < (3000000 : Nat) := Nat.lt_trans (rp_small hr (t := t) (by omega)) (by omega)
          rcases hi with ⟨-, z⟩ | ⟨rfl, -⟩ | ⟨-, z⟩ | ⟨-, z⟩
          · cases z
          · rw [List.map_cons, List.map_cons, List.map_cons, cv_ref hlt]
            refine W.zast X.hx X.hb (rp_cell hr hk (by omega) hpos) (X.arr (kd := 2) (by omega) _ _) (fun q => by cases q) (vin_of _ _ hin) rfl rfl hd (fun H1 e1 e2 e3 => ?_)
            obtain ⟨g1, g2⟩ := rp_ast (h' := h.si t ix.toNatClampNeg (x &&& 1)) (s := s) (j := ix.toNatClampNeg) hr hk (by omega) hpos hs e1 e2 e3 rfl rfl rfl (fun t' z => funext fun j => if_neg (fun q => z q.1)) (fun _ _ => rfl) (fun _ _ => rfl) (hsi _ _ _ (by omega))
            exact kk H1 _ la g1 g2 hl n1 n2
          · cases z
          · cases z
        · cases hn
  · next x ix t r =>
    split at hn
    · next hk =>
      obtain ⟨hin, rfl, hk⟩ := hk
      obtain ⟨rfl, rfl, rfl, rfl⟩ := gt_inj hn
      have hpos := hr.pos (t := t) (by omega)
      have hlt : t < (3000000 : Nat) := Nat.lt_trans (rp_small hr (t := t) (by omega)) (by omega)
      rcases hi with ⟨-, z⟩ | ⟨-, z⟩ | ⟨rfl, -⟩ | ⟨-, z⟩
      · cases z
      · cases z
      · rw [List.map_cons, List.map_cons, List.map_cons, cv_ref hlt]
        refine W.last X.hx X.hb (rp_cell hr hk (by omega) hpos) (X.arr (kd := 3) (by omega) _ _) (fun q => by cases q) (vin_of _ _ hin) rfl rfl hd (fun H1 e1 e2 e3 => ?_)
        obtain ⟨g1, g2⟩ := rp_ast (h' := h.sj t ix.toNatClampNeg x) (s := s) (j := ix.toNatClampNeg) hr hk (by omega) hpos hs e1 e2 e3 rfl rfl rfl (fun _ _ => rfl) (fun t' z => funext fun j => if_neg (fun q => z q.1)) (fun _ _ => rfl) (by
          rw [avl_l hk, avl_l (h := h.sj t ix.toNatClampNeg x) hk]
          funext j
          unfold updV
          by_cases z : j = ix.toNatClampNeg
          · rw [if_pos z, show (h.sj t ix.toNatClampNeg x).J t j = x from if_pos ⟨rfl, z⟩]
          · rw [if_neg z, show (h.sj t ix.toNatClampNeg x).J t j = h.J t j from if_neg (fun q => z q.2)])
        exact kk H1 _ la g1 g2 hl n1 n2
      · cases z
    · cases hn
  · next q ix t r =>
    split at hn
    · next hk =>
      obtain ⟨hin, rfl, hk⟩ := hk
      obtain ⟨rfl, rfl, rfl, rfl⟩ := gt_inj hn
      rcases hi with ⟨-, z⟩ | ⟨-, z⟩ | ⟨-, z⟩ | ⟨rfl, -⟩
      · cases z
      · cases z
      · cases z
      · have hkd : ∃ kd : Nat, h.K t = kd ∧ 4 ≤ kd ∧ kd ≤ 8 ∧ q < (3000000 : Nat) ∧ ∃ E : String, akT kd = .object E ∧ va_Any E s H (ra B q) := by
          have hobj : ∀ (ci : Nat) (C : String) (T : u_T), h.K q = 16 + ci → ci < 14 → clX[ci]? = some (C, T, fno ci) → q < (3000000 : Nat) ∧ va_Any C s H (ra B q) := by
            intro ci C T a1 a2 a3
            refine ⟨Nat.lt_trans (rp_small hr (t := q) (by omega)) (by omega), va_rAny X.kd (rp_obj hr a1 a2) (q0 := 0) rfl a3 (fun comp c0 b1 b2 => ?_)⟩
            cases Option.some.inj (b1.symm.trans b2)
            exact va_asg _ _
          rcases hk with ⟨a, b⟩ | ⟨a, b1, b2⟩ | ⟨a, b⟩ | ⟨a, b⟩ | ⟨a, b⟩
          · obtain ⟨g1, g2⟩ := hobj 1 _ _ b (by omega) rfl
            exact ⟨4, a, by omega, by omega, g1, _, rfl, g2⟩
          · obtain ⟨i, hi, hq⟩ := str_ix ⟨b1, b2⟩
            subst hq
            refine ⟨5, a, by omega, by omega, str_small hi, _, rfl, ?_⟩
            rw [ra, if_neg (by omega), if_neg (by omega), if_pos (by omega), Nat.add_sub_cancel_left]
            obtain ⟨cell, g1, g2, g3, -⟩ := ((X.ex.2.2.1 i hi).1).kept hs.2.1
            obtain ⟨kC, hkC, -⟩ := Vm.findClass_spec g3
            refine ⟨cell, g1, g2, ⟨kC, hkC⟩, fun comp w => ?_⟩
            cases Option.some.inj (w.symm.trans g3)
            exact va_asg _ _
          · obtain ⟨g1, g2⟩ := hobj 5 _ _ b (by omega) rfl
            exact ⟨6, a, by omega, by omega, g1, _, rfl, g2⟩
          · obtain ⟨g1, g2⟩ := hobj 6 _ _ b (by omega) rfl
            exact ⟨7, a, by omega, by omega, g1, _, rfl, g2⟩
          · obtain ⟨g1, g2⟩ := hobj 13 _ _ b (by omega) rfl
            exact ⟨8, a, by omega, by omega, g1, _, rfl, g2⟩
        obtain ⟨kd, hk, hk1, hk2, hq, E, hE, cellV, g1, g3, ⟨kC, hkC⟩, hasg⟩ := hkd
        have hpos := hr.pos (t := t) (by omega)
        have hlt : t < (3000000 : Nat) := Nat.lt_trans (rp_small hr (t := t) (by omega)) (by omega)
        rw [List.map_cons, List.map_cons, List.map_cons, cv_ref hlt, cv_ref hq]
        have hRA := (X.kd.2 kd _ (tysX_at B (k := kd) (by omega))).2
        simp only [hE] at hRA
        obtain ⟨kA, comp, k1, k2, k3, -⟩ := hRA
        obtain ⟨kE, hkE, -⟩ := Vm.findClass_spec k3
        refine W.aast X.hx X.hb (rp_cell hr hk hk2 hpos) (fun q h => by cases h) (fun h => by cases h) k1 k2 rfl hkE ⟨fun z => hin (Or.inl z), by rw [arrV_size]; exact vlt_of hin⟩ g1 (fun q h => by rw [h] at g3; cases g3) hkC (hasg _ k3) rfl rfl hd (fun H1 e1 e2 e3 => ?_)
        obtain ⟨w1, w2⟩ := rp_ast (h' := h.sp t ix.toNatClampNeg (some q)) (s := s) (j := ix.toNatClampNeg) hr hk hk2 hpos hs e1 e2 e3 rfl rfl rfl (fun _ _ => rfl) (fun _ _ => rfl) (fun t' z => funext fun j => if_neg (fun q => z q.1)) (by
          rw [avl_q (h := h) (t := t) (by omega), avl_q (h := h.sp t ix.toNatClampNeg (some q)) (t := t) (by show 4 ≤ h.K t; omega)]
          funext j
          unfold updV
          by_cases z : j = ix.toNatClampNeg
          · rw [if_pos z, show (h.sp t ix.toNatClampNeg (some q)).P t j = some q from if_pos ⟨rfl, z⟩]
            exact cv_ref hq
          · rw [if_neg z, show (h.sp t ix.toNatClampNeg (some q)).P t j = h.P t j from if_neg (fun q => z q.2)])
        exact kk H1 _ la w1 w2 hl n1 n2
    · cases hn
  · cases hn
end SN
