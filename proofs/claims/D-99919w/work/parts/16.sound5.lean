/-! ===== new cells; a row that is copied ===== -/
set_option maxRecDepth 100000
section SN
variable {B : Bs} {M : MR} {h0 : Hp} {p : Program} {l : Launch} {e : Env} {R : Room} {s : State} {m : MethodId} {args : Array Value} {below : List Frame} {meth : Method} {c : Code} {Q : State → Prop}
variable {pc : Nat} {ls : Lc} {st : List Value} {h : Hp} {pc' : Nat} {ls' : Lc} {st' : List Value} {h' : Hp}
theorem rp_size {H : Heap} (r : Rep B h H) (hN : h.N < 900000) : H.size = ra B h.N := by
  obtain ⟨r1, r2, -⟩ := r
  rw [r1, ra, if_neg (by omega), if_pos (by omega)]
theorem vs_new {H H1 : Heap} {locs : List Loc} (hs : va_S (AA B) s.heap H locs) (z : H1.size = H.size + 1) (oq : ∀ q : Nat, q < H.size → H1[q]? = H[q]?) : va_S (AA B) s.heap H1 locs :=
  ⟨Nat.le_trans hs.1 (by omega), fun x h1 h2 => (oq x (Nat.lt_of_lt_of_le h1 hs.1)).trans (hs.2.1 x h1 h2), hs.2.2⟩
theorem nw_at (kd ln sl : Nat) : (h.nw kd ln sl).K h.N = kd ∧ (h.nw kd ln sl).L h.N = ln ∧ (∀ k, (h.nw kd ln sl).I h.N k = 0) ∧ (∀ k, (h.nw kd ln sl).J h.N k = 0) ∧ (∀ k, (h.nw kd ln sl).P h.N k = none) := by
  refine ⟨if_pos rfl, if_pos rfl, fun k => ?_, fun k => ?_, fun k => ?_⟩
  · show (ur h.I h.N (fun _ => 0)) h.N k = 0
    rw [show ur h.I h.N (fun _ => (0 : Int32)) h.N = fun _ => 0 from if_pos rfl]
  · show (ur h.J h.N (fun _ => 0)) h.N k = 0
    rw [show ur h.J h.N (fun _ => (0 : Int64)) h.N = fun _ => 0 from if_pos rfl]
  · show (ur h.P h.N (fun _ => none)) h.N k = none
    rw [show ur h.P h.N (fun _ => (none : Option Nat)) h.N = fun _ => none from if_pos rfl]
theorem gw_new {k ci : Nat} (X : Cx B M p s m args meth c) (hv : lk (ctab M.cn) k = some ci) (hd : decode M.code pc = .ok (.new k, 3)) (hn : nnew pc 3 ls st h (16 + ci) (fno ci) (fno ci) = gt pc' ls' st' h') (hm : h'.N - h0.N ≤ R.cells ∧ h'.S - h0.S ≤ R.slots) (kk : GW B M h0 p l e R s m args below meth c Q pc' ls' st' h') : GW B M h0 p l e R s m args below meth c Q pc ls st h := by
  intro H locs la hr hs hl n1 n2
  unfold nnew at hn
  split at hn
  · next hN =>
    obtain ⟨rfl, rfl, rfl, rfl⟩ := gt_inj hn
    obtain ⟨b1, C, T, b2, b3⟩ := kok_all M.cn _ (lk_mem hv)
    simp only at b1 b2 b3
    obtain ⟨g1, ty, g2, g3, g4, g5, g6⟩ := cok_of b1 b2
    have hKn := X.kd.1 ci _ b2
    have eN : (h.nw (16 + ci) (fno ci) (fno ci)).N - h0.N = h.N - h0.N + 1 := by show h.N + 1 - h0.N = _; omega
    have eS : (h.nw (16 + ci) (fno ci) (fno ci)).S - h0.S = h.S - h0.S + fno ci := by show h.S + fno ci - h0.S = _; omega
    rw [eN, eS] at hm
    refine W.newcK X.hx X.hb X.own (X.ts _ b3) (X.ts _ g5) (X.ts _ g6) rfl hd hm.1 hm.2 hKn.2.1 rfl fun H1 kC hkC e1 z1 o1 => ?_
    have hsz := rp_size hr hN
    obtain ⟨w1, w2, w3, w4, w5⟩ := nw_at (h := h) (16 + ci) (fno ci) (fno ci)
    have hat : va_at B.D clX (ra B h.N, cellOf B (h.nw (16 + ci) (fno ci) (fno ci)) h.N) H1 := by
      rw [cellOf, w1, if_neg (by omega), Nat.add_sub_cancel_left]
      refine ⟨_, b2, ?_⟩
      rw [← hsz]
      refine (u_born ty X.ts g1 hKn hkC e1 g2).to (fun j hj => ?_)
      show defaultValue (ty j) = vp_V (objOf B (h.nw (16 + ci) (fno ci) (fno ci)) h.N) j
      unfold vp_V
      rw [List.getD_eq_getElem?_getD, objOf_get w1 hj]
      show defaultValue (ty j) = cv B (fv (h.nw (16 + ci) (fno ci) (fno ci)) (fty ci j) h.N j)
      rcases g4 j hj with ⟨q1, q2⟩ | ⟨q1, q2⟩ | ⟨q1, q2⟩ | ⟨q1, q2⟩
      · rw [q1, q2]; show _ = cv B (.int _); rw [w3]; rfl
      · rw [q1, q2]; show _ = cv B (.int _); rw [w3]; rfl
      · rw [q1, q2]; show _ = cv B (.long _); rw [w4]; rfl
      · rw [q1]; show _ = cv B (va_rf _); rw [w5]
        rcases q2 with ⟨n, q2⟩ | ⟨n, q2⟩ <;> rw [q2] <;> rfl
    have k2 := kk H1 locs la (rp_new hr hN z1 o1 hat) (vs_new hs z1 o1) hl (by show h0.N ≤ h.N + 1; omega) (by show h0.S ≤ h.S + fno ci; omega)
    rw [eN, eS, List.map_cons, cv_ref (by omega), ← hsz] at k2
    exact k2
  · cases hn
theorem gw_newa {a : ArrayType} (X : Cx B M p s m args meth c) (hd : decode M.code pc = .ok (.newarray a, 2)) (hn : nna pc ls st h a = gt pc' ls' st' h') (hm : h'.N - h0.N ≤ R.cells ∧ h'.S - h0.S ≤ R.slots) (kk : GW B M h0 p l e R s m args below meth c Q pc' ls' st' h') : GW B M h0 p l e R s m args below meth c Q pc ls st h := by
  intro H locs la hr hs hl n1 n2
  unfold nna at hn
  split at hn
  · next n r =>
    split at hn
    · next hk =>
      obtain ⟨hn0, hn1, hk⟩ := hk
      unfold nnew at hn
      split at hn
      · next hN =>
        obtain ⟨rfl, rfl, rfl, rfl⟩ := gt_inj hn
        have hkd : (newarray.typeOf a = akT (akd a)) ∧ Cond.arrayClass (newarray.typeOf a) ∈ lw_all ∧ componentBytes (newarray.typeOf a) ≤ 8 ∧ (∀ cA : ClassId, s.vm.findClass ("[" ++ (newarray.typeOf a).toString) = some cA → cA = B.dA (akd a)) ∧ (∀ (h : Hp) (t : Nat), h.K t = akd a → (∀ k, h.I t k = 0) → (∀ k, h.J t k = 0) → avl B h t = fun _ => defaultValue (newarray.typeOf a)) := by
          have fc : ∀ kd : Nat, kd < 9 → ∀ cA : ClassId, (∀ (C : String), akT kd ≠ .object C) → s.vm.findClass ("[" ++ (akT kd).toString) = some cA → cA = B.dA kd := by
            intro kd hk cA hno hf
            have hRA := (X.kd.2 kd _ (tysX_at B hk)).2
            have h2 : s.vm.findClass ("[" ++ (akT kd).toString) = some (B.dA kd) := by
              revert hRA
              show va_RA s (B.dA kd) (akT kd) → _
              unfold va_RA
              split
              · next C e => exact absurd e (hno C)
              · exact fun z => z
            exact Option.some.inj (hf.symm.trans h2)
          have fi : ∀ (h : Hp) (t : Nat), h.K t ≤ 2 → (∀ k, h.I t k = 0) → avl B h t = fun _ => .int 0 := by
            intro h t a b
            rw [avl_i a]
            funext j
            rw [b]
          cases a
          case int => exact ⟨rfl, q245, by decide, fun cA z => fc 0 (by omega) cA (fun C z => by cases z) z, fun h t a b _ => fi h t (by rw [a]; decide) b⟩
          case byte => exact ⟨rfl, q322, by decide, fun cA z => fc 1 (by omega) cA (fun C z => by cases z) z, fun h t a b _ => fi h t (by rw [a]; decide) b⟩
          case boolean => exact ⟨rfl, q246, by decide, fun cA z => fc 2 (by omega) cA (fun C z => by cases z) z, fun h t a b _ => fi h t (by rw [a]; decide) b⟩
          case long => exact ⟨rfl, q247, by decide, fun cA z => fc 3 (by omega) cA (fun C z => by cases z) z, fun h t a b d => by rw [avl_l a]; funext j; rw [d]; rfl⟩
          all_goals exact absurd hk (by decide)
        obtain ⟨t1, t2, t3, t4, t5⟩ := hkd
        have eN : (h.nw (akd a) n.toNatClampNeg n.toNatClampNeg).N - h0.N = h.N - h0.N + 1 := by show h.N + 1 - h0.N = _; omega
        have eS : (h.nw (akd a) n.toNatClampNeg n.toNatClampNeg).S - h0.S = h.S - h0.S + n.toNatClampNeg := by show h.S + n.toNatClampNeg - h0.S = _; omega
        rw [eN, eS] at hm
        have hbytes : n.toNatClampNeg * componentBytes (newarray.typeOf a) ≤ 536870912 := Nat.le_trans (Nat.mul_le_mul hn1 t3) (by decide)
        rw [List.map_cons]
        refine W.newa X.hx X.hb (X.ts _ t2) rfl hd rfl (by rw [Int32.not_lt]; exact hn0) hbytes hm.1 hm.2 fun cA kA comp f1 f2 f3 => ?_
        have ecA := t4 cA f1
        subst ecA
        have hsz := rp_size hr hN
        obtain ⟨w1, w2, w3, w4, w5⟩ := nw_at (h := h) (akd a) n.toNatClampNeg n.toNatClampNeg
        rw [arrV_new]
        generalize hH1 : H.push (arrV (B.dA (akd a)) n.toNatClampNeg fun _ => defaultValue (newarray.typeOf a)) = H1
        have z1 : H1.size = H.size + 1 := by rw [← hH1, Array.size_push]
        have e1 : H1[H.size]? = some (arrV (B.dA (akd a)) n.toNatClampNeg fun _ => defaultValue (newarray.typeOf a)) := by rw [← hH1, Array.getElem?_push_size]
        have o1 : ∀ q : Nat, q < H.size → H1[q]? = H[q]? := fun q hq => by rw [← hH1, Array.getElem?_push, if_neg (Nat.ne_of_lt hq)]
        have hat : va_at B.D clX (ra B h.N, cellOf B (h.nw (akd a) n.toNatClampNeg n.toNatClampNeg) h.N) H1 := by
          rw [cellOf, w1, if_pos (by omega)]
          show H1[ra B h.N]? = some (vp_cell _ _)
          rw [← hsz, e1, arr_cell, w2, t5 _ _ w1 w3 w4]
        have k2 := kk H1 locs la (rp_new hr hN z1 o1 hat) (vs_new hs z1 o1) hl (by show h0.N ≤ h.N + 1; omega) (by show h0.S ≤ h.S + n.toNatClampNeg; omega)
        rw [eN, eS, List.map_cons, cv_ref (by omega), ← hsz] at k2
        exact k2
      · cases hn
    · cases hn
  · cases hn
theorem gw_anew {k : Nat} (X : Cx B M p s m args meth c) (hd : decode M.code pc = .ok (.anewarray k, 3)) (hn : naa M.cn pc k ls st h = gt pc' ls' st' h') (hm : h'.N - h0.N ≤ R.cells ∧ h'.S - h0.S ≤ R.slots) (kk : GW B M h0 p l e R s m args below meth c Q pc' ls' st' h') : GW B M h0 p l e R s m args below meth c Q pc ls st h := by
  intro H locs la hr hs hl n1 n2
  unfold naa at hn
  split at hn
  · next n r =>
    split at hn
    · next kd hv =>
      split at hn
      · next hk =>
        obtain ⟨hn0, hn1⟩ := hk
        unfold nnew at hn
        split at hn
        · next hN =>
          obtain ⟨rfl, rfl, rfl, rfl⟩ := gt_inj hn
          obtain ⟨b1, b2, C, b3, b4, b5⟩ := zok_all M.cn _ (lk_mem hv)
          simp only at b1 b2 b3 b4 b5
          have eN : (h.nw kd n.toNatClampNeg n.toNatClampNeg).N - h0.N = h.N - h0.N + 1 := by show h.N + 1 - h0.N = _; omega
          have eS : (h.nw kd n.toNatClampNeg n.toNatClampNeg).S - h0.S = h.S - h0.S + n.toNatClampNeg := by show h.S + n.toNatClampNeg - h0.S = _; omega
          rw [eN, eS] at hm
          rw [List.map_cons]
          refine W.anew X.hx X.hb X.own (X.ts _ b5) (va_AO.use (X.nw.2.2.1 _ b4)) rfl hd rfl (by rw [Int32.not_lt]; exact hn0) (by omega) hm.1 hm.2 fun cA kA comp f1 f2 f3 f4 => ?_
          have hRA := (X.kd.2 kd _ (tysX_at B (k := kd) (by omega))).2
          simp only [b3] at hRA
          obtain ⟨kA2, comp2, g1, g2, g3, g4⟩ := hRA
          have ecA : cA = B.dA kd := Option.some.inj (f1.symm.trans g4)
          subst ecA
          have hsz := rp_size hr hN
          obtain ⟨w1, w2, w3, w4, w5⟩ := nw_at (h := h) kd n.toNatClampNeg n.toNatClampNeg
          rw [arrV_new]
          generalize hH1 : H.push (arrV (B.dA kd) n.toNatClampNeg fun _ => .null) = H1
          have z1 : H1.size = H.size + 1 := by rw [← hH1, Array.size_push]
          have e1 : H1[H.size]? = some (arrV (B.dA kd) n.toNatClampNeg fun _ => .null) := by rw [← hH1, Array.getElem?_push_size]
          have o1 : ∀ q : Nat, q < H.size → H1[q]? = H[q]? := fun q hq => by rw [← hH1, Array.getElem?_push, if_neg (Nat.ne_of_lt hq)]
          have hat : va_at B.D clX (ra B h.N, cellOf B (h.nw kd n.toNatClampNeg n.toNatClampNeg) h.N) H1 := by
            rw [cellOf, w1, if_pos b2]
            show H1[ra B h.N]? = some (vp_cell _ _)
            rw [← hsz, e1, arr_cell, w2, avl_q (h := h.nw kd n.toNatClampNeg n.toNatClampNeg) (t := h.N) (by rw [w1]; exact b1)]
            congr 2
            funext j
            rw [w5]
            rfl
          have k2 := kk H1 locs la (rp_new hr hN z1 o1 hat) (vs_new hs z1 o1) hl (by show h0.N ≤ h.N + 1; omega) (by show h0.S ≤ h.S + n.toNatClampNeg; omega)
          rw [eN, eS, List.map_cons, cv_ref (by omega), ← hsz] at k2
          exact k2
        · cases hn
      · cases hn
    · cases hn
  · cases hn
theorem xw_copy {H : Heap} {locs : List Loc} {cells slots : Nat} {la : Array Slot} {rest : List Value} {cc : ByteArray} (hexec : p.tables.exec = Jvm.exec) (hb : c.code = cc) (hml : c.maxLocals = la.size) {own : String} {index : Nat} (hown : s.vm.findClass own = some m.cls) (hlink : (Cond.methodLink own index arraycopyName).before args s = true) (hnat : (Cond.native arraycopyName).before args s = true) (hstat : (Cond.static arraycopyName).before args s = true) (hini : (Cond.initialized "java/lang/System").before args s = true)
    {a a0 : Nat} {c0 c1 : ClassId} {n0 n1 : Nat} {f g : Nat → Int32} {ty : FieldType} (hc0 : H[a0]? = some (arrV c0 n0 (fun j => .int (f j)))) (hc1 : H[a]? = some (arrV c1 n1 (fun j => .int (g j)))) (ht0 : s.isArrayOf (arrV c0 n0 (fun j => .int (f j))) ty) (ht1 : s.isArrayOf (arrV c1 n1 (fun j => .int (g j))) ty) (hprim : refKind ty = false)
    {sp dp n : Int32} (h1 : ¬ sp < 0) (h2 : ¬ dp < 0) (h3 : ¬ n < 0) (h4 : sp.toNatClampNeg + n.toNatClampNeg ≤ n0) (h5 : dp.toNatClampNeg + n.toNatClampNeg ≤ n1) (hfit : ∀ i, i < n.toNatClampNeg → fits ty (.int (f (sp.toNatClampNeg + i))) = true)
    (hframes : 1 ≤ R.frames) (hlocals : (rest.map fun v => v.category).sum + (nativeFrameWords "java/lang/System" "arraycopy" 5 + 11) ≤ R.locals) (hdg : decode cc pc = .ok (.invokestatic index, 3))
    (kk : ∀ (H1 : Heap) (L : List Loc), (∀ q ∈ L, q.base = a) → H1[a]? = some (arrV c1 n1 (fun j => .int (va_cpy f g sp.toNatClampNeg dp.toNatClampNeg n.toNatClampNeg j))) → H1.size = H.size → (∀ q : Nat, q ≠ a → H1[q]? = H[q]?) → W p l e R s m args below meth c H1 (locs ++ L) cells slots Q (F0 m (pc + 3) la rest)) : W p l e R s m args below meth c H locs cells slots Q (F0 m pc la (.int n :: .int dp :: .ref a :: .int sp :: .ref a0 :: rest)) := by
  have nn : ∀ z : Int32, ¬ z < 0 → z.toInt = (z.toNatClampNeg : Int) := by
    intro z hz
    have hz0 : (0 : Int) ≤ z.toInt := by
      have := Int32.not_lt.mp hz
      simpa using Int32.le_iff_toInt_le.mp this
    show z.toInt = ((z.toInt.toNat : Nat) : Int)
    omega
  intro T hT X
  obtain ⟨-, k0, hk0, cm0, hkk0⟩ := ht0
  obtain ⟨-, k1, hk1, cm1, hkk1⟩ := ht1
  obtain ⟨vm', X', step⟩ := X.arraycopy hexec hown hlink hnat hstat hini (src := a0) (dst := a) (cs := arrV c0 n0 (fun j => .int (f j))) (cd := arrV c1 n1 (fun j => .int (g j))) (srcPos := sp) (destPos := dp) (n := n) (by rw [hT]; exact hc0) (by rw [hT]; exact hc1)
    (fun _ h => by cases h) (fun _ h => by cases h) (fun h => by cases h) (fun h => by cases h) hk0 hk1 hkk0 hkk1 (by simp [hprim]) h1 h2 h3
    (by rw [nn sp h1, nn n h3]; show ¬ _ > ((arrV c0 n0 (fun j => .int (f j))).slots.size : Int); rw [arrV_size]; omega)
    (by rw [nn dp h2, nn n h3]; show ¬ _ > ((arrV c1 n1 (fun j => .int (g j))).slots.size : Int); rw [arrV_size]; omega)
    (fun vm₁ _ i hi => by
      have e : (arrV c0 n0 (fun j => .int (f j))).slots.getD (sp.toNatClampNeg + i) .null = .int (f (sp.toNatClampNeg + i)) := by
        rw [Array.getD_eq_getD_getElem?, arrV_read _ _ (by omega)]
        rfl
      refine ⟨?_, ?_⟩
      · rw [e]
        exact hfit i hi
      · rw [e]
        exact trivial)
    (g := F0 m pc la (.int n :: .int dp :: .ref a :: .int sp :: .ref a0 :: rest)) rfl (by rw [hml]) (rest := rest) rfl (by rw [hb]; exact hdg) hframes (by show 2 * 0 + _ + _ ≤ _; omega)
  have e1 : copied (arrV c0 n0 (fun j => .int (f j))) (arrV c1 n1 (fun j => .int (g j))) sp dp n = arrV c1 n1 (fun j => .int (va_cpy f g sp.toNatClampNeg dp.toNatClampNeg n.toNatClampNeg j)) := va_copied (fun z => .int z) c0 c1 f g h4
  rw [e1] at X' step
  have hl : a < H.size := (Array.getElem?_eq_some_iff.mp hc1).1
  have hheap : ((T.setVm vm').setCell a (arrV c1 n1 (fun j => .int (va_cpy f g sp.toNatClampNeg dp.toNatClampNeg n.toNatClampNeg j)))).heap = H.setIfInBounds a (arrV c1 n1 (fun j => .int (va_cpy f g sp.toNatClampNeg dp.toNatClampNeg n.toNatClampNeg j))) := by rw [← hT]; rfl
  obtain ⟨t, a1, b1⟩ := kk _ _ (fun q hq => by
      obtain ⟨z, -, hz⟩ := List.mem_map.mp hq
      rw [← hz]) (show (H.setIfInBounds a _)[a]? = some _ by simp [Array.getElem?_setIfInBounds, hl]) (by simp) (fun q hq => by simp [Array.getElem?_setIfInBounds, Ne.symm hq]) _ hheap X'
  exact ⟨t, step t a1, b1⟩
theorem gw_copy {k : Nat} (X : Cx B M p s m args meth c) (hlink : Cond.methodLink (cnm M.cn) k arraycopyName ∈ lw_all) (hd : decode M.code pc = .ok (.invokestatic k, 3)) (hn : ncp pc ls st h = gt pc' ls' st' h') (hR : 1 ≤ R.frames ∧ 80 ≤ R.locals) (kk : GW B M h0 p l e R s m args below meth c Q pc' ls' st' h') : GW B M h0 p l e R s m args below meth c Q pc ls st h := by
  intro H locs la hr hs hl n1 n2
  unfold ncp at hn
  split at hn
  · next n dp d sp sr r =>
    by_cases hc : cpo h sr d sp dp n ∧ csum r ≤ 8
    · rw [if_pos hc] at hn
      obtain ⟨rfl, rfl, rfl, rfl⟩ := gt_inj hn
      obtain ⟨⟨c1, c2, c3, c4, c5, c6, c7, c8⟩, hsum⟩ := hc
      have hkd : ∃ kd : Nat, h.K sr = kd ∧ h.K d = kd ∧ kd ≤ 2 ∧ refKind (akT kd) = false ∧ ∀ i, i < n.toNatClampNeg → fits (akT kd) (.int (h.I sr (sp.toNatClampNeg + i))) = true := by
        rcases c8 with ⟨a1, a2⟩ | ⟨a1, a2, a3⟩
        · exact ⟨0, a1, a2, by omega, rfl, fun i hi => rfl⟩
        · refine ⟨2, a1, a2, by omega, rfl, fun i hi => ?_⟩
          rcases a3 i hi with q | q <;> rw [q] <;> rfl
      obtain ⟨kd, k1, k2, k3, k4, k5⟩ := hkd
      have ps : (1 : Nat) ≤ sr := c6
      have pd : (1 : Nat) ≤ d := c7
      have ls3 : sr < (3000000 : Nat) := Nat.lt_trans (rp_small hr (t := sr) (by omega)) (by omega)
      have ld3 : d < (3000000 : Nat) := Nat.lt_trans (rp_small hr (t := d) (by omega)) (by omega)
      have e0 := rp_cell hr k1 (by omega) ps
      have e1 := rp_cell hr k2 (by omega) pd
      rw [avl_i (h := h) (t := sr) (by omega)] at e0
      rw [avl_i (h := h) (t := d) (by omega)] at e1
      rw [List.map_cons, List.map_cons, List.map_cons, List.map_cons, List.map_cons, cv_ref ls3, cv_ref ld3]
      refine xw_copy X.hx X.hb (by rw [hl.1]; exact X.ml) X.own (X.ts _ hlink) (X.ts _ ac_nat) (X.ts _ ac_stat) (X.ts _ ac_ini) e0 e1 (X.arr (kd := kd) (by omega) _ _) (X.arr (kd := kd) (by omega) _ _) k4 (by rw [Int32.not_lt]; exact c1) (by rw [Int32.not_lt]; exact c2) (by rw [Int32.not_lt]; exact c3) c4 c5 k5 hR.1 ?_ hd (fun H1 L f1 f2 f3 f4 => ?_)
      · rw [cv_sum]
        have : nativeFrameWords "java/lang/System" "arraycopy" 5 + 11 ≤ 60 := by decide +kernel
        omega
      · have h999 : h.K d ≠ 999 := by omega
        have hra := rp_ra hr pd (hr.lt h999)
        have hat : va_at B.D clX (ra B d, cellOf B (h.sr d (va_cpy (h.I sr) (h.I d) sp.toNatClampNeg dp.toNatClampNeg n.toNatClampNeg)) d) H1 := by
          have eK : (h.sr d (va_cpy (h.I sr) (h.I d) sp.toNatClampNeg dp.toNatClampNeg n.toNatClampNeg)).K d = kd := k2
          rw [cellOf, eK, if_pos (by omega)]
          show H1[ra B d]? = some (vp_cell _ _)
          rw [f2, arr_cell, avl_i (h := h.sr d (va_cpy (h.I sr) (h.I d) sp.toNatClampNeg dp.toNatClampNeg n.toNatClampNeg)) (t := d) (by omega)]
          have eI : (h.sr d (va_cpy (h.I sr) (h.I d) sp.toNatClampNeg dp.toNatClampNeg n.toNatClampNeg)).I d = va_cpy (h.I sr) (h.I d) sp.toNatClampNeg dp.toNatClampNeg n.toNatClampNeg := if_pos rfl
          rw [eI]
          rfl
        refine kk H1 (locs ++ L) la (rp_upd hr h999 pd f3 f4 rfl rfl rfl (fun t' z => if_neg z) (fun _ _ => rfl) (fun _ _ => rfl) hat) ⟨by rw [f3]; exact hs.1, fun q g1 g2 => ?_, fun q hq => ?_⟩ hl n1 n2
        · rw [f4 q (fun z => g2 (show B.base < q by rw [z, hra]; omega))]
          exact hs.2.1 q g1 g2
        · rcases List.mem_append.mp hq with w | w
          · exact hs.2.2 q w
          · rw [f1 q w]
            show B.base < ra B d
            rw [hra]
            omega
    · rw [if_neg hc] at hn
      cases hn
  · cases hn
end SN
