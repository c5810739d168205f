/-! ===== constants, fields ===== -/
set_option maxRecDepth 100000
/-- a String constant by the wide form -/
theorem va_ldcSw {p : Program} {l : Launch} {e : Env} {R : Room} {s : State} {m : MethodId} {args : Array Value} {below : List Frame} {meth : Method} {c : Code} {H : Heap} {locs : List Loc} {cells slots pc : Nat} {Q : State → Prop} {ls : Array Slot} {rest : List Value} {cc : ByteArray} (hexec : p.tables.exec = Jvm.exec) (hb : c.code = cc) {own tx : String} {index q : Nat} (hown : s.vm.findClass own = some m.cls) (hZ : vk_R own index tx q s) (hdg : decode cc pc = .ok (.ldc_w index, 3))
    (kk : W p l e R s m args below meth c H locs cells slots Q (F0 m (pc + 3) ls (.ref q :: rest))) : W p l e R s m args below meth c H locs cells slots Q (F0 m pc ls rest) := by
  intro T hT X
  obtain ⟨t, a1, b1⟩ := kk T hT X
  obtain ⟨k, cf, i, a', hk, hcf, hcp, -, hr, hev'⟩ := Cond.stringRef_spec hown hZ.1
  cases hZ.2.symm.trans hev'
  obtain ⟨k', hk', he⟩ := X.warmed.alike.2.2 _ _ hk
  have hr' : k'.resolved[index]? = some (some (.string q)) := by
    rcases X.warmed.entry hk hk' index with h | ⟨h, -⟩
    · rw [h]; exact hr
    · rw [hr] at h; cases h
  have hrun : ∀ target, Steps p.tables e below (T.setTop (F0 m (pc + 3) ls (.ref q :: rest))) target → Steps p.tables e below (T.setTop (F0 m pc ls rest)) target := by
    intro target hrest
    jvm_step X.here [hexec, (show decode c.code (F0 m pc ls rest).pc = .ok (.ldc_w index, 3) by rw [hb]; exact hdg), ldc_w.wp_string (e := e) (s := T) (f := F0 m pc ls rest) X.here.top hk' (by rw [he]; exact hcf) hcp hr']
    exact hrest
  exact ⟨t, hrun t a1, b1⟩
section SN
variable {B : Bs} {M : MR} {h0 : Hp} {p : Program} {l : Launch} {e : Env} {R : Room} {s : State} {m : MethodId} {args : Array Value} {below : List Frame} {meth : Method} {c : Code} {Q : State → Prop}
variable {pc : Nat} {ls : Lc} {st : List Value} {h : Hp} {pc' : Nat} {ls' : Lc} {st' : List Value} {h' : Hp}
theorem Cx.hx (X : Cx B M p s m args meth c) : p.tables.exec = Jvm.exec := X.1
theorem Cx.hb (X : Cx B M p s m args meth c) : c.code = M.code := X.2.1
theorem Cx.ret (X : Cx B M p s m args meth c) : meth.sig.returnType = M.ret := X.2.2.1
theorem Cx.locks (X : Cx B M p s m args meth c) : meth.locks = false := X.2.2.2.1
theorem Cx.ml (X : Cx B M p s m args meth c) : c.maxLocals = M.mx := X.2.2.2.2.1
theorem Cx.own (X : Cx B M p s m args meth c) : s.vm.findClass (cnm M.cn) = some m.cls := X.2.2.2.2.2.1
theorem Cx.ts (X : Cx B M p s m args meth c) : ∀ w ∈ lw_all, w.before args s = true := X.2.2.2.2.2.2.1
theorem Cx.nm (X : Cx B M p s m args meth c) : meth.name = M.y.name := X.2.2.2.2.2.2.2.1
theorem Cx.kd (X : Cx B M p s m args meth c) : va_K B.D clX (tysX B) s := X.2.2.2.2.2.2.2.2.1
theorem Cx.ex (X : Cx B M p s m args meth c) : EX B s s.heap := X.2.2.2.2.2.2.2.2.2.1
theorem Cx.nw (X : Cx B M p s m args meth c) : NW s := X.2.2.2.2.2.2.2.2.2.2.1
theorem Cx.base (X : Cx B M p s m args meth c) : B.base < s.heap.size := X.2.2.2.2.2.2.2.2.2.2.2.1
theorem Cx.tab (X : Cx B M p s m args meth c) : c.exceptionTable.toList = M.hh.map (fun e => (⟨e.1, e.2.1, e.2.2.1, e.2.2.2⟩ : ExceptionTableEntry)) := X.2.2.2.2.2.2.2.2.2.2.2.2
theorem Cx.up (X : Cx B M p s m args meth c) : ∀ q : Nat, s.heap.size ≤ q → AA B q := fun q hq => Nat.lt_of_lt_of_le X.base hq
theorem str_ix {t : Nat} (h : 1000000 ≤ t ∧ t < 1000039) : ∃ i : Nat, i < 39 ∧ t = 1000000 + i := ⟨t - 1000000, by omega, by omega⟩
theorem cv_str {i : Nat} (h : i < 39) : cv B (.ref (1000000 + i)) = .ref (B.sA i) := by
  rw [cv_ref (by omega), ra, if_neg (by omega), if_neg (by omega), if_pos (by omega), Nat.add_sub_cancel_left]
theorem cv_byt {i : Nat} (h : i < 39) : cv B (.ref (2000000 + i)) = .ref (B.sV i) := by
  rw [cv_ref (by omega), ra, if_neg (by omega), if_neg (by omega), if_neg (by omega), Nat.add_sub_cancel_left]
theorem gw_ldcI {k n : Nat} {v : Int32} (X : Cx B M p s m args meth c) (hv : lk (kitab M.cn) k = some v) (hd : (n = 2 ∧ decode M.code pc = .ok (.ldc k, 2)) ∨ (n = 3 ∧ decode M.code pc = .ok (.ldc_w k, 3))) (kk : GW B M h0 p l e R s m args below meth c Q (pc + n) ls (.int v :: st) h) : GW B M h0 p l e R s m args below meth c Q pc ls st h := by
  intro H locs la hr hs hl n1 n2
  have hc := X.ts _ (iok_all M.cn _ (lk_mem hv))
  rcases hd with ⟨rfl, hd⟩ | ⟨rfl, hd⟩
  · exact lv_ldc X.hx X.hb X.own hc hd (kk H locs la hr hs hl n1 n2)
  · exact lv_ldcw X.hx X.hb X.own hc hd (kk H locs la hr hs hl n1 n2)
theorem gw_ldcL {k : Nat} {v : Int64} (X : Cx B M p s m args meth c) (hv : lk (kltab M.cn) k = some v) (hd : decode M.code pc = .ok (.ldc2_w k, 3)) (kk : GW B M h0 p l e R s m args below meth c Q (pc + 3) ls (.long v :: st) h) : GW B M h0 p l e R s m args below meth c Q pc ls st h := by
  intro H locs la hr hs hl n1 n2
  exact lv_ldc2 X.hx X.hb X.own (X.ts _ (lok_all M.cn _ (lk_mem hv))) hd (kk H locs la hr hs hl n1 n2)
theorem gw_ldcS {k i : Nat} (X : Cx B M p s m args meth c) (hv : lk (kstab M.cn) k = some i) (hd : decode M.code pc = .ok (.ldc k, 2)) (kk : GW B M h0 p l e R s m args below meth c Q (pc + 2) ls (.ref (1000000 + i) :: st) h) : GW B M h0 p l e R s m args below meth c Q pc ls st h := by
  intro H locs la hr hs hl n1 n2
  obtain ⟨a1, a2, a3⟩ := sok_all M.cn _ (lk_mem hv)
  have hz := (X.ex.2.2.1 i a1).2.2.2.2
  rw [a2, a3] at hz
  have e2 : cv B (.ref (1000000 + i)) = .ref (B.sA i) := by
    rw [cv_ref (by omega), ra, if_neg (by omega), if_neg (by omega), if_pos (by omega), Nat.add_sub_cancel_left]
  have k2 := kk H locs la hr hs hl n1 n2
  rw [List.map_cons, e2] at k2
  exact va_ldcS X.hx X.hb X.own hz hd k2
theorem gw_ldcSw {k i : Nat} (X : Cx B M p s m args meth c) (hv : lk (kstab M.cn) k = some i) (hd : decode M.code pc = .ok (.ldc_w k, 3)) (kk : GW B M h0 p l e R s m args below meth c Q (pc + 3) ls (.ref (1000000 + i) :: st) h) : GW B M h0 p l e R s m args below meth c Q pc ls st h := by
  intro H locs la hr hs hl n1 n2
  obtain ⟨a1, a2, a3⟩ := sok_all M.cn _ (lk_mem hv)
  have hz := (X.ex.2.2.1 i a1).2.2.2.2
  rw [a2, a3] at hz
  have e2 : cv B (.ref (1000000 + i)) = .ref (B.sA i) := by
    rw [cv_ref (by omega), ra, if_neg (by omega), if_neg (by omega), if_pos (by omega), Nat.add_sub_cancel_left]
  have k2 := kk H locs la hr hs hl n1 n2
  rw [List.map_cons, e2] at k2
  exact va_ldcSw X.hx X.hb X.own hz hd k2
theorem gw_gets {k : Nat} {v : Value} (X : Cx B M p s m args meth c) (hv : lk (xstab M.cn) k = some v) (hd : decode M.code pc = .ok (.getstatic k, 3)) (kk : GW B M h0 p l e R s m args below meth c Q (pc + 3) ls (v :: st) h) : GW B M h0 p l e R s m args below meth c Q pc ls st h := by
  intro H locs la hr hs hl n1 n2
  obtain ⟨C, n, d, a1, a2⟩ := tok_all M.cn _ (lk_mem hv)
  exact va_gets X.hx X.hb (X.ex.2.2.2 _ a1) hs X.own (X.ts _ a2) (fun _ z => z) hd (kk H locs la hr hs hl n1 n2)
/-- a class of the heap, by its place -/
theorem cok_of {ci : Nat} {C : String} {T : u_T} (hc : ci < 14) (hcl : clX[ci]? = some (C, T, fno ci)) : (∀ w ∈ u_ws C T (fno ci), w ∈ lw_all) ∧ ∃ ty : Nat → FieldType, (∀ k, k < fno ci → parseFieldDescriptor (T k).2.2.1 = some (ty k)) ∧ (∀ a, a < fno ci → ∀ b, b < fno ci → a ≠ b → (T a).2.1 ≠ (T b).2.1) ∧ (∀ k, k < fno ci → (fty ci k = 0 ∧ ty k = .int) ∨ (fty ci k = 1 ∧ ty k = .boolean) ∨ (fty ci k = 2 ∧ ty k = .long) ∨ (fty ci k = 3 ∧ ((∃ n, ty k = .object n) ∨ ∃ t, ty k = .array t))) ∧ Cond.instantiable C (fno ci) ∈ lw_all ∧ Cond.initialized C ∈ lw_all := by
  obtain ⟨C2, T2, ty, a1, a2, a3, a4, a5, a6, a7, -⟩ := cok_all ci hc
  have e := Option.some.inj (a1.symm.trans hcl)
  have e1 : C2 = C := congrArg (·.1) e
  have e2 : T2 = T := congrArg (·.2.1) e
  subst e1; subst e2
  exact ⟨a2, ty, a3, a4, a5, a6, a7⟩
theorem nw_fld (X : Cx B M p s m args meth c) {own ref n d host : String} {idx : Nat} (hm : (own, idx, ref, n, d, host) ∈ nwF) : (Cond.fieldLinkNest own idx ref n d host).before args s = true := va_Nw.use rfl (X.nw.1 _ hm)
theorem gw_getf {k : Nat} (X : Cx B M p s m args meth c) (hd : decode M.code pc = .ok (.getfield k, 3)) (hn : ngf M.cn pc k ls st h = gt pc' ls' st' h') (kk : GW B M h0 p l e R s m args below meth c Q pc' ls' st' h') : GW B M h0 p l e R s m args below meth c Q pc ls st h := by
  intro H locs la hr hs hl n1 n2
  unfold ngf at hn
  split at hn
  · next t r =>
    split at hn
    · next ci f w hlk =>
      split at hn
      · next hk =>
        obtain ⟨rfl, rfl, rfl, rfl⟩ := gt_inj hn
        obtain ⟨b1, b2, b3, C, T, b4, b5, b6, b7⟩ := fok_all M.cn _ (lk_mem hlk)
        simp only at b1 b2 b3 b4 b5 b6 b7
        obtain ⟨g1, ty, g2, g3, g4, g5, g6⟩ := cok_of b1 b4
        have hP := rp_obj hr hk b1
        have hlt : t < 3000000 := Nat.lt_trans (rp_small hr (t := t) (by omega)) (by omega)
        have k2 := kk H locs la hr hs hl n1 n2
        rw [List.map_cons] at k2
        rw [List.map_cons, cv_ref hlt]
        rcases b7 with q | ⟨host, q⟩
        · exact va_get (ref := (T f).1) X.hx X.hb X.ts g1 X.own X.kd hP 0 rfl b4 f b2 (X.ts _ q) (fun _ z => z) (objOf_get hk b2) hd k2
        · exact va_getN (ref := (T f).1) X.hx X.hb X.ts g1 X.own X.kd hP 0 rfl b4 f b2 (nw_fld X q) (fun _ z => z) (objOf_get hk b2) hd k2
      · cases hn
    · split at hn
      · next hx =>
        split at hn
        · next ht =>
          obtain ⟨rfl, rfl, rfl, rfl⟩ := gt_inj hn
          obtain ⟨i, hi39, hi⟩ := str_ix ht
          rcases xok_all M.cn _ (lk_mem hx) with ⟨z, q⟩ | ⟨z, q⟩
          · subst hi
            have hz := (X.ex.2.2.1 i hi39).2.2.1
            have k2 := kk H locs la hr hs hl n1 n2
            have e1 : cv B (.ref (1000000 + i)) = .ref (B.sA i) := cv_str hi39
            have e2 : cv B (.ref (1000000 + i + 1000000)) = .ref (B.sV i) := by
              rw [show 1000000 + i + 1000000 = 2000000 + i by omega]
              exact cv_byt hi39
            rw [List.map_cons, e2] at k2
            rw [List.map_cons, e1]
            exact vk_getf X.hx X.hb hz hs X.own (X.ts _ q) (fun _ z => z) hd k2
          · cases z
        · cases hn
      · next j hj hx =>
        split at hn
        · next ht =>
          obtain ⟨rfl, rfl, rfl, rfl⟩ := gt_inj hn
          obtain ⟨i, hi39, hi⟩ := str_ix ht
          rcases xok_all M.cn _ (lk_mem hx) with ⟨z, q⟩ | ⟨z, q⟩
          · exact absurd z hj
          · subst hi
            have hz := (X.ex.2.2.1 i hi39).2.1
            have k2 := kk H locs la hr hs hl n1 n2
            have e1 : cv B (.ref (1000000 + i)) = .ref (B.sA i) := cv_str hi39
            rw [List.map_cons] at k2
            rw [List.map_cons, e1]
            exact vk_getf X.hx X.hb hz hs X.own (X.ts _ q) (fun _ z => z) hd k2
        · cases hn
      · cases hn
  · cases hn
/-- a field is written: the three rows, with what they do to the heap -/
theorem xw_put {H : Heap} {locs : List Loc} {cells slots : Nat} {la : Array Slot} {rest : List Value} {D : va_G} {cl : List vw_C} {tys : List (ClassId × FieldType)} {a : Nat} {own C : String} {T : u_T} {N ci index : Nat} {cc : ByteArray} (hexec : p.tables.exec = Jvm.exec) (hb : c.code = cc) (hts : ∀ w ∈ lw_all, w.before args s = true) (hin : ∀ w ∈ u_ws C T N, w ∈ lw_all) (ty0 : Nat → FieldType) (hty : ∀ k, k < N → parseFieldDescriptor (T k).2.2.1 = some (ty0 k)) (hnm : ∀ a, a < N → ∀ b, b < N → a ≠ b → (T a).2.1 ≠ (T b).2.1) (hown : s.vm.findClass own = some m.cls) (hK : va_K D cl tys s) {fs : List Value} (hat : va_at D cl (a, .inr (ci, fs)) H) (hc : cl[ci]? = some (C, T, N)) (k : Nat) (hk : k < N)
    (hw : ((T k).2.2.2 = false ∧ ((Cond.fieldLink own index (T k).1 (T k).2.1 (T k).2.2.1).before args s = true ∨ ∃ host, (Cond.fieldLinkNest own index (T k).1 (T k).2.1 (T k).2.2.1 host).before args s = true)) ∨ ((T k).2.2.2 = true ∧ meth.name = "<init>" ∧ (T k).1 = own ∧ (Cond.fieldLink own index (T k).1 (T k).2.1 (T k).2.2.1).before args s = true))
    {ty : FieldType} {v : Value} (hd : parseFieldDescriptor (T k).2.2.1 = some ty) (hn : narrow ty v = v) (hfit : fits ty v = true) (hl : k < fs.length)
    (hdg : decode cc pc = .ok (.putfield index, 3)) (kk : ∀ (H1 : Heap) (lc : Loc), lc.base = a → va_at D cl (a, .inr (ci, fs.set k v)) H1 → H1.size = H.size → (∀ q : Nat, q ≠ a → H1[q]? = H[q]?) → W p l e R s m args below meth c H1 (locs ++ [lc]) cells slots Q (F0 m (pc + 3) la rest)) : W p l e R s m args below meth c H locs cells slots Q (F0 m pc la (v :: .ref a :: rest)) := by
  have hap := va_apart (own := own) hts hin ty0 hty hnm hK hc
  obtain ⟨r, h1, cell, q1, q2, q3, q4⟩ := hat
  have hr : r = (C, T, N) := Option.some.inj (h1.symm.trans hc)
  subst hr
  obtain ⟨hS, hfc, kC, hkC, hkind⟩ := hK.1 ci _ hc
  obtain ⟨cf, kf, fi, f, hi, hsl⟩ := hS k hk
  have hlay := hts _ (hin _ (u_in_lay hk))
  unfold u_lay at hlay
  have hst := (u_facts hfc hkC (u_lays hts hin hk) hi).1
  rcases hw with ⟨hfin, hw⟩ | ⟨hfin, hin2, hdecl, hlink⟩
  · rw [if_neg (by rw [hfin]; decide)] at hlay
    have h6 := u_store hfc hkC hkind hlay hi hd hn hfit
    rcases hw with hlink | ⟨host, hlink⟩
    · refine W.putK hexec hb (f := f) ⟨hown, hlink, ⟨_, _, _, hi⟩, hst⟩ (by rw [q2]; exact h6) q1 q3 (by rw [hsl]; exact k2_hasslot (q4 k hk)) rfl rfl hdg fun H' e1 e2 e3 => ?_
      rw [hsl] at e1 ⊢
      exact kk H' _ rfl ⟨_, hc, t_OB.to (V := updV (vp_V fs) k v) ⟨_, e1, q2, q3, t_set q4 hap hk v⟩ (fun j _ => vp_updV_set hl v j)⟩ e2 e3
    · refine va_WputK hexec hb (f := f) hown hlink hi hst (by rw [q2]; exact h6) q1 q3 (by rw [hsl]; exact k2_hasslot (q4 k hk)) rfl rfl hdg fun H' e1 e2 e3 => ?_
      rw [hsl] at e1 ⊢
      exact kk H' _ rfl ⟨_, hc, t_OB.to (V := updV (vp_V fs) k v) ⟨_, e1, q2, q3, t_set q4 hap hk v⟩ (fun j _ => vp_updV_set hl v j)⟩ e2 e3
  · rw [if_pos hfin] at hlay
    have hcf : m.cls = cf := by
      obtain ⟨_, _, c', _, _, _, -, -, hf', -, -, -, hown2, -⟩ := Cond.laysFinal_spec hlay
      have e1 : c' = cf := by have := hi.symm.trans hf'; simp at this; exact this.1.symm
      rw [hdecl] at hown2
      rw [← e1]; exact Option.some.inj (hown.symm.trans hown2)
    have h6 := u_fits hfc hkC hkind (Or.inr hlay) hi hd hn hfit
    refine W.putFinK hexec hb hown hlink hi hst hcf hin2 (by rw [q2]; exact h6) q1 q3 (by rw [hsl]; exact k2_hasslot (q4 k hk)) rfl rfl hdg fun H' e1 e2 e3 => ?_
    rw [hsl] at e1 ⊢
    exact kk H' _ rfl ⟨_, hc, t_OB.to (V := updV (vp_V fs) k v) ⟨_, e1, q2, q3, t_set q4 hap hk v⟩ (fun j _ => vp_updV_set hl v j)⟩ e2 e3
/-- what a written value is: its type, and what the object holds then -/
theorem fp_spec {ty t k ci : Nat} {v : Value} {tys : Nat → FieldType} (hp : fp h ty t k v = some h') (hty : fty ci k = ty) (hkd : h.K t = 16 + ci) (htk : (fty ci k = 0 ∧ tys k = .int) ∨ (fty ci k = 1 ∧ tys k = .boolean) ∨ (fty ci k = 2 ∧ tys k = .long) ∨ (fty ci k = 3 ∧ ((∃ n, tys k = .object n) ∨ ∃ t, tys k = .array t))) :
    narrow (tys k) (cv B v) = cv B v ∧ fits (tys k) (cv B v) = true ∧ h'.N = h.N ∧ h'.S = h.S ∧ h'.K = h.K ∧ h'.L = h.L ∧ (∀ t', t' ≠ t → h'.I t' = h.I t') ∧ (∀ t', t' ≠ t → h'.J t' = h.J t') ∧ (∀ t', t' ≠ t → h'.P t' = h.P t') ∧ objOf B h' t = (objOf B h t).set k (cv B v) := by
  have hob : ∀ h' : Hp, h'.K = h.K → (∀ j, j ≠ k → fv h' (fty ci j) t j = fv h (fty ci j) t j) → cv B (fv h' (fty ci k) t k) = cv B v → objOf B h' t = (objOf B h t).set k (cv B v) := by
    intro h2 e1 e2 e3
    apply List.ext_getElem?
    intro j
    unfold objOf
    rw [e1, hkd, Nat.add_sub_cancel_left, List.getElem?_map, List.getElem?_set]
    by_cases hj : j < fno ci
    · rw [List.getElem?_range hj]
      by_cases e : k = j
      · subst e
        rw [if_pos rfl, if_pos (by simpa using hj)]
        exact congrArg some e3
      · rw [if_neg e, List.getElem?_map, List.getElem?_range hj]
        exact congrArg some (congrArg (cv B) (e2 j (fun z => e z.symm)))
    · rw [List.getElem?_eq_none (by simpa using hj)]
      by_cases e : k = j
      · subst e
        rw [if_pos rfl, if_neg (by simpa using hj)]
        rfl
      · rw [if_neg e, List.getElem?_eq_none (by simpa using hj)]
        rfl
  have hi : ∀ x : Int32, (∀ t', t' ≠ t → (h.si t k x).I t' = h.I t') ∧ ∀ j, j ≠ k → ∀ ty, fv (h.si t k x) ty t j = fv h ty t j := by
    intro x
    have a : ∀ t' j, ¬ (t' = t ∧ j = k) → (h.si t k x).I t' j = h.I t' j := fun t' j z => if_neg z
    refine ⟨fun t' z => funext fun j => a t' j (fun q => z q.1), fun j z ty => ?_⟩
    unfold fv
    rw [a t j (fun q => z q.2)]
    rfl
  have hj : ∀ x : Int64, (∀ t', t' ≠ t → (h.sj t k x).J t' = h.J t') ∧ ∀ j, j ≠ k → ∀ ty, fv (h.sj t k x) ty t j = fv h ty t j := by
    intro x
    have a : ∀ t' j, ¬ (t' = t ∧ j = k) → (h.sj t k x).J t' j = h.J t' j := fun t' j z => if_neg z
    refine ⟨fun t' z => funext fun j => a t' j (fun q => z q.1), fun j z ty => ?_⟩
    unfold fv
    rw [a t j (fun q => z q.2)]
    rfl
  have hpp : ∀ x : Option Nat, (∀ t', t' ≠ t → (h.sp t k x).P t' = h.P t') ∧ ∀ j, j ≠ k → ∀ ty, fv (h.sp t k x) ty t j = fv h ty t j := by
    intro x
    have a : ∀ t' j, ¬ (t' = t ∧ j = k) → (h.sp t k x).P t' j = h.P t' j := fun t' j z => if_neg z
    refine ⟨fun t' z => funext fun j => a t' j (fun q => z q.1), fun j z ty => ?_⟩
    unfold fv
    rw [a t j (fun q => z q.2)]
    rfl
  unfold fp at hp
  split at hp
  · next x =>
    cases hp
    rcases htk with ⟨q1, q2⟩ | ⟨q1, q2⟩ | ⟨q1, q2⟩ | ⟨q1, q2⟩
    · rw [q2]
      refine ⟨rfl, rfl, rfl, rfl, rfl, rfl, (hi x).1, fun _ _ => rfl, fun _ _ => rfl, hob _ rfl (fun j z => (hi x).2 j z _) ?_⟩
      rw [q1]
      show cv B (.int ((h.si t k x).I t k)) = cv B (.int x)
      rw [show (h.si t k x).I t k = x from if_pos ⟨rfl, rfl⟩]
    all_goals (rw [hty] at q1; cases q1)
  · next x =>
    split at hp
    · next hx =>
      cases hp
      rcases htk with ⟨q1, q2⟩ | ⟨q1, q2⟩ | ⟨q1, q2⟩ | ⟨q1, q2⟩
      · rw [hty] at q1; cases q1
      · rw [q2]
        refine ⟨?_, ?_, rfl, rfl, rfl, rfl, (hi x).1, fun _ _ => rfl, fun _ _ => rfl, hob _ rfl (fun j z => (hi x).2 j z _) ?_⟩
        · rcases hx with rfl | rfl <;> rfl
        · rcases hx with rfl | rfl <;> rfl
        · rw [q1]
          show cv B (.int ((h.si t k x).I t k)) = cv B (.int x)
          rw [show (h.si t k x).I t k = x from if_pos ⟨rfl, rfl⟩]
      · rw [hty] at q1; cases q1
      · rw [hty] at q1; cases q1
    · cases hp
  · next x =>
    cases hp
    rcases htk with ⟨q1, q2⟩ | ⟨q1, q2⟩ | ⟨q1, q2⟩ | ⟨q1, q2⟩
    · rw [hty] at q1; cases q1
    · rw [hty] at q1; cases q1
    · rw [q2]
      refine ⟨rfl, rfl, rfl, rfl, rfl, rfl, fun _ _ => rfl, (hj x).1, fun _ _ => rfl, hob _ rfl (fun j z => (hj x).2 j z _) ?_⟩
      rw [q1]
      show cv B (.long ((h.sj t k x).J t k)) = cv B (.long x)
      rw [show (h.sj t k x).J t k = x from if_pos ⟨rfl, rfl⟩]
    · rw [hty] at q1; cases q1
  · next q =>
    cases hp
    rcases htk with ⟨q1, q2⟩ | ⟨q1, q2⟩ | ⟨q1, q2⟩ | ⟨q1, q2⟩
    · rw [hty] at q1; cases q1
    · rw [hty] at q1; cases q1
    · rw [hty] at q1; cases q1
    · refine ⟨?_, ?_, rfl, rfl, rfl, rfl, fun _ _ => rfl, fun _ _ => rfl, (hpp (some q)).1, hob _ rfl (fun j z => (hpp (some q)).2 j z _) ?_⟩
      · show narrow (tys k) (va_rf (oa B q)) = va_rf (oa B q)
        rcases q2 with ⟨n, q2⟩ | ⟨n, q2⟩ <;> rw [q2] <;> cases oa B q <;> rfl
      · show fits (tys k) (va_rf (oa B q)) = true
        rcases q2 with ⟨n, q2⟩ | ⟨n, q2⟩ <;> rw [q2] <;> cases oa B q <;> rfl
      · rw [q1]
        show cv B (va_rf ((h.sp t k (some q)).P t k)) = cv B (.ref q)
        rw [show (h.sp t k (some q)).P t k = some q from if_pos ⟨rfl, rfl⟩]
        rfl
  · cases hp
    rcases htk with ⟨q1, q2⟩ | ⟨q1, q2⟩ | ⟨q1, q2⟩ | ⟨q1, q2⟩
    · rw [hty] at q1; cases q1
    · rw [hty] at q1; cases q1
    · rw [hty] at q1; cases q1
    · refine ⟨?_, ?_, rfl, rfl, rfl, rfl, fun _ _ => rfl, fun _ _ => rfl, (hpp none).1, hob _ rfl (fun j z => (hpp none).2 j z _) ?_⟩
      · rcases q2 with ⟨n, q2⟩ | ⟨n, q2⟩ <;> rw [q2] <;> rfl
      · rcases q2 with ⟨n, q2⟩ | ⟨n, q2⟩ <;> rw [q2] <;> rfl
      · rw [q1]
        show cv B (va_rf ((h.sp t k none).P t k)) = cv B .null
        rw [show (h.sp t k none).P t k = none from if_pos ⟨rfl, rfl⟩]
        rfl
  · cases hp
theorem gw_putf {k : Nat} (X : Cx B M p s m args meth c) (hd : decode M.code pc = .ok (.putfield k, 3)) (hn : npf M.cn (decide (M.y.name = "<init>")) pc k ls st h = gt pc' ls' st' h') (kk : GW B M h0 p l e R s m args below meth c Q pc' ls' st' h') : GW B M h0 p l e R s m args below meth c Q pc ls st h := by
  intro H locs la hr hs hl n1 n2
  unfold npf at hn
  split at hn
  · next v t r =>
    split at hn
    · next ci f w hlk =>
      split at hn
      · next hk =>
        obtain ⟨hk, hw⟩ := hk
        split at hn
        · next h2 hp =>
          obtain ⟨rfl, rfl, rfl, rfl⟩ := gt_inj hn
          obtain ⟨b1, b2, b3, C, T, b4, b5, b6, b7⟩ := fok_all M.cn _ (lk_mem hlk)
          simp only at b1 b2 b3 b4 b5 b6 b7
          obtain ⟨g1, ty, g2, g3, g4, g5, g6⟩ := cok_of b1 b4
          obtain ⟨f1, f2, f3, f4, f5, f6, f7, f8, f9, f10⟩ := fp_spec (B := B) (tys := ty) hp rfl hk (g4 f b2)
          have hat := rp_at0 (rp_obj hr hk b1)
          have h999 : h.K t ≠ 999 := by omega
          have hpos := hr.pos (t := t) (by omega)
          have hlt : t < 3000000 := Nat.lt_trans (rp_small hr h999) (by omega)
          rw [List.map_cons, List.map_cons, cv_ref hlt]
          refine xw_put X.hx X.hb X.ts g1 ty g2 g3 X.own X.kd hat b4 f b2 ?_ (g2 f b2) f1 f2 (by rw [objOf, hk, Nat.add_sub_cancel_left]; simpa using b2) hd (fun H1 lc hlc e1 e2 e3 => ?_)
          · rcases hw with hw | ⟨hw, hin⟩
            · refine Or.inl ⟨b5 hw, ?_⟩
              rcases b7 with q | ⟨host, q⟩
              · exact Or.inl (X.ts _ q)
              · exact Or.inr ⟨host, nw_fld X q⟩
            · obtain ⟨c1, c2, c3⟩ := b6 hw
              exact Or.inr ⟨c1, X.nm.trans (of_decide_eq_true hin), c2, X.ts _ c3⟩
          · have hra := rp_ra hr hpos (hr.lt h999)
            have hcell : cellOf B h2 t = .inr (ci, (objOf B h t).set f (cv B v)) := by
              rw [cellOf, f5, if_neg (by omega), hk, Nat.add_sub_cancel_left, f10]
            have k2 := kk H1 (locs ++ [lc]) la (rp_upd hr h999 hpos e2 e3 f3 f5 f6 f7 f8 f9 (by rw [hcell]; exact e1)) (by obtain ⟨lb, li⟩ := lc; cases hlc; exact hs.put e2 e3 (show B.base < ra B t by rw [hra]; omega)) hl (by rw [f3]; exact n1) (by rw [f4]; exact n2)
            rw [f3, f4] at k2
            exact k2
        · cases hn
      · cases hn
    · cases hn
  · cases hn
end SN
