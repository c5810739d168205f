/-! ===== the machine's instructions against the abstract ones: locals, jumps, constants, fields, arrays, new cells ===== -/
set_option maxRecDepth 100000
section SN
variable {B : Bs} {M : MR} {h0 : Hp} {p : Program} {l : Launch} {e : Env} {R : Room} {s : State} {m : MethodId} {args : Array Value} {below : List Frame} {meth : Method} {c : Code} {Q : State → Prop}
variable {pc : Nat} {ls : Lc} {st : List Value} {h : Hp} {pc' : Nat} {ls' : Lc} {st' : List Value} {h' : Hp}
theorem gw_nld {n i ty : Nat} (X : Cx B M p s m args meth c) (hi : ∀ (x : Int32), ty = 0 → ∀ (la : Array Slot) (H : Heap) (locs : List Loc) (a b : Nat) (r : List Value), la[i]? = some (.val (.int x)) → W p l e R s m args below meth c H locs a b Q (F0 m (pc + n) la (.int x :: r)) → W p l e R s m args below meth c H locs a b Q (F0 m pc la r))
    (hlg : ∀ (x : Int64), ty = 2 → ∀ (la : Array Slot) (H : Heap) (locs : List Loc) (a b : Nat) (r : List Value), la[i]? = some (.val (.long x)) → W p l e R s m args below meth c H locs a b Q (F0 m (pc + n) la (.long x :: r)) → W p l e R s m args below meth c H locs a b Q (F0 m pc la r))
    (hrf : ∀ (x : Option Nat), ty = 3 → ∀ (la : Array Slot) (H : Heap) (locs : List Loc) (a b : Nat) (r : List Value), la[i]? = some (.val (va_rf x)) → W p l e R s m args below meth c H locs a b Q (F0 m (pc + n) la (va_rf x :: r)) → W p l e R s m args below meth c H locs a b Q (F0 m pc la r))
    (hn : nld pc n ls st h i ty = gt pc' ls' st' h') (k : GW B M h0 p l e R s m args below meth c Q pc' ls' st' h') : GW B M h0 p l e R s m args below meth c Q pc ls st h := by
  intro H locs la hr hs hl n1 n2
  unfold nld at hn
  split at hn
  · next x hx =>
    split at hn
    · next ht =>
      obtain ⟨rfl, rfl, rfl, rfl⟩ := gt_inj hn
      exact hi x ht la H locs _ _ _ (hl.2.2 _ _ hx) (k H locs la hr hs hl n1 n2)
    · cases hn
  · next x hx =>
    split at hn
    · next ht =>
      obtain ⟨rfl, rfl, rfl, rfl⟩ := gt_inj hn
      exact hlg x ht la H locs _ _ _ (hl.2.2 _ _ hx) (k H locs la hr hs hl n1 n2)
    · cases hn
  · next x hx =>
    split at hn
    · next ht =>
      obtain ⟨rfl, rfl, rfl, rfl⟩ := gt_inj hn
      exact hrf (oa B x) ht la H locs _ _ _ (hl.2.2 _ _ hx) (k H locs la hr hs hl n1 n2)
    · cases hn
  · next hx =>
    split at hn
    · next ht =>
      obtain ⟨rfl, rfl, rfl, rfl⟩ := gt_inj hn
      exact hrf none ht la H locs _ _ _ (hl.2.2 _ _ hx) (k H locs la hr hs hl n1 n2)
    · cases hn
  · cases hn
theorem gw_load {i : Instr} (X : Cx B M p s m args meth c) (hd : decode M.code pc = .ok (i, iln i)) {n k ty : Nat} (ho : (i = .iload k ∧ n = 2 ∧ ty = 0) ∨ (∃ j : Fin 4, i = .iload_n j ∧ (j : Nat) = k ∧ n = 1 ∧ ty = 0) ∨ (i = .lload k ∧ n = 2 ∧ ty = 2) ∨ (∃ j : Fin 4, i = .lload_n j ∧ (j : Nat) = k ∧ n = 1 ∧ ty = 2) ∨ (i = .aload k ∧ n = 2 ∧ ty = 3) ∨ (∃ j : Fin 4, i = .aload_n j ∧ (j : Nat) = k ∧ n = 1 ∧ ty = 3))
    (hn : nld pc n ls st h k ty = gt pc' ls' st' h') (kk : GW B M h0 p l e R s m args below meth c Q pc' ls' st' h') : GW B M h0 p l e R s m args below meth c Q pc ls st h := by
  rcases ho with ⟨rfl, rfl, rfl⟩ | ⟨j, rfl, hj, rfl, rfl⟩ | ⟨rfl, rfl, rfl⟩ | ⟨j, rfl, hj, rfl, rfl⟩ | ⟨rfl, rfl, rfl⟩ | ⟨j, rfl, hj, rfl, rfl⟩
  · exact gw_nld X (fun x _ la H locs a b r h1 h2 => lv_iload X.1 X.2.1 hd h1 h2) (fun x z => by cases z) (fun x z => by cases z) hn kk
  · exact gw_nld X (fun x _ la H locs a b r h1 h2 => lv_iload_n X.1 X.2.1 hd hj h1 h2) (fun x z => by cases z) (fun x z => by cases z) hn kk
  · exact gw_nld X (fun x z => by cases z) (fun x _ la H locs a b r h1 h2 => lv_lload X.1 X.2.1 hd h1 h2) (fun x z => by cases z) hn kk
  · exact gw_nld X (fun x z => by cases z) (fun x _ la H locs a b r h1 h2 => lv_lload_n X.1 X.2.1 hd hj h1 h2) (fun x z => by cases z) hn kk
  · refine gw_nld X (fun x z => by cases z) (fun x z => by cases z) (fun x _ la H locs a b r h1 h2 => ?_) hn kk
    cases x with
    | none => exact lv_aloadN X.1 X.2.1 hd h1 h2
    | some x => exact lv_aload X.1 X.2.1 hd h1 h2
  · refine gw_nld X (fun x z => by cases z) (fun x z => by cases z) (fun x _ la H locs a b r h1 h2 => ?_) hn kk
    cases x with
    | none => exact lv_aload_nN X.1 X.2.1 hd hj h1 h2
    | some x => exact lv_aload_n X.1 X.2.1 hd hj h1 h2
theorem gw_store {i : Instr} (X : Cx B M p s m args meth c) (hd : decode M.code pc = .ok (i, iln i)) {n k ty : Nat} (ho : (i = .istore k ∧ n = 2 ∧ ty = 0) ∨ (∃ j : Fin 4, i = .istore_n j ∧ (j : Nat) = k ∧ n = 1 ∧ ty = 0) ∨ (i = .lstore k ∧ n = 2 ∧ ty = 2) ∨ (∃ j : Fin 4, i = .lstore_n j ∧ (j : Nat) = k ∧ n = 1 ∧ ty = 2) ∨ (i = .astore k ∧ n = 2 ∧ ty = 3) ∨ (∃ j : Fin 4, i = .astore_n j ∧ (j : Nat) = k ∧ n = 1 ∧ ty = 3))
    (hn : nst pc n M.mx ls st h k ty = gt pc' ls' st' h') (kk : GW B M h0 p l e R s m args below meth c Q pc' ls' st' h') : GW B M h0 p l e R s m args below meth c Q pc ls st h := by
  intro H locs la hr hs hl n1 n2
  unfold nst at hn
  split at hn
  · next x r =>
    split at hn
    · next ht =>
      obtain ⟨rfl, rfl, rfl, rfl⟩ := gt_inj hn
      obtain ⟨rfl, hlt⟩ := ht
      rcases ho with ⟨rfl, rfl, -⟩ | ⟨j, rfl, hj, rfl, -⟩ | ⟨rfl, rfl, z⟩ | ⟨j, rfl, hj, rfl, z⟩ | ⟨rfl, rfl, z⟩ | ⟨j, rfl, hj, rfl, z⟩
      · exact lv_istore X.1 X.2.1 hd hl.has hlt rfl (fun la' h' => kk H locs la' hr hs (LR.store1 (v := .int x) rfl h') n1 n2)
      · exact lv_istore_n X.1 X.2.1 hd hj hl.has hlt rfl (fun la' h' => kk H locs la' hr hs (LR.store1 (v := .int x) rfl h') n1 n2)
      all_goals cases z
    · cases hn
  · next x r =>
    split at hn
    · next ht =>
      obtain ⟨rfl, rfl, rfl, rfl⟩ := gt_inj hn
      obtain ⟨rfl, hlt⟩ := ht
      rcases ho with ⟨rfl, rfl, z⟩ | ⟨j, rfl, hj, rfl, z⟩ | ⟨rfl, rfl, -⟩ | ⟨j, rfl, hj, rfl, -⟩ | ⟨rfl, rfl, z⟩ | ⟨j, rfl, hj, rfl, z⟩
      · cases z
      · cases z
      · exact lv_lstore X.1 X.2.1 hd hl.has hlt rfl (fun la' h' => kk H locs la' hr hs (LR.store2 (v := .long x) rfl h') n1 n2)
      · exact lv_lstore_n X.1 X.2.1 hd hj hl.has hlt rfl (fun la' h' => kk H locs la' hr hs (LR.store2 (v := .long x) rfl h') n1 n2)
      all_goals cases z
    · cases hn
  · next x r =>
    split at hn
    · next ht =>
      obtain ⟨rfl, rfl, rfl, rfl⟩ := gt_inj hn
      obtain ⟨rfl, hlt⟩ := ht
      have hcat : (Value.ref x).category = 1 := rfl
      rcases ho with ⟨rfl, rfl, z⟩ | ⟨j, rfl, hj, rfl, z⟩ | ⟨rfl, rfl, z⟩ | ⟨j, rfl, hj, rfl, z⟩ | ⟨rfl, rfl, -⟩ | ⟨j, rfl, hj, rfl, -⟩
      · cases z
      · cases z
      · cases z
      · cases z
      · have k2 : ∀ la', lv_has la' M.mx ((k, cv B (.ref x)) :: (lvOf B ls).filter (fun q => !(q.1 == k) && !(q.1 + 1 == k && q.2.category == 2))) → W p l e R s m args below meth c H locs (h.N - h0.N) (h.S - h0.S) Q (F0 m (pc + 2) la' (r.map (cv B))) := fun la' h' => kk H locs la' hr hs (LR.store1 (v := .ref x) hcat h') n1 n2
        show W p l e R s m args below meth c H locs (h.N - h0.N) (h.S - h0.S) Q (F0 m pc la (va_rf (oa B x) :: r.map (cv B)))
        rw [show cv B (.ref x) = va_rf (oa B x) from rfl] at k2
        cases ex : oa B x with
        | none => rw [ex] at k2; exact lv_astoreN X.1 X.2.1 hd hl.has hlt rfl k2
        | some y => rw [ex] at k2; exact lv_astore X.1 X.2.1 hd hl.has hlt rfl k2
      · have k2 : ∀ la', lv_has la' M.mx ((k, cv B (.ref x)) :: (lvOf B ls).filter (fun q => !(q.1 == k) && !(q.1 + 1 == k && q.2.category == 2))) → W p l e R s m args below meth c H locs (h.N - h0.N) (h.S - h0.S) Q (F0 m (pc + 1) la' (r.map (cv B))) := fun la' h' => kk H locs la' hr hs (LR.store1 (v := .ref x) hcat h') n1 n2
        show W p l e R s m args below meth c H locs (h.N - h0.N) (h.S - h0.S) Q (F0 m pc la (va_rf (oa B x) :: r.map (cv B)))
        rw [show cv B (.ref x) = va_rf (oa B x) from rfl] at k2
        cases ex : oa B x with
        | none => rw [ex] at k2; exact lv_astore_nN X.1 X.2.1 hd hj hl.has hlt rfl k2
        | some y => rw [ex] at k2; exact lv_astore_n X.1 X.2.1 hd hj hl.has hlt rfl k2
    · cases hn
  · next r =>
    split at hn
    · next ht =>
      obtain ⟨rfl, rfl, rfl, rfl⟩ := gt_inj hn
      obtain ⟨rfl, hlt⟩ := ht
      rcases ho with ⟨rfl, rfl, z⟩ | ⟨j, rfl, hj, rfl, z⟩ | ⟨rfl, rfl, z⟩ | ⟨j, rfl, hj, rfl, z⟩ | ⟨rfl, rfl, -⟩ | ⟨j, rfl, hj, rfl, -⟩
      · cases z
      · cases z
      · cases z
      · cases z
      · exact lv_astoreN X.1 X.2.1 hd hl.has hlt rfl (fun la' h' => kk H locs la' hr hs (LR.store1 (v := .null) rfl h') n1 n2)
      · exact lv_astore_nN X.1 X.2.1 hd hj hl.has hlt rfl (fun la' h' => kk H locs la' hr hs (LR.store1 (v := .null) rfl h') n1 n2)
    · cases hn
  · cases hn
theorem gw_iinc {k : Nat} {n : Int} {x : Int32} (X : Cx B M p s m args meth c) (hd : decode M.code pc = .ok (.iinc k n, 3)) (hx : lget ls k = some (.int x)) (hlt : k < M.mx) (kk : GW B M h0 p l e R s m args below meth c Q (pc + 3) (lset ls k (.int (x + Int32.ofInt n))) st h) : GW B M h0 p l e R s m args below meth c Q pc ls st h := by
  intro H locs la hr hs hl n1 n2
  obtain ⟨j, hj⟩ := List.getElem?_of_mem (lvOf_mem (B := B) hx)
  exact lv_iinc X.1 X.2.1 hd hl.has hj rfl hlt rfl (fun la' h' => kk H locs la' hr hs (LR.store1 (v := .int (x + Int32.ofInt n)) rfl h') n1 n2)
/-- jumps on a condition -/
theorem gw_njc {P : Prop} {o : Int} {r : List Value} (hw : ∀ (tgt : Nat), (pc : Int) + o = (tgt : Int) → ∀ (la : Array Slot) (H : Heap) (locs : List Loc) (a b : Nat), (P → W p l e R s m args below meth c H locs a b Q (F0 m tgt la (r.map (cv B)))) → (¬ P → W p l e R s m args below meth c H locs a b Q (F0 m (pc + 3) la (r.map (cv B)))) → W p l e R s m args below meth c H locs a b Q (F0 m pc la (st.map (cv B))))
    (hn : njc pc ls r h P o = gt pc' ls' st' h') (kk : GW B M h0 p l e R s m args below meth c Q pc' ls' st' h') : GW B M h0 p l e R s m args below meth c Q pc ls st h := by
  intro H locs la hr hs hl n1 n2
  unfold njc at hn
  split at hn
  · next hj =>
    by_cases hP : P
    · rw [if_pos hP] at hn
      obtain ⟨rfl, rfl, rfl, rfl⟩ := gt_inj hn
      exact hw _ hj la H locs _ _ (fun _ => kk H locs la hr hs hl n1 n2) (fun z => absurd hP z)
    · rw [if_neg hP] at hn
      obtain ⟨rfl, rfl, rfl, rfl⟩ := gt_inj hn
      exact hw _ hj la H locs _ _ (fun z => absurd z hP) (fun _ => kk H locs la hr hs hl n1 n2)
  · cases hn
theorem gw_if {cd : Jvm.ClassFile.Cond} {o : Int} {x : Int32} {r : List Value} (X : Cx B M p s m args meth c) (hd : decode M.code pc = .ok (.ifCond cd o, 3)) (hn : njc pc ls r h (icv cd x 0) o = gt pc' ls' st' h') (kk : GW B M h0 p l e R s m args below meth c Q pc' ls' st' h') : GW B M h0 p l e R s m args below meth c Q pc ls (.int x :: r) h := by
  cases cd
  · exact gw_njc (fun tgt ht la H locs a b k1 k2 => lv_if_eq X.1 X.2.1 hd ht k1 k2) hn kk
  · exact gw_njc (fun tgt ht la H locs a b k1 k2 => lv_if_ne X.1 X.2.1 hd ht k1 (fun z => k2 (fun q => q z))) hn kk
  · exact gw_njc (fun tgt ht la H locs a b k1 k2 => lv_if_lt X.1 X.2.1 hd ht k1 k2) hn kk
  · exact gw_njc (fun tgt ht la H locs a b k1 k2 => lv_if_ge X.1 X.2.1 hd ht k1 k2) hn kk
  · exact gw_njc (fun tgt ht la H locs a b k1 k2 => lv_if_gt X.1 X.2.1 hd ht k1 k2) hn kk
  · exact gw_njc (fun tgt ht la H locs a b k1 k2 => lv_if_le X.1 X.2.1 hd ht k1 k2) hn kk
theorem gw_icmp {cd : Jvm.ClassFile.Cond} {o : Int} {x y : Int32} {r : List Value} (X : Cx B M p s m args meth c) (hd : decode M.code pc = .ok (.if_icmp cd o, 3)) (hn : njc pc ls r h (icv cd x y) o = gt pc' ls' st' h') (kk : GW B M h0 p l e R s m args below meth c Q pc' ls' st' h') : GW B M h0 p l e R s m args below meth c Q pc ls (.int y :: .int x :: r) h := by
  cases cd
  · exact gw_njc (fun tgt ht la H locs a b k1 k2 => lv_icmp_eq X.1 X.2.1 hd ht k1 k2) hn kk
  · exact gw_njc (fun tgt ht la H locs a b k1 k2 => lv_icmp_ne X.1 X.2.1 hd ht k1 (fun z => k2 (fun q => q z))) hn kk
  · exact gw_njc (fun tgt ht la H locs a b k1 k2 => lv_icmp_lt X.1 X.2.1 hd ht k1 k2) hn kk
  · exact gw_njc (fun tgt ht la H locs a b k1 k2 => lv_icmp_ge X.1 X.2.1 hd ht k1 k2) hn kk
  · exact gw_njc (fun tgt ht la H locs a b k1 k2 => lv_icmp_gt X.1 X.2.1 hd ht k1 k2) hn kk
  · exact gw_njc (fun tgt ht la H locs a b k1 k2 => lv_icmp_le X.1 X.2.1 hd ht k1 k2) hn kk
theorem gw_nsw {i : Instr} {n : Nat} (X : Cx B M p s m args meth c) (hd : decode M.code pc = .ok (i, n)) (hn : nsw pc ls st h i = gt pc' ls' st' h') (kk : GW B M h0 p l e R s m args below meth c Q pc' ls' st' h') : GW B M h0 p l e R s m args below meth c Q pc ls st h := by
  intro H locs la hr hs hl n1 n2
  unfold nsw at hn
  split at hn
  · next d lo hi offs x r =>
    split at hn
    · next hout =>
      split at hn
      · next hj =>
        obtain ⟨rfl, rfl, rfl, rfl⟩ := gt_inj hn
        exact lv_tableOut X.1 X.2.1 hd hout hj (kk H locs la hr hs hl n1 n2)
      · cases hn
    · next hin =>
      split at hn
      · next o ho =>
        split at hn
        · next hj =>
          obtain ⟨rfl, rfl, rfl, rfl⟩ := gt_inj hn
          exact lv_tableIn X.1 X.2.1 hd (fun z => hin (Or.inl z)) (fun z => hin (Or.inr z)) ho hj (kk H locs la hr hs hl n1 n2)
        · cases hn
      · cases hn
  · next d ps x r =>
    split at hn
    · next hj =>
      obtain ⟨rfl, rfl, rfl, rfl⟩ := gt_inj hn
      exact lv_lookup X.1 X.2.1 hd hj.1 rfl hj.2 (kk H locs la hr hs hl n1 n2)
    · cases hn
  · cases hn
end SN
