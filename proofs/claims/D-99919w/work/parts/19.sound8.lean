/-! ===== a whole run; a whole method ===== -/
set_option maxRecDepth 100000
section SN
variable {B : Bs} {M : MR} {h0 : Hp} {p : Program} {l : Launch} {e : Env} {R : Room} {s : State} {m : MethodId} {args : Array Value} {below : List Frame} {meth : Method} {c : Code} {Q : State → Prop}
variable {pc : Nat} {ls : Lc} {st : List Value} {h : Hp}
theorem nx_split (x : Nx) (hne : x ≠ none) : (∃ a b c d, x = gt a b c d) ∨ ∃ r h, x = some (.inr (r, h)) := by
  cases x with
  | none => exact absurd rfl hne
  | some y =>
    cases y with
    | inl q => exact Or.inl ⟨q.1, q.2.1, q.2.2.1, q.2.2.2, rfl⟩
    | inr q => exact Or.inr ⟨q.1, q.2, rfl⟩
theorem nrt_ngo {ty : Nat} {a : Nat} {b : Lc} {c1 : List Value} {d1 : Hp} : ¬ nrt M st h ty = gt a b c1 d1 := by
  intro z
  unfold nrt at z
  split at z
  · next x t _ =>
    by_cases hP : ty = 0 ∧ rok t x
    · rw [if_pos hP] at z; cases z
    · rw [if_neg hP] at z; cases z
  all_goals first | (cases z; done) | (split at z <;> cases z)
theorem nbk_thr {rest : List Value} {o : Option (Rs × Hp)} {q : Nat} {hc : Hp} (z : nbk M pc ls rest o = some (.inr (.inr q, hc))) : nth M pc ls q hc = some (.inr (.inr q, hc)) := by
  cases o with
  | none => cases z
  | some x =>
    obtain ⟨r, h'⟩ := x
    cases r with
    | inl v => cases z
    | inr q' =>
      have z2 : nth M pc ls q' h' = some (.inr (.inr q, hc)) := z
      rcases nth_cases z2 with ⟨a, b, c1, w⟩ | w
      · cases w
      · cases w
        exact z2
theorem niv_thr {C : MR → List Value → Hp → Option (Rs × Hp)} {u k q : Nat} {hc : Hp} (z : niv C M u pc k ls st h = some (.inr (.inr q, hc))) : nth M pc ls q hc = some (.inr (.inr q, hc)) := by
  unfold niv at z
  cases hlk : lk (mtab M.cn) k with
  | none => rw [hlk] at z; cases z
  | some tg =>
    obtain ⟨kd, n, lm⟩ := tg
    simp only [hlk] at z
    split at z
    · split at z
      · split at z
        · unfold nvS at z
          split at z
          · split at z
            · exact nbk_thr z
            · cases z
          · cases z
        · split at z
          · have g := ng_ncp (pc := pc) (ls := ls) (st := st) (h := h)
            rw [z] at g; exact absurd g (fun z => z)
          · split at z
            · unfold nmx at z
              split at z
              · split at z <;> cases z
              · cases z
            · cases z
      · split at z
        · split at z
          · unfold nvI at z
            split at z
            · split at z
              · exact nbk_thr z
              · cases z
            · cases z
          · split at z
            · unfold nvO at z
              split at z
              · split at z <;> cases z
              · cases z
            · cases z
        · split at z
          · unfold nvV at z
            split at z
            · split at z
              · split at z
                · exact nbk_thr z
                · cases z
              · cases z
            · cases z
          · split at z
            · unfold nvT at z
              split at z
              · split at z
                · exact nbk_thr z
                · cases z
              · cases z
            · cases z
    · cases z
set_option maxHeartbeats 4000000 in
/-- one instruction -/
theorem gw_step {C : MR → List Value → Hp → Option (Rs × Hp)} {d : Nat} {i : Instr} {n : Nat} {res : Rs} {hf : Hp} (X : Cx B M p s m args meth c) (hC : CS l B d C) (hR : d + 1 ≤ R.frames ∧ 80 * (d + 1) ≤ R.locals) (hR2 : h.N - h0.N ≤ R.cells ∧ h.S - h0.S ≤ R.slots) (hd : decode M.code pc = .ok (i, n)) (hln : isw i = true ∨ n = iln i)
    (hgo : ∀ pc' ls' st' h', nxi C M pc i ls st h = gt pc' ls' st' h' → GW B M h0 p l e R s m args below meth c Q pc' ls' st' h' ∧ h'.N - h0.N ≤ R.cells ∧ h'.S - h0.S ≤ R.slots)
    (hin : ∀ r hc, nxi C M pc i ls st h = some (.inr (r, hc)) → r = res ∧ hc = hf)
    (hfin : ∀ (i : Instr) (ty pc : Nat) (ls : Lc) (st : List Value) (h : Hp), decode M.code pc = .ok (i, 1) → ((i = .ireturn ∧ ty = 0) ∨ (i = .lreturn ∧ ty = 2) ∨ (i = .areturn ∧ ty = 3) ∨ (i = .return_ ∧ ty = 4)) → nrt M st h ty = some (.inr (res, hf)) → GW B M h0 p l e R s m args below meth c Q pc ls st h)
    (hthr : ∀ (pc : Nat) (ls : Lc) (q : Nat) (h : Hp), nth M pc ls q h = some (.inr (res, hf)) → GX B M h0 p l e R s m args below meth c Q pc ls h) (hroom : hf.N - h0.N ≤ R.cells ∧ hf.S - h0.S ≤ R.slots)
    (hne : nxi C M pc i ls st h ≠ none) : GW B M h0 p l e R s m args below meth c Q pc ls st h := by
  have hl2 : ∀ {j : Instr}, isw j = false → i = j → n = iln j := by
    intro j h1 h2
    subst h2
    rcases hln with q | q
    · rw [h1] at q; cases q
    · exact q
  cases i
  case iload k =>
    cases hl2 rfl rfl
    obtain ⟨a, b, c1, d1, e1⟩ := (ng_nld (n := 2)).go hne
    exact gw_load X hd (Or.inl ⟨rfl, rfl, rfl⟩) e1 (hgo _ _ _ _ e1).1
  case iload_n k =>
    cases hl2 rfl rfl
    obtain ⟨a, b, c1, d1, e1⟩ := (ng_nld (n := 1)).go hne
    exact gw_load X hd (Or.inr (Or.inl ⟨k, rfl, rfl, rfl, rfl⟩)) e1 (hgo _ _ _ _ e1).1
  case lload k =>
    cases hl2 rfl rfl
    obtain ⟨a, b, c1, d1, e1⟩ := (ng_nld (n := 2)).go hne
    exact gw_load X hd (Or.inr (Or.inr (Or.inl ⟨rfl, rfl, rfl⟩))) e1 (hgo _ _ _ _ e1).1
  case lload_n k =>
    cases hl2 rfl rfl
    obtain ⟨a, b, c1, d1, e1⟩ := (ng_nld (n := 1)).go hne
    exact gw_load X hd (Or.inr (Or.inr (Or.inr (Or.inl ⟨k, rfl, rfl, rfl, rfl⟩)))) e1 (hgo _ _ _ _ e1).1
  case aload k =>
    cases hl2 rfl rfl
    obtain ⟨a, b, c1, d1, e1⟩ := (ng_nld (n := 2)).go hne
    exact gw_load X hd (Or.inr (Or.inr (Or.inr (Or.inr (Or.inl ⟨rfl, rfl, rfl⟩))))) e1 (hgo _ _ _ _ e1).1
  case aload_n k =>
    cases hl2 rfl rfl
    obtain ⟨a, b, c1, d1, e1⟩ := (ng_nld (n := 1)).go hne
    exact gw_load X hd (Or.inr (Or.inr (Or.inr (Or.inr (Or.inr ⟨k, rfl, rfl, rfl, rfl⟩))))) e1 (hgo _ _ _ _ e1).1
  case istore k =>
    cases hl2 rfl rfl
    obtain ⟨a, b, c1, d1, e1⟩ := (ng_nst (n := 2)).go hne
    exact gw_store X hd (Or.inl ⟨rfl, rfl, rfl⟩) e1 (hgo _ _ _ _ e1).1
  case istore_n k =>
    cases hl2 rfl rfl
    obtain ⟨a, b, c1, d1, e1⟩ := (ng_nst (n := 1)).go hne
    exact gw_store X hd (Or.inr (Or.inl ⟨k, rfl, rfl, rfl, rfl⟩)) e1 (hgo _ _ _ _ e1).1
  case lstore k =>
    cases hl2 rfl rfl
    obtain ⟨a, b, c1, d1, e1⟩ := (ng_nst (n := 2)).go hne
    exact gw_store X hd (Or.inr (Or.inr (Or.inl ⟨rfl, rfl, rfl⟩))) e1 (hgo _ _ _ _ e1).1
  case lstore_n k =>
    cases hl2 rfl rfl
    obtain ⟨a, b, c1, d1, e1⟩ := (ng_nst (n := 1)).go hne
    exact gw_store X hd (Or.inr (Or.inr (Or.inr (Or.inl ⟨k, rfl, rfl, rfl, rfl⟩)))) e1 (hgo _ _ _ _ e1).1
  case astore k =>
    cases hl2 rfl rfl
    obtain ⟨a, b, c1, d1, e1⟩ := (ng_nst (n := 2)).go hne
    exact gw_store X hd (Or.inr (Or.inr (Or.inr (Or.inr (Or.inl ⟨rfl, rfl, rfl⟩))))) e1 (hgo _ _ _ _ e1).1
  case astore_n k =>
    cases hl2 rfl rfl
    obtain ⟨a, b, c1, d1, e1⟩ := (ng_nst (n := 1)).go hne
    exact gw_store X hd (Or.inr (Or.inr (Or.inr (Or.inr (Or.inr ⟨k, rfl, rfl, rfl, rfl⟩))))) e1 (hgo _ _ _ _ e1).1
  case iinc k w =>
    cases hl2 rfl rfl
    simp only [nxi] at hne hgo
    cases hx : lget ls k with
    | none => rw [hx] at hne; exact absurd rfl hne
    | some v =>
      simp only [hx] at hne hgo
      cases v with
      | int x =>
        simp only at hne hgo
        by_cases hk : k < M.mx
        · simp only [if_pos hk] at hgo
          exact gw_iinc X hd hx hk (hgo _ _ _ _ rfl).1
        · rw [if_neg hk] at hne; exact absurd rfl hne
      | _ => exact absurd rfl hne
  case goto o =>
    cases hl2 rfl rfl
    simp only [nxi] at hne hgo
    by_cases hj : (pc : Int) + o = (jmp pc o : Int)
    · simp only [if_pos hj] at hgo
      intro H locs la hr hs hl n1 n2
      exact lv_goto X.hx X.hb hd hj ((hgo _ _ _ _ rfl).1 H locs la hr hs hl n1 n2)
    · rw [if_neg hj] at hne; exact absurd rfl hne
  case ifCond cd o =>
    cases hl2 rfl rfl
    cases st with
    | nil => exact absurd rfl hne
    | cons v r =>
      cases v with
      | int x =>
        obtain ⟨a, b, c1, d1, e1⟩ := ng_njc.go hne
        exact gw_if X hd e1 (hgo _ _ _ _ e1).1
      | _ => exact absurd rfl hne
  case if_icmp cd o =>
    cases hl2 rfl rfl
    cases st with
    | nil => exact absurd rfl hne
    | cons v r =>
      cases v with
      | int y =>
        cases r with
        | nil => exact absurd rfl hne
        | cons w r =>
          cases w with
          | int x =>
            obtain ⟨a, b, c1, d1, e1⟩ := ng_njc.go hne
            exact gw_icmp X hd e1 (hgo _ _ _ _ e1).1
          | _ => exact absurd rfl hne
      | _ => exact absurd rfl hne
  case ifnull o =>
    cases hl2 rfl rfl
    cases st with
    | nil => exact absurd rfl hne
    | cons v r =>
      cases v with
      | null =>
        simp only [nxi] at hne hgo
        by_cases hj : (pc : Int) + o = (jmp pc o : Int)
        · simp only [if_pos hj] at hgo
          intro H locs la hr hs hl n1 n2
          exact lv_ifnullN X.hx X.hb hd hj ((hgo _ _ _ _ rfl).1 H locs la hr hs hl n1 n2)
        · rw [if_neg hj] at hne; exact absurd rfl hne
      | ref t =>
        simp only [nxi] at hne hgo
        by_cases hj : t < 3000000
        · simp only [if_pos hj] at hgo
          intro H locs la hr hs hl n1 n2
          rw [List.map_cons, cv_ref hj]
          exact lv_ifnull X.hx X.hb hd ((hgo _ _ _ _ rfl).1 H locs la hr hs hl n1 n2)
        · rw [if_neg hj] at hne; exact absurd rfl hne
      | _ => exact absurd rfl hne
  case ifnonnull o =>
    cases hl2 rfl rfl
    cases st with
    | nil => exact absurd rfl hne
    | cons v r =>
      cases v with
      | null =>
        intro H locs la hr hs hl n1 n2
        exact lv_ifnonnullN X.hx X.hb hd ((hgo _ _ _ _ rfl).1 H locs la hr hs hl n1 n2)
      | ref t =>
        simp only [nxi] at hne hgo
        by_cases hj : t < 3000000 ∧ (pc : Int) + o = (jmp pc o : Int)
        · simp only [if_pos hj] at hgo
          intro H locs la hr hs hl n1 n2
          rw [List.map_cons, cv_ref hj.1]
          exact lv_ifnonnull X.hx X.hb hd hj.2 ((hgo _ _ _ _ rfl).1 H locs la hr hs hl n1 n2)
        · rw [if_neg hj] at hne; exact absurd rfl hne
      | _ => exact absurd rfl hne
  case tableswitch dd lo hi offs =>
    obtain ⟨a, b, c1, d1, e1⟩ := (ng_nsw (i := .tableswitch dd lo hi offs)).go hne
    exact gw_nsw X hd e1 (hgo _ _ _ _ e1).1
  case lookupswitch dd ps =>
    obtain ⟨a, b, c1, d1, e1⟩ := (ng_nsw (i := .lookupswitch dd ps)).go hne
    exact gw_nsw X hd e1 (hgo _ _ _ _ e1).1
  case ldc k =>
    cases hl2 rfl rfl
    simp only [nxi] at hne hgo
    cases hx : lk (kitab M.cn) k with
    | some v =>
      simp only [hx] at hgo
      exact gw_ldcI X hx (Or.inl ⟨rfl, hd⟩) (hgo _ _ _ _ rfl).1
    | none =>
      simp only [hx] at hgo hne
      cases hy : lk (kstab M.cn) k with
      | some v =>
        simp only [hy] at hgo
        exact gw_ldcS X hy hd (hgo _ _ _ _ rfl).1
      | none => rw [hy] at hne; exact absurd rfl hne
  case ldc_w k =>
    cases hl2 rfl rfl
    simp only [nxi] at hne hgo
    cases hx : lk (kitab M.cn) k with
    | some v =>
      simp only [hx] at hgo
      exact gw_ldcI X hx (Or.inr ⟨rfl, hd⟩) (hgo _ _ _ _ rfl).1
    | none =>
      simp only [hx] at hgo hne
      cases hy : lk (kstab M.cn) k with
      | some v =>
        simp only [hy] at hgo
        exact gw_ldcSw X hy hd (hgo _ _ _ _ rfl).1
      | none => rw [hy] at hne; exact absurd rfl hne
  case ldc2_w k =>
    cases hl2 rfl rfl
    simp only [nxi] at hne hgo
    cases hx : lk (kltab M.cn) k with
    | some v =>
      simp only [hx] at hgo
      exact gw_ldcL X hx hd (hgo _ _ _ _ rfl).1
    | none => rw [hx] at hne; exact absurd rfl hne
  case getstatic k =>
    cases hl2 rfl rfl
    simp only [nxi] at hne hgo
    cases hx : lk (xstab M.cn) k with
    | some v =>
      simp only [hx] at hgo
      exact gw_gets X hx hd (hgo _ _ _ _ rfl).1
    | none => rw [hx] at hne; exact absurd rfl hne
  case getfield k =>
    cases hl2 rfl rfl
    obtain ⟨a, b, c1, d1, e1⟩ := ng_ngf.go hne
    exact gw_getf X hd e1 (hgo _ _ _ _ e1).1
  case putfield k =>
    cases hl2 rfl rfl
    obtain ⟨a, b, c1, d1, e1⟩ := ng_npf.go hne
    exact gw_putf X hd e1 (hgo _ _ _ _ e1).1
  case iaload =>
    cases hl2 rfl rfl
    obtain ⟨a, b, c1, d1, e1⟩ := ng_nal.go hne
    exact gw_nal X hd (Or.inl ⟨rfl, rfl⟩) e1 (hgo _ _ _ _ e1).1
  case baload =>
    cases hl2 rfl rfl
    obtain ⟨a, b, c1, d1, e1⟩ := ng_nal.go hne
    exact gw_nal X hd (Or.inr (Or.inl ⟨rfl, rfl⟩)) e1 (hgo _ _ _ _ e1).1
  case laload =>
    cases hl2 rfl rfl
    obtain ⟨a, b, c1, d1, e1⟩ := ng_nal.go hne
    exact gw_nal X hd (Or.inr (Or.inr (Or.inl ⟨rfl, rfl⟩))) e1 (hgo _ _ _ _ e1).1
  case aaload =>
    cases hl2 rfl rfl
    obtain ⟨a, b, c1, d1, e1⟩ := ng_nal.go hne
    exact gw_nal X hd (Or.inr (Or.inr (Or.inr ⟨rfl, rfl⟩))) e1 (hgo _ _ _ _ e1).1
  case iastore =>
    cases hl2 rfl rfl
    obtain ⟨a, b, c1, d1, e1⟩ := ng_nas.go hne
    exact gw_nas X hd (Or.inl ⟨rfl, rfl⟩) e1 (hgo _ _ _ _ e1).1
  case bastore =>
    cases hl2 rfl rfl
    obtain ⟨a, b, c1, d1, e1⟩ := ng_nas.go hne
    exact gw_nas X hd (Or.inr (Or.inl ⟨rfl, rfl⟩)) e1 (hgo _ _ _ _ e1).1
  case lastore =>
    cases hl2 rfl rfl
    obtain ⟨a, b, c1, d1, e1⟩ := ng_nas.go hne
    exact gw_nas X hd (Or.inr (Or.inr (Or.inl ⟨rfl, rfl⟩))) e1 (hgo _ _ _ _ e1).1
  case aastore =>
    cases hl2 rfl rfl
    obtain ⟨a, b, c1, d1, e1⟩ := ng_nas.go hne
    exact gw_nas X hd (Or.inr (Or.inr (Or.inr ⟨rfl, rfl⟩))) e1 (hgo _ _ _ _ e1).1
  case arraylength =>
    cases hl2 rfl rfl
    obtain ⟨a, b, c1, d1, e1⟩ := ng_nlen.go hne
    exact gw_nlen X hd e1 (hgo _ _ _ _ e1).1
  case newarray a =>
    cases hl2 rfl rfl
    obtain ⟨a, b, c1, d1, e1⟩ := ng_nna.go hne
    exact gw_newa X hd e1 (hgo _ _ _ _ e1).2 (hgo _ _ _ _ e1).1
  case anewarray k =>
    cases hl2 rfl rfl
    obtain ⟨a, b, c1, d1, e1⟩ := ng_naa.go hne
    exact gw_anew X hd e1 (hgo _ _ _ _ e1).2 (hgo _ _ _ _ e1).1
  case new k =>
    cases hl2 rfl rfl
    simp only [nxi] at hne hgo
    cases hx : lk (ctab M.cn) k with
    | some ci =>
      simp only [hx] at hne hgo
      obtain ⟨a, b, c1, d1, e1⟩ := ng_nnew.go hne
      exact gw_new X hx hd e1 (hgo _ _ _ _ e1).2 (hgo _ _ _ _ e1).1
    | none => rw [hx] at hne; exact absurd rfl hne
  case invokestatic k =>
    cases hl2 rfl rfl
    exact gw_call X hC hR hR2 hd (Or.inl ⟨rfl, rfl⟩) hgo (fun q hc z => by
      obtain ⟨g1, g2⟩ := hin _ _ z
      subst g2
      exact ⟨hthr pc ls q _ (by
        have z2 : niv C M 0 pc k ls st h = some (.inr (.inr q, hc)) := z
        rw [← g1]
        exact niv_thr z2), hroom⟩) hne
  case invokespecial k =>
    cases hl2 rfl rfl
    exact gw_call X hC hR hR2 hd (Or.inr (Or.inl ⟨rfl, rfl⟩)) hgo (fun q hc z => by
      obtain ⟨g1, g2⟩ := hin _ _ z
      subst g2
      exact ⟨hthr pc ls q _ (by
        have z2 : niv C M 1 pc k ls st h = some (.inr (.inr q, hc)) := z
        rw [← g1]
        exact niv_thr z2), hroom⟩) hne
  case invokevirtual k =>
    cases hl2 rfl rfl
    exact gw_call X hC hR hR2 hd (Or.inr (Or.inr ⟨rfl, rfl⟩)) hgo (fun q hc z => by
      obtain ⟨g1, g2⟩ := hin _ _ z
      subst g2
      exact ⟨hthr pc ls q _ (by
        have z2 : niv C M 2 pc k ls st h = some (.inr (.inr q, hc)) := z
        rw [← g1]
        exact niv_thr z2), hroom⟩) hne
  case ireturn =>
    cases hl2 rfl rfl
    rcases nx_split _ hne with ⟨a, b, c1, d1, e1⟩ | ⟨r, hc, e1⟩
    · exact absurd e1 nrt_ngo
    · obtain ⟨rfl, rfl⟩ := hin _ _ e1
      exact hfin _ 0 _ _ _ _ hd (Or.inl ⟨rfl, rfl⟩) e1
  case lreturn =>
    cases hl2 rfl rfl
    rcases nx_split _ hne with ⟨a, b, c1, d1, e1⟩ | ⟨r, hc, e1⟩
    · exact absurd e1 nrt_ngo
    · obtain ⟨rfl, rfl⟩ := hin _ _ e1
      exact hfin _ 2 _ _ _ _ hd (Or.inr (Or.inl ⟨rfl, rfl⟩)) e1
  case areturn =>
    cases hl2 rfl rfl
    rcases nx_split _ hne with ⟨a, b, c1, d1, e1⟩ | ⟨r, hc, e1⟩
    · exact absurd e1 nrt_ngo
    · obtain ⟨rfl, rfl⟩ := hin _ _ e1
      exact hfin _ 3 _ _ _ _ hd (Or.inr (Or.inr (Or.inl ⟨rfl, rfl⟩))) e1
  case return_ =>
    cases hl2 rfl rfl
    rcases nx_split _ hne with ⟨a, b, c1, d1, e1⟩ | ⟨r, hc, e1⟩
    · exact absurd e1 nrt_ngo
    · obtain ⟨rfl, rfl⟩ := hin _ _ e1
      exact hfin _ 4 _ _ _ _ hd (Or.inr (Or.inr (Or.inr ⟨rfl, rfl⟩))) e1
  case athrow =>
    cases hl2 rfl rfl
    cases st with
    | nil => exact absurd rfl hne
    | cons v r =>
      cases v with
      | ref q =>
        simp only [nxi] at hne hgo hin
        by_cases hk : h.K q = 18
        · simp only [if_pos hk] at hne hgo hin
          have hgx : GX B M h0 p l e R s m args below meth c Q pc ls h := by
            cases e1 : nth M pc ls q h with
            | none => exact absurd e1 hne
            | some x =>
              rcases nth_cases e1 with ⟨a, b, c1, rfl⟩ | rfl
              · exact gx_catch X e1 (hgo _ _ _ _ e1).1
              · obtain ⟨g1, g2⟩ := hin _ _ e1
                exact hthr pc ls q h (by rw [e1, ← g1, ← g2])
          intro H locs la hr hs hl n1 n2
          have hlt : q < (3000000 : Nat) := Nat.lt_trans (rp_small hr (t := q) (by omega)) (by omega)
          rw [List.map_cons, cv_ref hlt]
          obtain ⟨rr, g1, ce, g2, g3, g4, -⟩ := rp_at0 (rp_obj hr (t := q) (ci := 2) hk (by omega))
          obtain ⟨-, hfc, -⟩ := X.kd.1 2 _ rfl
          exact vx_athrow X.hx X.hb hd (hgx H locs la _ _ ce hr hs hl n1 n2 g2 g4 (by rw [g3]; exact hfc))
        · rw [if_neg hk] at hne; exact absurd rfl hne
      | _ => exact absurd rfl hne
  all_goals
    cases hl2 rfl rfl
    first
    | (exfalso; exact hne rfl)
    | (simp only [nxi] at hne hgo
       split at hgo
       · next st' hp => exact gw_pst X hd hp (hgo _ _ _ _ rfl).1
       · next hp => rw [hp] at hne; exact absurd rfl hne)
/-- a run -/
theorem run_sound {C : MR → List Value → Hp → Option (Rs × Hp)} {d : Nat} {res : Rs} {hf : Hp} (X : Cx B M p s m args meth c) (hC : CS l B d C) (hR : d + 1 ≤ R.frames ∧ 80 * (d + 1) ≤ R.locals) (hroom : hf.N - h0.N ≤ R.cells ∧ hf.S - h0.S ≤ R.slots)
    (hfin : ∀ (i : Instr) (ty pc : Nat) (ls : Lc) (st : List Value) (h : Hp), decode M.code pc = .ok (i, 1) → ((i = .ireturn ∧ ty = 0) ∨ (i = .lreturn ∧ ty = 2) ∨ (i = .areturn ∧ ty = 3) ∨ (i = .return_ ∧ ty = 4)) → nrt M st h ty = some (.inr (res, hf)) → GW B M h0 p l e R s m args below meth c Q pc ls st h)
    (hthr : ∀ (pc : Nat) (ls : Lc) (q : Nat) (h : Hp), nth M pc ls q h = some (.inr (res, hf)) → GX B M h0 p l e R s m args below meth c Q pc ls h) :
    ∀ (n pc : Nat) (ls : Lc) (st : List Value) (h : Hp), runN C M n pc ls st h = some (res, hf) → HM h hf ∧ GW B M h0 p l e R s m args below meth c Q pc ls st h := by
  intro n
  induction n with
  | zero => intro pc ls st h z; simp [runN] at z
  | succ n ih =>
    intro pc ls st h z
    rw [runN] at z
    cases e1 : nxt C M pc ls st h with
    | none => rw [e1] at z; cases z
    | some x =>
      rw [e1] at z
      have e2 := e1
      unfold nxt at e2
      split at e2
      · next i k hd =>
        split at e2
        · next hln =>
          have hm := nm_nxi (pc := pc) (ls := ls) (st := st) (h := h) (C := C) (M := M) (i := i) (fun y as r h' a b => (hC y as h r h' a b).2)
          rw [e2] at hm
          have hgoal : HM h hf := by
            cases x with
            | inl q =>
              obtain ⟨pc', ls', st', h'⟩ := q
              exact HM.tr hm (ih _ _ _ _ z).1
            | inr q =>
              cases z
              exact hm
          refine ⟨hgoal, gw_step X hC hR ⟨Nat.le_trans (Nat.sub_le_sub_right hgoal.1 _) hroom.1, Nat.le_trans (Nat.sub_le_sub_right hgoal.2 _) hroom.2⟩ hd hln (fun pc' ls' st' h' w => ?_) (fun r hc w => ?_) hfin hthr hroom (by rw [e2]; exact fun w => by cases w)⟩
          · rw [e2] at w
            cases w
            obtain ⟨g1, g2⟩ := ih _ _ _ _ z
            exact ⟨g2, Nat.le_trans (Nat.sub_le_sub_right g1.1 _) hroom.1, Nat.le_trans (Nat.sub_le_sub_right g1.2 _) hroom.2⟩
          · rw [e2] at w
            cases w
            cases z
            exact ⟨rfl, rfl⟩
        · cases e2
      · cases e2
/-- a method's end -/
theorem gw_fin {i : Instr} {ty : Nat} {res : Rs} {hf : Hp} (X : Cx B M p s m args meth c) (hd : decode M.code pc = .ok (i, 1)) (hi : (i = .ireturn ∧ ty = 0) ∨ (i = .lreturn ∧ ty = 2) ∨ (i = .areturn ∧ ty = 3) ∨ (i = .return_ ∧ ty = 4)) (hn : nrt M st h ty = some (.inr (res, hf))) :
    GW B M h0 p l e R s m args below meth c (vx_MQ below (fun _ => QR B res hf) (XR B res hf) args s (hf.N - h0.N) (hf.S - h0.S) (AA B)) pc ls st h := by
  intro H locs la hr hs hl n1 n2
  unfold nrt at hn
  have hlk := X.locks
  split at hn
  · next x t hret =>
    by_cases hP : ty = 0 ∧ rok t x
    · rw [if_pos hP] at hn
      cases hn
      obtain ⟨rfl, hok⟩ := hP
      have hnar : narrow t (.int x) = .int x := by
        cases t <;> first | (exact absurd hok (fun z => z)) | rfl | (rcases hok with q | q <;> rw [q] <;> rfl) | (show Value.int _ = _; rw [hok])
      rcases hi with ⟨rfl, -⟩ | ⟨-, z⟩ | ⟨-, z⟩ | ⟨-, z⟩
      · exact vx_ret (W.zret X.hx X.hb (by rw [X.ret]; exact hret) hnar (fun t ht hW => ⟨rfl, by rw [ht]; exact hr, hs.F ht⟩) hs.2.2 hd)
      all_goals cases z
    · rw [if_neg hP] at hn; cases hn
  · next x hret =>
    split at hn
    · next hP =>
      cases hn
      subst hP
      rcases hi with ⟨-, z⟩ | ⟨rfl, -⟩ | ⟨-, z⟩ | ⟨-, z⟩
      · cases z
      · exact vx_ret (W.lret X.hx X.hb (by rw [X.ret]; exact hret) (fun t ht hW => ⟨rfl, by rw [ht]; exact hr, hs.F ht⟩) hs.2.2 hd)
      · cases z
      · cases z
    · cases hn
  · next x C hret =>
    split at hn
    · next hP =>
      cases hn
      subst hP
      rcases hi with ⟨-, z⟩ | ⟨-, z⟩ | ⟨rfl, -⟩ | ⟨-, z⟩
      · cases z
      · cases z
      · exact vx_ret (W.aret (v := va_rf (oa B x)) X.hx X.hb (by rw [X.ret]; exact hret) (Or.inl ⟨_, rfl⟩) (by cases oa B x <;> first | exact Or.inl rfl | exact Or.inr ⟨_, rfl⟩) (fun t ht hW => ⟨rfl, by rw [ht]; exact hr, hs.F ht⟩) hs.2.2 hd)
      · cases z
    · cases hn
  · next C hret =>
    split at hn
    · next hP =>
      cases hn
      subst hP
      rcases hi with ⟨-, z⟩ | ⟨-, z⟩ | ⟨rfl, -⟩ | ⟨-, z⟩
      · cases z
      · cases z
      · exact vx_ret (W.aret (v := .null) X.hx X.hb (by rw [X.ret]; exact hret) (Or.inl ⟨_, rfl⟩) (Or.inl rfl) (fun t ht hW => ⟨rfl, by rw [ht]; exact hr, hs.F ht⟩) hs.2.2 hd)
      · cases z
    · cases hn
  · next hret =>
    split at hn
    · next hP =>
      cases hn
      subst hP
      rcases hi with ⟨-, z⟩ | ⟨-, z⟩ | ⟨-, z⟩ | ⟨rfl, -⟩
      · cases z
      · cases z
      · cases z
      · exact vx_ret (W.vret X.hx X.hb (by rw [X.ret]; exact hret) (fun t ht hW => ⟨rfl, by rw [ht]; exact hr, hs.F ht⟩) hs.2.2 hd)
    · cases hn
  · cases hn
/-- a throw that nobody catches here -/
theorem gx_out {q : Nat} {res : Rs} {hf : Hp} (X : Cx B M p s m args meth c) (hn : nth M pc ls q h = some (.inr (res, hf))) :
    GX B M h0 p l e R s m args below meth c (vx_MQ below (fun _ => QR B res hf) (XR B res hf) args s (hf.N - h0.N) (hf.S - h0.S) (AA B)) pc ls h := by
  intro H locs la rest q9 ce hr hs hl n1 n2 g1 g2 g3
  have e1 : M.hh = [] ∧ res = .inr q ∧ hf = h := by
    unfold nth at hn
    split at hn
    · next hh => cases hn; exact ⟨hh, rfl, rfl⟩
    · split at hn
      · split at hn
        · split at hn <;> cases hn
        · cases hn
      · cases hn
    · cases hn
  obtain ⟨hh, rfl, rfl⟩ := e1
  have htab := X.tab
  rw [hh] at htab
  exact vx_out (E := "SkySpire$Fault") (by rw [htab]; intro x hx; cases hx) X.locks g1 g2 g3 (fun t ht hW => ⟨rfl, by rw [ht]; exact hr, hs.F ht⟩) hs.2.2 (Nat.le_refl _) (Nat.le_refl _)
end SN
theorem lr_entry (B : Bs) (as : List Value) (n : Nat) (hn : (entL as).length ≤ n) : LR B n (ent as n) ((lg_sl (as.map (cv B)) ++ List.replicate (n - (lg_sl (as.map (cv B))).length) Slot.unset).toArray) := by
  have hlen : ∀ as : List Value, (lg_sl (as.map (cv B))).length = (entL as).length := by
    intro as
    induction as with
    | nil => rfl
    | cons v vs ih =>
      have e1 : lg_sl ((v :: vs).map (cv B)) = (if (cv B v).category = 2 then [Slot.val (cv B v), .second] else [.val (cv B v)]) ++ lg_sl (vs.map (cv B)) := by
        simp [lg_sl]
      rw [e1, List.length_append, ih, cv_cat, entL]
      split <;> simp <;> omega
  have h1 := lv_entry (as.map (cv B)) (n := n) (by rw [hlen]; exact hn)
  refine ⟨h1.1, h1.2.1, fun i v hv => h1.2.2 (i, cv B v) ?_⟩
  have key : ∀ (as : List Value) (k i : Nat) (v : Value), lget (entL as) i = some v → (k + i, cv B v) ∈ lv_args k (as.map (cv B)) := by
    intro as
    induction as with
    | nil => intro k i v h; simp [entL, lget] at h
    | cons w ws ih =>
      intro k i v h
      rw [List.map_cons, lv_args]
      rw [entL] at h
      by_cases hw : w.category = 2
      · rw [if_pos hw] at h
        match i, h with
        | 0, h => cases h; exact List.mem_cons_self
        | 1, h => cases h
        | i + 2, h =>
          have h2 := ih (k + 2) i v h
          rw [if_pos (by rw [cv_cat]; exact hw)]
          rw [show k + (i + 2) = k + 2 + i by omega]
          exact List.mem_cons_of_mem _ h2
      · rw [if_neg hw] at h
        match i, h with
        | 0, h => cases h; exact List.mem_cons_self
        | i + 1, h =>
          have h2 := ih (k + 1) i v h
          rw [if_neg (by rw [cv_cat]; exact hw)]
          rw [show k + (i + 1) = k + 1 + i by omega]
          exact List.mem_cons_of_mem _ h2
  have h3 := key as 0 i v (by
    unfold lget ent at hv
    unfold lget
    rcases Nat.lt_or_ge i (entL as).length with q | q
    · rw [List.getElem?_append_left q] at hv; exact hv
    · rw [List.getElem?_append_right q] at hv
      rcases Nat.lt_or_ge (i - (entL as).length) (n - (entL as).length) with w | w
      · rw [List.getElem?_replicate, if_pos w] at hv; cases hv
      · rw [List.getElem?_eq_none (by simpa using w)] at hv; cases hv)
  rw [Nat.zero_add] at h3
  exact h3
/-- every method: what the abstract machine says of it is a contract of the machine -/
theorem cs_all (l : Launch) (B : Bs) : ∀ d : Nat, CS l B d (evC d) := by
  intro d
  induction d with
  | zero => intro M as h res h' hM z; cases z
  | succ d ih =>
    intro M as h res h' hM z
    have hlen : (entL as).length ≤ M.mx := by
      by_cases q : (entL as).length ≤ M.mx
      · exact q
      · simp only [evC] at z
        rw [if_neg q] at z; cases z
    have z2 : ev (evC d) M 0 (ent as M.mx) [] h = some (res, h') := by
      simp only [evC] at z
      rw [if_pos hlen] at z; exact z
    obtain ⟨n, z3⟩ := ev_get z2
    have main : ∀ (p : Program) (e : Env) (s : State) (m : MethodId) (args : Array Value) (below : List Frame) (meth : Method) (c : Code), Cx B M p s m args meth c → args = (as.map (cv B)).toArray → Rep B h s.heap → HM h h' ∧ W p l e (rmd (d + 1) (h'.N - h.N) (h'.S - h.S)) s m args below meth c s.heap [] 0 0 (vx_MQ below (fun _ => QR B res h') (XR B res h') args s (h'.N - h.N) (h'.S - h.S) (AA B)) (entryFrame m args M.mx) := by
      intro p e s m args below meth c X ha hr
      obtain ⟨g1, g2⟩ := run_sound (h0 := h) (l := l) (e := e) (R := rmd (d + 1) (h'.N - h.N) (h'.S - h.S)) (below := below) (Q := vx_MQ below (fun _ => QR B res h') (XR B res h') args s (h'.N - h.N) (h'.S - h.S) (AA B)) X ih ⟨Nat.le_refl _, Nat.le_refl _⟩ ⟨Nat.le_refl _, Nat.le_refl _⟩ (fun i ty pc ls st h2 a b c2 => gw_fin X a b c2) (fun pc ls q h2 a => gx_out X a) n _ _ _ _ z3
      refine ⟨g1, ?_⟩
      have g3 := g2 s.heap [] _ hr va_S.rf (lr_entry B as M.mx hlen) (Nat.le_refl _) (Nat.le_refl _)
      rw [Nat.sub_self, Nat.sub_self] at g3
      subst ha
      rw [lg_entry_eq]
      exact g3
    have hmono : HM h h' := by
      have : ∀ (n pc : Nat) (ls : Lc) (st : List Value) (hh : Hp), runN (evC d) M n pc ls st hh = some (res, h') → HM hh h' := by
        intro n
        induction n with
        | zero => intro pc ls st hh w; simp [runN] at w
        | succ n ihn =>
          intro pc ls st hh w
          rw [runN] at w
          cases e1 : nxt (evC d) M pc ls st hh with
          | none => rw [e1] at w; cases w
          | some x =>
            rw [e1] at w
            have e2 := e1
            unfold nxt at e2
            split at e2
            · next i k hd =>
              split at e2
              · have hm := nm_nxi (pc := pc) (ls := ls) (st := st) (h := hh) (C := evC d) (M := M) (i := i) (fun y as r h' a b => (ih y as hh r h' a b).2)
                rw [e2] at hm
                cases x with
                | inl q =>
                  obtain ⟨pc', ls', st', h2⟩ := q
                  exact HM.tr hm (ihn _ _ _ _ w)
                | inr q => cases w; exact hm
              · cases e2
            · cases e2
      exact this n _ _ _ _ z3
    refine ⟨?_, hmono.1, hmono.2⟩
    unfold CT
    have hcx : ∀ (p : Program) (s : State) (m : MethodId) (args : Array Value) (meth : Method) (c : Code), p.tables.exec = Jvm.exec → c.code = M.code → meth.sig.returnType = M.ret → meth.locks = false → c.maxLocals = M.mx → s.vm.findClass M.y.cls = some m.cls → (∀ w ∈ lw_all, w.before args s = true) → meth.name = M.y.name → B.base < s.heap.size → SB B h s → c.exceptionTable.toList = M.hh.map (fun e => (⟨e.1, e.2.1, e.2.2.1, e.2.2.2⟩ : ExceptionTableEntry)) → Cx B M p s m args meth c := by
      intro p s m args meth c a1 a2 a3 a4 a5 a6 a7 a8 a9 a10 a11
      rw [hM.1] at a6
      exact ⟨a1, a2, a3, a4, a5, a6, a7, a8, a10.1, a10.2.1, a10.2.2.1, a9, a11⟩
    by_cases hh : M.hh = []
    · rw [wsM_eq hh]
      refine vx_ofW (cc := M.code) (maxL := M.mx) (ret := M.ret) hM.2.2.1 rfl ?_
      intro p e s m args below meth c s₁ BB hml htab hv
      obtain ⟨ha, hb, hsb⟩ := hv
      have hts := atoms_spec (ws := ws_ M.y M.code M.mx M.ret) BB.pre
      have hts : ∀ w ∈ lw_all, w.before args s = true := fun w h => hts w (List.mem_cons_of_mem _ h)
      exact (main p e s m args below meth c (hcx p s m args meth c BB.exec BB.bytes BB.returns BB.notSynchronized hml (findClass_of_methodNamed BB.named) hts (name_of_methodNamed BB.named BB.method).1 hb hsb (by
        rw [hh]
        exact List.eq_nil_iff_forall_not_mem.mpr htab)) ha hsb.2.2.2).2
    · rw [show wsM M = wsW_ M.y M.code M.mx M.ret M.hh from if_neg hh]
      refine vx_ofWH (cc := M.code) (maxL := M.mx) (ret := M.ret) (hh := M.hh) hM.2.2.1 rfl ?_
      intro p e s m args below meth c s₁ BB hml hv
      obtain ⟨ha, hb, hsb⟩ := hv
      have hts0 := atoms_spec (ws := wsW_ M.y M.code M.mx M.ret M.hh) BB.pre
      have hts : ∀ w ∈ lw_all, w.before args s = true := fun w h => hts0 w (List.mem_cons_of_mem _ h)
      exact (main p e s m args below meth c (hcx p s m args meth c BB.exec BB.bytes BB.returns BB.notSynchronized hml (findClass_of_methodNamed BB.named) hts (name_of_methodNamed BB.named BB.method).1 hb hsb (vx_table (x := M.y) BB (hts0 _ List.mem_cons_self))) ha hsb.2.2.2).2
