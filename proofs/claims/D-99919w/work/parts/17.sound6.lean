/-! ===== calls, throws, ends ===== -/
set_option maxRecDepth 100000
/-- what a call leaves: it returned, or threw -/
def QR (B : Bs) (res : Rs) (h' : Hp) : State → Outcome → State → Prop := fun st o t => match res with
  | .inl v => o = .returned (v.map (cv B)) ∧ Rep B h' t.heap ∧ va_F (AA B) st t
  | .inr _ => False
def XR (B : Bs) (res : Rs) (h' : Hp) : String → State → State → Prop := fun E st t => match res with
  | .inl _ => False
  | .inr _ => E = "SkySpire$Fault" ∧ Rep B h' t.heap ∧ va_F (AA B) st t
abbrev rmd (d mc ms : Nat) : Room := { frames := d, cells := mc, slots := ms, locals := 80 * d }
def wsM (M : MR) : List Cond := if M.hh = [] then ws_ M.y M.code M.mx M.ret else wsW_ M.y M.code M.mx M.ret M.hh
/-- a contract, as the abstract machine says it -/
def CT (l : Launch) (B : Bs) (d : Nat) (M : MR) (as : List Value) (h : Hp) (res : Rs) (h' : Hp) : Prop :=
  vx_Met l M.y (wsM M) (rmd d (h'.N - h.N) (h'.S - h.S)) (va_Pc (as.map (cv B)) (fun U => B.base < U.heap.size ∧ SB B h U)) (fun _ => QR B res h') (XR B res h') (h'.N - h.N) (h'.S - h.S) (AA B)
def CS (l : Launch) (B : Bs) (d : Nat) (C : MR → List Value → Hp → Option (Rs × Hp)) : Prop := ∀ (M : MR) (as : List Value) (h : Hp) (res : Rs) (h' : Hp), MOk M → C M as h = some (res, h') → CT l B d M as h res h' ∧ h.N ≤ h'.N ∧ h.S ≤ h'.S
section SN
variable {B : Bs} {M : MR} {h0 : Hp} {p : Program} {l : Launch} {e : Env} {R : Room} {s : State} {m : MethodId} {args : Array Value} {below : List Frame} {meth : Method} {c : Code} {Q : State → Prop}
variable {pc : Nat} {ls : Lc} {st : List Value} {h : Hp} {pc' : Nat} {ls' : Lc} {st' : List Value} {h' : Hp}
/-- a throw at a place of the method -/
def GX (B : Bs) (M : MR) (h0 : Hp) (p : Program) (l : Launch) (e : Env) (R : Room) (s : State) (m : MethodId) (args : Array Value) (below : List Frame) (meth : Method) (c : Code) (Q : State → Prop) (pc : Nat) (ls : Lc) (h : Hp) : Prop :=
  ∀ (H : Heap) (locs : List Loc) (la : Array Slot) (rest : List Value) (q9 : Addr) (ce : Cell), Rep B h H → va_S (AA B) s.heap H locs → LR B M.mx ls la → h0.N ≤ h.N → h0.S ≤ h.S → H[q9]? = some ce → ce.vm = .none → s.vm.findClass "SkySpire$Fault" = some ce.cls → vx_W p l e R s m args below meth c H locs (h.N - h0.N) (h.S - h0.S) Q (F0 m pc la rest) q9
theorem gx_catch {q : Nat} (X : Cx B M p s m args meth c) (hn : nth M pc ls q h = gt pc' ls' st' h') (kk : GW B M h0 p l e R s m args below meth c Q pc' ls' st' h') : GX B M h0 p l e R s m args below meth c Q pc ls h := by
  intro H locs la rest q9 ce hr hs hl n1 n2 g1 g2 g3
  unfold nth at hn
  split at hn
  · cases hn
  · next a b hp ct hhh =>
    split at hn
    · next hk =>
      obtain ⟨k1, k2, k3, rfl⟩ := hk
      split at hn
      · next k hdk =>
        split at hn
        · next hkm =>
          obtain ⟨rfl, rfl, rfl, rfl⟩ := gt_inj hn
          have htab := X.tab
          rw [hhh] at htab
          have hown := X.own
          rw [k3] at hown
          refine vx_catch (name := "SkySpire$Fault") (E := "SkySpire$Fault") hown [] ⟨a, b, hp, 33⟩ [] htab (fun z hz => by cases hz) (by simp [covers, k1, k2]) (by simp) (X.ts _ (show Cond.classLink (cnm 0) 33 "SkySpire$Fault" ∈ lw_all from q249)) (va_Nw.use rfl X.nw.2.2.2.1) g1 g2 g3 ?_
          exact lv_astore_n X.hx X.hb hdk rfl hl.has hkm rfl (fun la' h2 => kk H locs la' hr hs (LR.store0 h2) n1 n2)
        · cases hn
      · cases hn
    · cases hn
  · cases hn
/-- behind a call -/
theorem gw_run {res : Rs} {hc : Hp} {rest : List Value} {st0 : List Value} {H : Heap} {locs : List Loc} {la : Array Slot} (X : Cx B M p s m args meth c) (hs : va_S (AA B) s.heap H locs) (hl : LR B M.mx ls la) (n1 : h0.N ≤ h.N) (n2 : h0.S ≤ h.S) (m1 : h.N ≤ hc.N) (m2 : h.S ≤ hc.S)
    (hrun : vx_Run p l e R s m args below meth c H locs (h.N - h0.N) (h.S - h0.S) (hc.N - h.N) (hc.S - h.S) (F0 m pc la st0) (rest.map (cv B)) (QR B res hc) (XR B res hc) (AA B))
    (k1 : ∀ v, res = .inl v → GW B M h0 p l e R s m args below meth c Q (pc + 3) ls (v.toList ++ rest) hc) (k2 : ∀ q, res = .inr q → GX B M h0 p l e R s m args below meth c Q pc ls hc) :
    W p l e R s m args below meth c H locs (h.N - h0.N) (h.S - h0.S) Q (F0 m pc la st0) := by
  intro T hT Y
  have eN : h.N - h0.N + (hc.N - h.N) = hc.N - h0.N := by omega
  have eS : h.S - h0.S + (hc.S - h.S) = hc.S - h0.S := by omega
  have keep : ∀ {st₀ t T' : State} {L : List Loc}, st₀.heap = H → T'.heap = t.heap → (∀ q ∈ L, AA B q.base) → va_F (AA B) st₀ t → va_S (AA B) s.heap T'.heap (locs ++ L) := by
    intro st₀ t T' L a1 a2 a3 a4
    obtain ⟨f1, f2⟩ := a4
    rw [a1] at f1 f2
    rw [a2]
    exact ⟨Nat.le_trans hs.1 f1, fun q g1 g2 => (f2 q (Nat.lt_of_lt_of_le g1 hs.1) g2).trans (hs.2.1 q g1 g2), fun q hq => (List.mem_append.mp hq).elim (hs.2.2 q) (a3 q)⟩
  rcases hrun T hT Y with ⟨v, st₀, t, T', L, a0, Y', hL, e1, e2, q, st⟩ | ⟨q9, st₀, t, T', L, E, ce, a0, Y', hL, e1, e2, xc, c1, c2, c3, st⟩
  · cases res with
    | inr q' => exact absurd q (fun z => z)
    | inl v' =>
      obtain ⟨b1, b2, b3⟩ := q
      have b1 : v = v'.map (cv B) := Outcome.returned.inj b1
      have kk := k1 v' rfl T'.heap (locs ++ L) la (by rw [e1]; exact b2) (keep a0 e1 hL b3) hl (by omega) (by omega)
      rw [← eN, ← eS] at kk
      obtain ⟨t2, a1, d1⟩ := kk T' rfl Y'
      refine ⟨t2, st t2 ?_, d1⟩
      rw [b1]
      rw [List.map_append] at a1
      cases v' with
      | none => exact a1
      | some w => exact a1
  · cases res with
    | inl v' => exact absurd xc (fun z => z)
    | inr q' =>
      obtain ⟨rfl, b2, b3⟩ := xc
      have kk := k2 q' rfl T'.heap (locs ++ L) la (rest.map (cv B)) q9 ce (by rw [e1]; exact b2) (keep a0 e1 hL b3) hl (by omega) (by omega) (by rw [e1]; exact c1) c2 c3
      rw [← eN, ← eS] at kk
      obtain ⟨t2, a1, d1⟩ := kk T' rfl Y'
      exact ⟨t2, st.trans a1, d1⟩
theorem pc_blind (as : List Value) : FrameBlind (va_Pc (as.map (cv B)) (fun U => B.base < U.heap.size ∧ SB B h U)) := fun a U g mk q => ⟨q.1, q.2.1, SB.calling q.2.2 g mk a⟩
theorem pc_pre {H : Heap} {locs : List Loc} (X : Cx B M p s m args meth c) (hr : Rep B h H) (hs : va_S (AA B) s.heap H locs) (as : List Value) {av : List Value} (ea : as.map (cv B) = av) (U : State) (hU : U.heap = H) (hW : s.WarmedH U.vm) : va_Pc (as.map (cv B)) (fun U => B.base < U.heap.size ∧ SB B h U) av.toArray U := by
  refine ⟨by rw [ea], ?_, X.kd.moved hW.alike, ?_, X.nw.warm hW, by rw [hU]; exact hr⟩
  · rw [hU]
    exact Nat.lt_of_lt_of_le X.base hs.1
  · rw [hU]
    exact (X.ex.kept hs.2.1).warm hW
theorem wsM_eq {M : MR} (hh : M.hh = []) : wsM M = ws_ M.y M.code M.mx M.ret := if_pos hh
theorem mok_code {M : MR} (hM : MOk M) (hh : M.hh = []) : Cond.code M.y M.code M.mx M.ret ∈ lw_all := by
  rcases hM.2.2.2 with ⟨-, q⟩ | ⟨z, -⟩
  · exact q
  · exact absurd hh z
theorem take_drop {st : List Value} {n : Nat} (hn : n ≤ st.length) : st.map (cv B) = (((st.take n).reverse).map (cv B)).reverse ++ (st.drop n).map (cv B) := by
  rw [List.map_reverse, List.reverse_reverse, ← List.map_append, List.take_append_drop]
theorem take_len {st : List Value} {n : Nat} (hn : n ≤ st.length) : (((st.take n).reverse).map (cv B)).length = n := by
  rw [List.length_map, List.length_reverse, List.length_take]
  omega
theorem nw_mth (X : Cx B M p s m args meth c) {own host : String} {y : MethodName} {idx : Nat} (hm : (own, idx, y, host) ∈ nwM) : va_Nw (.methodLinkNest own idx y host) s := X.nw.2.1 _ hm
theorem nth_cases {q : Nat} {x : (Nat × Lc × List Value × Hp) ⊕ (Rs × Hp)} (e : nth M pc ls q h = some x) : (∃ pc1 ls1 st1, x = .inl (pc1, ls1, st1, h)) ∨ x = .inr (.inr q, h) := by
  unfold nth at e
  split at e
  · cases e; exact Or.inr rfl
  · split at e
    · split at e
      · split at e
        · cases e; exact Or.inl ⟨_, _, _, rfl⟩
        · cases e
      · cases e
    · cases e
  · cases e
/-- what a call's callee did, and what is left to show behind it -/
theorem call_base {C : MR → List Value → Hp → Option (Rs × Hp)} {d : Nat} (X : Cx B M p s m args meth c) (hC : CS l B d C) {y : MR} {as rest : List Value} (hM : MOk y)
    (hgo : ∀ pc' ls' st' h', nbk M pc ls rest (C y as h) = gt pc' ls' st' h' → GW B M h0 p l e R s m args below meth c Q pc' ls' st' h' ∧ h'.N - h0.N ≤ R.cells ∧ h'.S - h0.S ≤ R.slots)
    (hth : ∀ q hc, nbk M pc ls rest (C y as h) = some (.inr (.inr q, hc)) → GX B M h0 p l e R s m args below meth c Q pc ls hc ∧ hc.N - h0.N ≤ R.cells ∧ hc.S - h0.S ≤ R.slots)
    (hne : nbk M pc ls rest (C y as h) ≠ none) : ∃ (res : Rs) (hc : Hp), CT l B d y as h res hc ∧ h.N ≤ hc.N ∧ h.S ≤ hc.S ∧ (∀ v, res = .inl v → GW B M h0 p l e R s m args below meth c Q (pc + 3) ls (v.toList ++ rest) hc) ∧ (∀ q, res = .inr q → GX B M h0 p l e R s m args below meth c Q pc ls hc) ∧ hc.N - h0.N ≤ R.cells ∧ hc.S - h0.S ≤ R.slots := by
  cases e1 : C y as h with
  | none => rw [e1] at hne; exact absurd rfl hne
  | some rr =>
    obtain ⟨res, hc⟩ := rr
    obtain ⟨a1, a2, a3⟩ := hC y as h res hc hM e1
    rw [e1] at hne hgo hth
    cases res with
    | inl v =>
      obtain ⟨g1, g2, g3⟩ := hgo _ _ _ _ rfl
      exact ⟨_, hc, a1, a2, a3, (fun v' z => by cases z; exact g1), (fun q z => by cases z), g2, g3⟩
    | inr q =>
      cases e2 : nth M pc ls q hc with
      | none => exact absurd e2 hne
      | some x =>
        rcases nth_cases e2 with ⟨pc1, ls1, st1, rfl⟩ | rfl
        · obtain ⟨g1, g2, g3⟩ := hgo _ _ _ _ e2
          exact ⟨_, hc, a1, a2, a3, (fun v' z => by cases z), (fun q' z => gx_catch X e2 g1), g2, g3⟩
        · obtain ⟨g1, g2, g3⟩ := hth _ _ e2
          exact ⟨_, hc, a1, a2, a3, (fun v' z => by cases z), (fun q' z => g1), g2, g3⟩
theorem Cx.fix (X : Cx B M p s m args meth c) : CallFix p m c M.code M.mx s args lw_all (cnm M.cn) := ⟨X.hx, X.hb, X.ml, X.own, X.ts⟩
theorem rm_ok {d a b : Nat} {y : MR} (hM : MOk y) (hR : d + 1 ≤ R.frames ∧ 80 * (d + 1) ≤ R.locals) : (rmd d a b).frames + 1 ≤ R.frames ∧ 8 + (y.mx + 11) + (rmd d a b).locals ≤ R.locals := by
  have := hM.2.1
  refine ⟨hR.1, ?_⟩
  show 8 + (y.mx + 11) + 80 * d ≤ R.locals
  omega
theorem nmx_shape (hne : nmx pc ls st h ≠ none) : ∃ (y x : Int32) (r : List Value), st = .int y :: .int x :: r := by
  rcases st with _ | ⟨v, _ | ⟨w, r⟩⟩
  · simp [nmx] at hne
  · cases v <;> simp [nmx] at hne
  · cases v <;> cases w <;> first | exact ⟨_, _, _, rfl⟩ | (simp [nmx] at hne)
theorem nvO_shape {n : Nat} (hne : nvO pc ls st h n ≠ none) : ∃ (t : Nat) (r : List Value), st.drop n = .ref t :: r := by
  unfold nvO at hne
  generalize st.drop n = x at hne ⊢
  rcases x with _ | ⟨v, r⟩
  · simp at hne
  · cases v <;> first | exact ⟨_, _, rfl⟩ | (simp at hne)
/-- calls: what the abstract machine does at one, done by the machine -/
theorem gw_call {C : MR → List Value → Hp → Option (Rs × Hp)} {d u k : Nat} {i : Instr} (X : Cx B M p s m args meth c) (hC : CS l B d C) (hR : d + 1 ≤ R.frames ∧ 80 * (d + 1) ≤ R.locals) (hR2 : h.N - h0.N ≤ R.cells ∧ h.S - h0.S ≤ R.slots) (hd : decode M.code pc = .ok (i, 3)) (hi : (i = .invokestatic k ∧ u = 0) ∨ (i = .invokespecial k ∧ u = 1) ∨ (i = .invokevirtual k ∧ u = 2))
    (hgo : ∀ pc' ls' st' h', niv C M u pc k ls st h = gt pc' ls' st' h' → GW B M h0 p l e R s m args below meth c Q pc' ls' st' h' ∧ h'.N - h0.N ≤ R.cells ∧ h'.S - h0.S ≤ R.slots)
    (hth : ∀ q hc, niv C M u pc k ls st h = some (.inr (.inr q, hc)) → GX B M h0 p l e R s m args below meth c Q pc ls hc ∧ hc.N - h0.N ≤ R.cells ∧ hc.S - h0.S ≤ R.slots)
    (hne : niv C M u pc k ls st h ≠ none) : GW B M h0 p l e R s m args below meth c Q pc ls st h := by
  have fix := X.fix
  have hR3 : 1 ≤ R.frames ∧ 80 ≤ R.locals := ⟨by omega, by omega⟩
  unfold niv at hne hgo hth
  obtain ⟨tg, hlk⟩ : ∃ tg, lk (mtab M.cn) k = some tg := by
    cases hlk : lk (mtab M.cn) k with
    | none => rw [hlk] at hne; exact absurd rfl hne
    | some tg => exact ⟨tg, rfl⟩
  obtain ⟨kd, n, lm⟩ := tg
  have hG := gok_all M.cn _ (lk_mem hlk)
  simp only [hlk] at hne hgo hth
  by_cases hn : n ≤ st.length
  rotate_left
  · rw [if_neg hn] at hne; exact absurd rfl hne
  simp only [if_pos hn] at hne hgo hth
  have htk := take_drop (B := B) hn
  have hln := take_len (B := B) hn
  rcases hi with ⟨rfl, rfl⟩ | ⟨rfl, rfl⟩ | ⟨rfl, rfl⟩
  · simp only [if_pos rfl] at hne hgo hth
    by_cases h0k : kd = 0
    · subst h0k
      simp only [if_pos rfl] at hne hgo hth
      obtain ⟨y, e1, hM, hh, hno, hlo, hst, hin⟩ := hG
      simp only at e1
      subst e1
      simp only [nvS] at hne hgo hth
      by_cases hsum : csum (st.drop n) ≤ 8
      rotate_left
      · rw [if_neg hsum] at hne; exact absurd rfl hne
      simp only [if_pos hsum] at hne hgo hth
      obtain ⟨res, hc, d2, d3, d4, d5, d6, d7, d8⟩ := call_base X hC hM hgo hth hne
      intro H locs la hr hs hl n1 n2
      rw [htk]
      unfold CT at d2
      rw [wsM_eq hh] at d2
      refine gw_run X hs hl n1 n2 d3 d4 ?_ d5 d6
      rcases hlo with hlo | ⟨host, hlo⟩
      · exact vx_runS fix d2 (va_cwS n X.ts (lw_S hlo hst hin (mok_code hM hh)) rfl rfl rfl hno (rm_ok hM hR)) ⟨pc_blind _, fun U hU hW => pc_pre X hr hs _ rfl U hU hW⟩ rfl hln hl.1 rfl (by show 2 * 0 + _ ≤ 8; rw [cv_sum]; omega) hd ⟨by omega, by omega⟩
      · exact vx_runSN fix d2 ⟨va_cnB n X.ts (lw_meth (mok_code hM hh)) rfl rfl rfl (nw_mth X hlo) (X.ts _ hin) hno (rm_ok hM hR), X.ts _ hst, trivial⟩ ⟨pc_blind _, fun U hU hW => pc_pre X hr hs _ rfl U hU hW⟩ rfl hln hl.1 rfl (by show 2 * 0 + _ ≤ 8; rw [cv_sum]; omega) hd ⟨by omega, by omega⟩
    · simp only [if_neg h0k] at hne hgo hth
      by_cases h4k : kd = 4
      · subst h4k
        simp only [if_pos rfl] at hne hgo hth
        cases e2 : ncp pc ls st h with
        | none => exact absurd e2 hne
        | some x =>
          cases x with
          | inl x => obtain ⟨a, b, c1, d1⟩ := x; exact gw_copy X hG hd e2 hR3 (hgo _ _ _ _ e2).1
          | inr x =>
            exfalso
            unfold ncp at e2
            split at e2
            · next n dp d sp sr r =>
              by_cases hc : cpo h sr d sp dp n ∧ csum r ≤ 8
              · rw [if_pos hc] at e2; cases e2
              · rw [if_neg hc] at e2; cases e2
            · cases e2
      · simp only [if_neg h4k] at hne hgo hth
        by_cases h6k : kd = 6
        · subst h6k
          simp only [if_pos rfl] at hne hgo hth
          obtain ⟨y, x, r, rfl⟩ : ∃ (y x : Int32) (r : List Value), st = .int y :: .int x :: r := nmx_shape hne
          simp only [nmx] at hne hgo
          by_cases hsum : csum r ≤ 8
          · rw [if_pos hsum] at hgo
            intro H locs la hr hs hl n1 n2
            refine va_mmax X.hx X.hb (by rw [hl.1]; exact X.ml) X.own (X.ts _ hG) (X.ts _ mm_stat) (X.ts _ mm_ini) (X.ts _ mm_code) hR3.1 (by rw [cv_sum]; omega) hR2.1 hR2.2 hd ?_
            exact (hgo _ _ _ _ rfl).1 H locs la hr hs hl n1 n2
          · rw [if_neg hsum] at hne; exact absurd rfl hne
        · simp only [if_neg h6k] at hne; exact absurd rfl hne
  · simp only [if_neg (show ¬ (1 : Nat) = 0 by decide), if_pos rfl] at hne hgo hth
    by_cases h1k : kd = 1
    · subst h1k
      simp only [if_pos rfl] at hne hgo hth
      obtain ⟨y, e1, hM, hh, hret, hnm, hno, hlo, hst, hin⟩ := hG
      simp only at e1
      subst e1
      obtain ⟨w, r, e3⟩ : ∃ w r, st.drop n = w :: r := by
        cases e3 : st.drop n with
        | nil => simp [nvI, e3] at hne
        | cons w r => exact ⟨w, r, rfl⟩
      cases w with
      | ref t =>
        simp only [nvI, e3] at hne hgo hth
        by_cases hsum : csum r ≤ 8 ∧ t < 3000000
        rotate_left
        · rw [if_neg hsum] at hne; exact absurd rfl hne
        simp only [if_pos hsum] at hne hgo hth
        obtain ⟨res, hc, d2, d3, d4, d5, d6, d7, d8⟩ := call_base X hC hM hgo hth hne
        intro H locs la hr hs hl n1 n2
        rw [htk, e3, List.map_cons, cv_ref hsum.2]
        unfold CT at d2
        rw [wsM_eq hh, hret] at d2
        refine gw_run X hs hl n1 n2 d3 d4 ?_ d5 d6
        have hpre : PreS s H (va_Pc ((Value.ref t :: (st.take n).reverse).map (cv B)) (fun U => B.base < U.heap.size ∧ SB B h U)) (.ref (ra B t) :: ((st.take n).reverse).map (cv B)) := ⟨pc_blind _, fun U hU hW => pc_pre X hr hs _ (by rw [List.map_cons, cv_ref hsum.2]) U hU hW⟩
        have hcod := mok_code hM hh
        rw [hret] at hcod
        rcases hlo with hlo | ⟨host, hlo⟩
        · exact vx_runI fix d2 (cwI n X.ts (lw_meth hcod) rfl rfl rfl (X.ts _ hin) (X.ts _ hlo) (X.ts _ hst) hnm hno (rm_ok hM hR)) hpre rfl hln hl.1 rfl (by show 2 * 0 + _ ≤ 8; rw [cv_sum]; omega) hd ⟨by omega, by omega⟩
        · exact vx_runIN fix d2 ⟨va_cnB n X.ts (lw_meth hcod) rfl rfl rfl (nw_mth X hlo) (X.ts _ hin) hno (rm_ok hM hR), hnm, X.ts _ hst⟩ hpre rfl hln hl.1 rfl (by show 2 * 0 + _ ≤ 8; rw [cv_sum]; omega) hd ⟨by omega, by omega⟩
      | _ => simp [nvI, e3] at hne
    · simp only [if_neg h1k] at hne hgo hth
      by_cases h3k : kd = 3
      · subst h3k
        simp only [if_pos rfl] at hne hgo hth
        obtain ⟨t, r, e3⟩ : ∃ (t : Nat) (r : List Value), st.drop n = .ref t :: r := nvO_shape hne
        simp only [nvO, e3] at hne hgo
        by_cases hsum : csum r ≤ 8 ∧ t < 3000000 ∧ n = 0
        · rw [if_pos hsum] at hgo
          obtain ⟨hs1, hs2, hs3⟩ := hsum
          subst hs3
          rw [List.drop_zero] at e3
          subst e3
          intro H locs la hr hs hl n1 n2
          have k2 := (hgo _ _ _ _ rfl).1 H locs la hr hs hl n1 n2
          rw [List.map_cons, cv_ref hs2]
          exact W.objInit X.hx X.hb X.own (X.ts _ hG) (X.ts _ oi_inst) (X.ts _ oi_code) rfl (by rw [X.ml]; exact hl.1) rfl hd hR3.1 (by show 2 * 0 + _ + 12 ≤ _; rw [cv_sum]; omega) k2
        · rw [if_neg hsum] at hne; exact absurd rfl hne
      · simp only [if_neg h3k] at hne; exact absurd rfl hne
  · simp only [if_neg (show ¬ (2 : Nat) = 0 by decide), if_neg (show ¬ (2 : Nat) = 1 by decide)] at hne hgo hth
    by_cases h2k : kd = 2
    · subst h2k
      simp only [if_pos rfl] at hne hgo hth
      obtain ⟨w, r, e3⟩ : ∃ w r, st.drop n = w :: r := by
        cases e3 : st.drop n with
        | nil => simp [nvV, e3] at hne
        | cons w r => exact ⟨w, r, rfl⟩
      cases w with
      | ref t =>
        simp only [nvV, e3] at hne hgo hth
        obtain ⟨y, e4⟩ : ∃ y, lk lm (h.K t - 16) = some y := by
          cases e4 : lk lm (h.K t - 16) with
          | none => simp [e4] at hne
          | some y => exact ⟨y, rfl⟩
        simp only [e4] at hne hgo hth
        by_cases hsum : 16 ≤ h.K t ∧ csum r ≤ 8
        rotate_left
        · rw [if_neg hsum] at hne; exact absurd rfl hne
        simp only [if_pos hsum] at hne hgo hth
        obtain ⟨h16, hsum⟩ := hsum
        have hKt : h.K t = 16 + (h.K t - 16) := by omega
        rcases hG with ⟨ci, M2, C2, T2, e1, hci, hcl, hyc, hM, hno, ⟨hlo, hlo2⟩, hst, hsel, hin⟩ | ⟨x, hx1, hx2, hx3, hx4, hx5⟩
        · simp only at e1
          subst e1
          have e5 := lk_mem e4
          simp only [List.mem_singleton, Prod.mk.injEq] at e5
          obtain ⟨e5, rfl⟩ := e5
          obtain ⟨res, hc, d2, d3, d4, d5, d6, d7, d8⟩ := call_base X hC hM hgo hth hne
          intro H locs la hr hs hl n1 n2
          have hlt : t < (3000000 : Nat) := Nat.lt_trans (rp_small hr (t := t) (by omega)) (by omega)
          rw [htk, e3, List.map_cons, cv_ref hlt]
          unfold CT at d2
          refine gw_run X hs hl n1 n2 d3 d4 ?_ d5 d6
          rw [e5] at hKt
          have hpre : PreV s H C2 (ra B t) (va_Pc ((Value.ref t :: (st.take n).reverse).map (cv B)) (fun U => B.base < U.heap.size ∧ SB B h U)) (((st.take n).reverse).map (cv B)) := ⟨pc_blind _, va_recv X.kd (rp_obj hr hKt hci) (q0 := 0) hcl rfl, fun U hU hW => pc_pre X hr hs _ (by rw [List.map_cons, cv_ref hlt]) U hU hW⟩
          by_cases hh : y.hh = []
          · rw [wsM_eq hh] at d2
            have hcod := mok_code hM hh
            rcases hlo with hlo | ⟨host, hlo⟩
            · exact vx_runV fix d2 (cwV n X.ts (lw_V hlo hst hsel hin hcod) rfl rfl rfl ⟨hyc, hno⟩ (rm_ok hM hR)) hpre rfl hln hl.1 rfl (by show 2 * 0 + _ ≤ 8; rw [cv_sum]; omega) hd ⟨by omega, by omega⟩
            · exact vx_runVN fix d2 ⟨va_cnB n X.ts (lw_meth hcod) rfl rfl rfl (nw_mth X hlo) (by rw [hyc]; exact X.ts _ hin) hno (rm_ok hM hR), X.ts _ hst, X.ts _ hsel⟩ hpre rfl hln hl.1 rfl (by show 2 * 0 + _ ≤ 8; rw [cv_sum]; omega) hd ⟨by omega, by omega⟩
          · rw [show wsM y = wsW_ y.y y.code y.mx y.ret y.hh from if_neg hh] at d2
            have hcod : Cond.codeWith y.y y.code y.mx y.ret y.hh ∈ lw_all := by
              rcases hM.2.2.2 with ⟨z, -⟩ | ⟨-, -, q⟩
              · exact absurd z hh
              · exact q
            exact vx_runVX fix d2 (vx_cwVW n X.ts (lw_VW (hlo2 hh) hst hsel hin hcod) rfl rfl rfl ⟨hyc, hno⟩ (rm_ok hM hR)) hpre rfl hln hl.1 rfl (by show 2 * 0 + _ ≤ 8; rw [cv_sum]; omega) hd ⟨by omega, by omega⟩
        · obtain ⟨C2, T2, hci, hcl, hM, hh, hsel, hst, hin⟩ := hx5 _ (lk_mem e4)
          simp only at hci hcl hM hh hsel hst hin
          obtain ⟨res, hc, d2, d3, d4, d5, d6, d7, d8⟩ := call_base X hC hM hgo hth hne
          intro H locs la hr hs hl n1 n2
          have hlt : t < (3000000 : Nat) := Nat.lt_trans (rp_small hr (t := t) (by omega)) (by omega)
          rw [htk, e3, List.map_cons, cv_ref hlt]
          unfold CT at d2
          rw [wsM_eq hh] at d2
          refine gw_run X hs hl n1 n2 d3 d4 ?_ d5 d6
          have hpre : PreV s H C2 (ra B t) (va_Pc ((Value.ref t :: (st.take n).reverse).map (cv B)) (fun U => B.base < U.heap.size ∧ SB B h U)) (((st.take n).reverse).map (cv B)) := ⟨pc_blind _, va_recv X.kd (rp_obj hr hKt hci) (q0 := 0) hcl rfl, fun U hU hW => pc_pre X hr hs _ (by rw [List.map_cons, cv_ref hlt]) U hU hW⟩
          have hcod := mok_code hM hh
          have hdecl : va_Decl s x := by
            have hq : va_Nw (.declares x) s := by
              rcases hx3 with q | q <;> rw [q]
              · exact X.nw.2.2.2.2.1
              · exact X.nw.2.2.2.2.2
            obtain ⟨r0, r, g1, g2, g3, g4⟩ := Cond.declares_spec (va_Nw.use (A := args) rfl hq)
            exact ⟨r0, r, g1, g2, g3, g4⟩
          have hgood := lw_meth hcod
          refine vx_runU (x := x) (owner := x.cls) fix d2 ⟨⟨rfl, rfl, (rm_ok hM hR).1, (rm_ok hM hR).2, pay_in X.ts hgood, List.mem_cons_self⟩, X.ts _ hcod, X.ts _ hin, ⟨hx4.1, hx4.2.1⟩, fun sig hsig => ?_, X.ts _ hx1, X.ts _ hx2, hdecl, X.ts _ hsel, X.ts _ hst⟩ hpre rfl hln hl.1 rfl (by show 2 * 0 + _ ≤ 8; rw [cv_sum]; omega) hd ⟨by omega, by omega⟩
          have h2 := hx4.2.2
          rw [hsig] at h2
          exact (Option.some.inj h2).symm
      | _ => simp [nvV, e3] at hne
    · simp only [if_neg h2k] at hne hgo hth
      by_cases h5k : kd = 5
      · subst h5k
        simp only [if_pos rfl] at hne hgo hth
        obtain ⟨y, e1, hM, hh, hyc, hno, hlo, hst, hsel, hin⟩ := hG
        simp only at e1
        subst e1
        obtain ⟨w, r, e3⟩ : ∃ w r, st.drop n = w :: r := by
          cases e3 : st.drop n with
          | nil => simp [nvT, e3] at hne
          | cons w r => exact ⟨w, r, rfl⟩
        cases w with
        | ref t =>
          simp only [nvT, e3] at hne hgo hth
          by_cases hsum : csum r ≤ 8 ∧ 1000000 ≤ t ∧ t < 1000039
          rotate_left
          · rw [if_neg hsum] at hne; exact absurd rfl hne
          simp only [if_pos hsum] at hne hgo hth
          obtain ⟨hsum, ht⟩ := hsum
          obtain ⟨res, hc, d2, d3, d4, d5, d6, d7, d8⟩ := call_base X hC hM hgo hth hne
          intro H locs la hr hs hl n1 n2
          obtain ⟨i, hi39, hti⟩ := str_ix ht
          subst hti
          rw [htk, e3, List.map_cons, cv_str hi39]
          unfold CT at d2
          rw [wsM_eq hh] at d2
          refine gw_run X hs hl n1 n2 d3 d4 ?_ d5 d6
          obtain ⟨cell, g1, g2, g3, -⟩ := ((X.ex.2.2.1 i hi39).1).kept hs.2.1
          have hpre : PreV s H "java/lang/String" (B.sA i) (va_Pc ((Value.ref (1000000 + i) :: (st.take n).reverse).map (cv B)) (fun U => B.base < U.heap.size ∧ SB B h U)) (((st.take n).reverse).map (cv B)) := ⟨pc_blind _, ⟨cell, g1, g2, g3⟩, fun U hU hW => pc_pre X hr hs _ (by rw [List.map_cons, cv_str hi39]) U hU hW⟩
          exact vx_runV fix d2 (cwV n X.ts (lw_V hlo hst hsel hin (mok_code hM hh)) rfl rfl rfl ⟨hyc, hno⟩ (rm_ok hM hR)) hpre rfl hln hl.1 rfl (by show 2 * 0 + _ ≤ 8; rw [cv_sum]; omega) hd ⟨by omega, by omega⟩
        | _ => simp [nvT, e3] at hne
      · simp only [if_neg h5k] at hne; exact absurd rfl hne
end SN
