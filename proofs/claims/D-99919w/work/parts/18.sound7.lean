/-! ===== runs ===== -/
set_option maxRecDepth 100000
def HM (h h' : Hp) : Prop := h.N ≤ h'.N ∧ h.S ≤ h'.S
theorem HM.rf (h : Hp) : HM h h := ⟨Nat.le_refl _, Nat.le_refl _⟩
theorem HM.tr {a b c : Hp} (h1 : HM a b) (h2 : HM b c) : HM a c := ⟨Nat.le_trans h1.1 h2.1, Nat.le_trans h1.2 h2.2⟩
/-- a step that goes on, with a heap that doesn't shrink -/
def NG (h : Hp) (x : Nx) : Prop := match x with
  | none => True
  | some (.inl q) => HM h q.2.2.2
  | some (.inr _) => False
def NM (h : Hp) (x : Nx) : Prop := match x with
  | none => True
  | some (.inl q) => HM h q.2.2.2
  | some (.inr q) => HM h q.2
theorem NG.nm {h : Hp} {x : Nx} (g : NG h x) : NM h x := by
  unfold NG at g
  unfold NM
  split at g
  · trivial
  · exact g
  · exact absurd g (fun z => z)
theorem NG.go {h : Hp} {x : Nx} (g : NG h x) (hne : x ≠ none) : ∃ a b c d, x = gt a b c d := by
  unfold NG at g
  split at g
  · exact absurd rfl hne
  · next q => exact ⟨q.1, q.2.1, q.2.2.1, q.2.2.2, rfl⟩
  · exact absurd g (fun z => z)
section NN
variable {pc : Nat} {ls : Lc} {st : List Value} {h : Hp}
theorem ng_nld {n i ty : Nat} : NG h (nld pc n ls st h i ty) := by
  unfold nld
  repeat' split
  all_goals first | exact trivial | exact HM.rf _
theorem ng_nst {n mx i ty : Nat} : NG h (nst pc n mx ls st h i ty) := by
  unfold nst
  repeat' split
  all_goals first | exact trivial | exact HM.rf _
theorem ng_ngf {cn idx : Nat} : NG h (ngf cn pc idx ls st h) := by
  unfold ngf
  repeat' split
  all_goals first | exact trivial | exact HM.rf _
theorem hm_fp {ty t k : Nat} {v : Value} {h' : Hp} (e : fp h ty t k v = some h') : HM h h' := by
  unfold fp at e
  split at e
  · cases e; exact HM.rf _
  · split at e
    · cases e; exact HM.rf _
    · cases e
  · cases e; exact HM.rf _
  · cases e; exact HM.rf _
  · cases e; exact HM.rf _
  · cases e
theorem ng_npf {cn idx : Nat} {b : Bool} : NG h (npf cn b pc idx ls st h) := by
  unfold npf
  repeat' split
  all_goals first | exact trivial | (rename_i e; exact hm_fp e)
theorem ng_nal {ty : Nat} : NG h (nal pc ls st h ty) := by
  unfold nal
  repeat' split
  all_goals first | exact trivial | exact HM.rf _
theorem ng_nas {ty : Nat} : NG h (nas pc ls st h ty) := by
  unfold nas
  repeat' split
  all_goals first | exact trivial | exact HM.rf _
theorem ng_nlen : NG h (nlen pc ls st h) := by
  unfold nlen
  repeat' split
  all_goals first | exact trivial | exact HM.rf _
theorem ng_nnew {n kd ln sl : Nat} {r : List Value} : NG h (nnew pc n ls r h kd ln sl) := by
  unfold nnew
  split
  · exact ⟨Nat.le_succ _, Nat.le_add_right _ _⟩
  · exact trivial
theorem ng_nna {a : ArrayType} : NG h (nna pc ls st h a) := by
  unfold nna
  repeat' split
  all_goals first | exact trivial | exact ng_nnew
theorem ng_naa {cn idx : Nat} : NG h (naa cn pc idx ls st h) := by
  unfold naa
  repeat' split
  all_goals first | exact trivial | exact ng_nnew
theorem ng_ncp : NG h (ncp pc ls st h) := by
  unfold ncp
  split
  · next n dp d sp sr r =>
    by_cases hc : cpo h sr d sp dp n ∧ csum r ≤ 8
    · rw [if_pos hc]; exact HM.rf _
    · rw [if_neg hc]; exact trivial
  · exact trivial
theorem ng_nsw {i : Instr} : NG h (nsw pc ls st h i) := by
  unfold nsw
  repeat' split
  all_goals first | exact trivial | exact HM.rf _
theorem ng_njc {r : List Value} {P : Prop} {o : Int} : NG h (njc pc ls r h P o) := by
  unfold njc
  split
  · by_cases hP : P
    · rw [if_pos hP]; exact HM.rf _
    · rw [if_neg hP]; exact HM.rf _
  · exact trivial
theorem nm_nth {M : MR} {q : Nat} : NM h (nth M pc ls q h) := by
  cases e : nth M pc ls q h with
  | none => exact trivial
  | some x =>
    rcases nth_cases e with ⟨a, b, c, rfl⟩ | rfl
    · exact HM.rf _
    · exact HM.rf _
theorem nm_nbk {M : MR} {rest : List Value} {o : Option (Rs × Hp)} (ho : ∀ r h', o = some (r, h') → HM h h') : NM h (nbk M pc ls rest o) := by
  cases o with
  | none => exact trivial
  | some x =>
    obtain ⟨r, h'⟩ := x
    have e := ho r h' rfl
    cases r with
    | inl v => exact e
    | inr q =>
      show NM h (nth M pc ls q h')
      cases e2 : nth M pc ls q h' with
      | none => exact trivial
      | some x =>
        rcases nth_cases e2 with ⟨a, b, c, rfl⟩ | rfl
        · exact e
        · exact e
theorem nm_niv {C : MR → List Value → Hp → Option (Rs × Hp)} {M : MR} {u idx : Nat} (hC : ∀ (y : MR) (as : List Value) (r : Rs) (h' : Hp), MOk y → C y as h = some (r, h') → HM h h') : NM h (niv C M u pc idx ls st h) := by
  unfold niv
  cases hlk : lk (mtab M.cn) idx with
  | none => exact trivial
  | some tg =>
    obtain ⟨kd, n, lm⟩ := tg
    have hG := gok_all M.cn _ (lk_mem hlk)
    simp only
    by_cases hn : n ≤ st.length
    · rw [if_pos hn]
      split
      · split
        · next hk =>
          subst hk
          obtain ⟨y, e1, hM, -⟩ := hG
          simp only at e1
          subst e1
          simp only [nvS]
          split
          · exact nm_nbk (fun r h' z => hC y _ r h' hM z)
          · exact trivial
        · split
          · exact ng_ncp.nm
          · split
            · unfold nmx
              repeat' split
              all_goals first | exact trivial | exact HM.rf _
            · exact trivial
      · split
        · split
          · next hk =>
            subst hk
            obtain ⟨y, e1, hM, -⟩ := hG
            simp only at e1
            subst e1
            unfold nvI
            split
            · next e2 e3 =>
              cases e2
              split
              · exact nm_nbk (fun r h' z => hC y _ r h' hM z)
              · exact trivial
            · exact trivial
          · split
            · unfold nvO
              repeat' split
              all_goals first | exact trivial | exact HM.rf _
            · exact trivial
        · split
          · next hk =>
            subst hk
            unfold nvV
            split
            · split
              · next y e2 =>
                split
                · refine nm_nbk (fun r h' z => hC y _ r h' ?_ z)
                  rcases hG with ⟨ci, M2, C2, T2, e1, hci, hcl, hyc, hM, -⟩ | ⟨x, hx1, hx2, hx3, hx4, hx5⟩
                  · simp only at e1
                    subst e1
                    have e5 := lk_mem e2
                    simp only [List.mem_singleton, Prod.mk.injEq] at e5
                    rw [e5.2]; exact hM
                  · obtain ⟨C2, T2, hci, hcl, hM, -⟩ := hx5 _ (lk_mem e2)
                    exact hM
                · exact trivial
              · exact trivial
            · exact trivial
          · split
            · next hk =>
              subst hk
              obtain ⟨y, e1, hM, -⟩ := hG
              simp only at e1
              subst e1
              unfold nvT
              split
              · next e2 e3 =>
                cases e2
                split
                · exact nm_nbk (fun r h' z => hC y _ r h' hM z)
                · exact trivial
              · exact trivial
            · exact trivial
    · rw [if_neg hn]; exact trivial
theorem nm_nrt {M : MR} {ty : Nat} : NM h (nrt M st h ty) := by
  unfold nrt
  split
  · next x t _ =>
    by_cases hP : ty = 0 ∧ rok t x
    · rw [if_pos hP]; exact HM.rf _
    · rw [if_neg hP]; exact trivial
  all_goals first | exact trivial | (split <;> first | exact trivial | exact HM.rf _)
theorem nm_nxi {C : MR → List Value → Hp → Option (Rs × Hp)} {M : MR} {i : Instr} (hC : ∀ (y : MR) (as : List Value) (r : Rs) (h' : Hp), MOk y → C y as h = some (r, h') → HM h h') : NM h (nxi C M pc i ls st h) := by
  unfold nxi
  split
  case h_1 | h_2 | h_3 | h_4 | h_5 | h_6 => exact ng_nld.nm
  all_goals first
    | exact ng_nst.nm
    | exact ng_nsw.nm
    | exact ng_ngf.nm
    | exact ng_npf.nm
    | exact ng_nal.nm
    | exact ng_nas.nm
    | exact ng_nlen.nm
    | exact ng_nna.nm
    | exact ng_naa.nm
    | exact nm_niv hC
    | exact nm_nrt
    | (repeat' split) <;> first | exact trivial | exact HM.rf _ | exact ng_njc.nm | exact ng_nnew.nm | exact nm_nth
end NN
