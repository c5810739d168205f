/-! ===== the claim's start: from the Statement's premises to the abstract machine's law ===== -/
set_option maxRecDepth 100000
/-- the first heap: the script alone -/
def h00 (L : Nat) (xs : Nat → Int32) : Hp := Hp.mk (fun t => if t = 0 then 0 else 999) (fun _ => L) (fun _ => xs) (fun _ _ => 0) (fun _ _ => none) 1 0
/-- what is left to show: the abstract law answers true on every script -/
def PureGoal : Prop := ∀ (L : Nat) (xs : Nat → Int32), L ≤ 384 → ∃ (d : Nat) (hf : Hp), d ≤ 1000 ∧ ev (evC d) mL_law 0 (ent [.ref 0] 4) [] (h00 L xs) = some (.inl (some (.int 1)), hf) ∧ hf.N ≤ 600000 ∧ hf.S ≤ 7200000
def swd (i : Nat) : List Cond := [.exactly (.string (sown i) (sidx i)) "java/lang/String", .eq (.field (.string (sown i) (sidx i)) "java/lang/String" "coder" "B") (.int 0), .arrayOf (.field (.string (sown i) (sidx i)) "java/lang/String" "value" "[B") .byte, .eq (.length (.field (.string (sown i) (sidx i)) "java/lang/String" "value" "[B")) (.int (Int32.ofNat (sbT.getD i []).length))] ++ (List.range (sbT.getD i []).length).map (fun j => .eq (.elem (.field (.string (sown i) (sidx i)) "java/lang/String" "value" "[B") (.int (Int32.ofNat j))) (.int ((sbT.getD i []).getD j 0)))

theorem swd_0 : swd 0 = ((flatC (Jvm.Cond.and given_1 narrow_1)).drop 93).take 7 := by decide +kernel
theorem swd_1 : swd 1 = ((flatC (Jvm.Cond.and given_1 narrow_1)).drop 100).take 7 := by decide +kernel
theorem swd_2 : swd 2 = ((flatC (Jvm.Cond.and given_1 narrow_1)).drop 107).take 8 := by decide +kernel
theorem swd_3 : swd 3 = ((flatC (Jvm.Cond.and given_1 narrow_1)).drop 115).take 8 := by decide +kernel
theorem swd_4 : swd 4 = ((flatC (Jvm.Cond.and given_1 narrow_1)).drop 123).take 9 := by decide +kernel
theorem swd_5 : swd 5 = ((flatC (Jvm.Cond.and given_1 narrow_1)).drop 132).take 7 := by decide +kernel
theorem swd_6 : swd 6 = ((flatC (Jvm.Cond.and given_1 narrow_1)).drop 139).take 10 := by decide +kernel
theorem swd_7 : swd 7 = ((flatC (Jvm.Cond.and given_1 narrow_1)).drop 149).take 9 := by decide +kernel
theorem swd_8 : swd 8 = ((flatC (Jvm.Cond.and given_1 narrow_1)).drop 158).take 7 := by decide +kernel
theorem swd_9 : swd 9 = ((flatC (Jvm.Cond.and given_1 narrow_1)).drop 165).take 9 := by decide +kernel
theorem swd_10 : swd 10 = ((flatC (Jvm.Cond.and given_1 narrow_1)).drop 174).take 7 := by decide +kernel
theorem swd_11 : swd 11 = ((flatC (Jvm.Cond.and given_1 narrow_1)).drop 181).take 8 := by decide +kernel
theorem swd_12 : swd 12 = ((flatC (Jvm.Cond.and given_1 narrow_1)).drop 189).take 8 := by decide +kernel
theorem swd_13 : swd 13 = ((flatC (Jvm.Cond.and given_1 narrow_1)).drop 197).take 8 := by decide +kernel
theorem swd_14 : swd 14 = ((flatC (Jvm.Cond.and given_1 narrow_1)).drop 205).take 7 := by decide +kernel
theorem swd_15 : swd 15 = ((flatC (Jvm.Cond.and given_1 narrow_1)).drop 84).take 9 := by decide +kernel
theorem swd_16 : swd 16 = ((flatC (Jvm.Cond.and given_1 narrow_1)).drop 238).take 7 := by decide +kernel
theorem swd_17 : swd 17 = ((flatC (Jvm.Cond.and given_1 narrow_1)).drop 246).take 7 := by decide +kernel
theorem swd_18 : swd 18 = ((flatC (Jvm.Cond.and given_1 narrow_1)).drop 254).take 8 := by decide +kernel
theorem swd_19 : swd 19 = ((flatC (Jvm.Cond.and given_1 narrow_1)).drop 263).take 8 := by decide +kernel
theorem swd_20 : swd 20 = ((flatC (Jvm.Cond.and given_1 narrow_1)).drop 272).take 9 := by decide +kernel
theorem swd_21 : swd 21 = ((flatC (Jvm.Cond.and given_1 narrow_1)).drop 282).take 7 := by decide +kernel
theorem swd_22 : swd 22 = ((flatC (Jvm.Cond.and given_1 narrow_1)).drop 290).take 10 := by decide +kernel
theorem swd_23 : swd 23 = ((flatC (Jvm.Cond.and given_1 narrow_1)).drop 301).take 9 := by decide +kernel
theorem swd_24 : swd 24 = ((flatC (Jvm.Cond.and given_1 narrow_1)).drop 311).take 7 := by decide +kernel
theorem swd_25 : swd 25 = ((flatC (Jvm.Cond.and given_1 narrow_1)).drop 319).take 9 := by decide +kernel
theorem swd_26 : swd 26 = ((flatC (Jvm.Cond.and given_1 narrow_1)).drop 329).take 7 := by decide +kernel
theorem swd_27 : swd 27 = ((flatC (Jvm.Cond.and given_1 narrow_1)).drop 337).take 8 := by decide +kernel
theorem swd_28 : swd 28 = ((flatC (Jvm.Cond.and given_1 narrow_1)).drop 346).take 8 := by decide +kernel
theorem swd_29 : swd 29 = ((flatC (Jvm.Cond.and given_1 narrow_1)).drop 355).take 8 := by decide +kernel
theorem swd_30 : swd 30 = ((flatC (Jvm.Cond.and given_1 narrow_1)).drop 364).take 7 := by decide +kernel
theorem swd_31 : swd 31 = ((flatC (Jvm.Cond.and given_1 narrow_1)).drop 372).take 6 := by decide +kernel
theorem swd_32 : swd 32 = ((flatC (Jvm.Cond.and given_1 narrow_1)).drop 379).take 7 := by decide +kernel
theorem swd_33 : swd 33 = ((flatC (Jvm.Cond.and given_1 narrow_1)).drop 387).take 7 := by decide +kernel
theorem swd_34 : swd 34 = ((flatC (Jvm.Cond.and given_1 narrow_1)).drop 395).take 6 := by decide +kernel
theorem swd_35 : swd 35 = ((flatC (Jvm.Cond.and given_1 narrow_1)).drop 212).take 6 := by decide +kernel
theorem swd_36 : swd 36 = ((flatC (Jvm.Cond.and given_1 narrow_1)).drop 218).take 7 := by decide +kernel
theorem swd_37 : swd 37 = ((flatC (Jvm.Cond.and given_1 narrow_1)).drop 225).take 7 := by decide +kernel
theorem swd_38 : swd 38 = ((flatC (Jvm.Cond.and given_1 narrow_1)).drop 232).take 6 := by decide +kernel
theorem swd_ok {i : Nat} (hi : i < 39) {w : Cond} (hw : w ∈ swd i) : w ∈ flatC (Jvm.Cond.and given_1 narrow_1) := by
  have key : ∀ {a b : Nat}, swd i = ((flatC (Jvm.Cond.and given_1 narrow_1)).drop a).take b → w ∈ flatC (Jvm.Cond.and given_1 narrow_1) := by
    intro a b h
    rw [h] at hw
    exact List.mem_of_mem_drop (List.mem_of_mem_take hw)
  match i, hi with
  | 0, _ => exact key swd_0
  | 1, _ => exact key swd_1
  | 2, _ => exact key swd_2
  | 3, _ => exact key swd_3
  | 4, _ => exact key swd_4
  | 5, _ => exact key swd_5
  | 6, _ => exact key swd_6
  | 7, _ => exact key swd_7
  | 8, _ => exact key swd_8
  | 9, _ => exact key swd_9
  | 10, _ => exact key swd_10
  | 11, _ => exact key swd_11
  | 12, _ => exact key swd_12
  | 13, _ => exact key swd_13
  | 14, _ => exact key swd_14
  | 15, _ => exact key swd_15
  | 16, _ => exact key swd_16
  | 17, _ => exact key swd_17
  | 18, _ => exact key swd_18
  | 19, _ => exact key swd_19
  | 20, _ => exact key swd_20
  | 21, _ => exact key swd_21
  | 22, _ => exact key swd_22
  | 23, _ => exact key swd_23
  | 24, _ => exact key swd_24
  | 25, _ => exact key swd_25
  | 26, _ => exact key swd_26
  | 27, _ => exact key swd_27
  | 28, _ => exact key swd_28
  | 29, _ => exact key swd_29
  | 30, _ => exact key swd_30
  | 31, _ => exact key swd_31
  | 32, _ => exact key swd_32
  | 33, _ => exact key swd_33
  | 34, _ => exact key swd_34
  | 35, _ => exact key swd_35
  | 36, _ => exact key swd_36
  | 37, _ => exact key swd_37
  | 38, _ => exact key swd_38
  | k + 39, h => exact absurd h (Nat.not_lt.mpr (Nat.le_add_left _ _))
theorem swd_len {i : Nat} (hi : i < 39) : (sbT.getD i []).length < 2 ^ 31 := by
  have h : (List.range 39).all (fun i => decide ((sbT.getD i []).length < 2 ^ 31)) = true := by decide +kernel
  exact of_decide_eq_true (List.all_eq_true.mp h i (List.mem_range.mpr hi))
theorem str_tbl : ∀ i, i < 39 → Cond.stringRef (sown i) (sidx i) (stxt i) ∈ lw_tbl := by
  intro i hi
  match i, hi with
  | 0, _ => exact q325
  | 1, _ => exact q326
  | 2, _ => exact q327
  | 3, _ => exact q328
  | 4, _ => exact q329
  | 5, _ => exact q330
  | 6, _ => exact q331
  | 7, _ => exact q332
  | 8, _ => exact q333
  | 9, _ => exact q334
  | 10, _ => exact q335
  | 11, _ => exact q336
  | 12, _ => exact q337
  | 13, _ => exact q338
  | 14, _ => exact q339
  | 15, _ => exact q291
  | 16, _ => exact q1312
  | 17, _ => exact q1313
  | 18, _ => exact q1314
  | 19, _ => exact q1315
  | 20, _ => exact q1371
  | 21, _ => exact q1395
  | 22, _ => exact q1396
  | 23, _ => exact q1397
  | 24, _ => exact q1398
  | 25, _ => exact q1399
  | 26, _ => exact q1400
  | 27, _ => exact q1401
  | 28, _ => exact q1402
  | 29, _ => exact q1403
  | 30, _ => exact q1404
  | 31, _ => exact q1405
  | 32, _ => exact q1418
  | 33, _ => exact q1435
  | 34, _ => exact q1436
  | 35, _ => exact q709
  | 36, _ => exact q726
  | 37, _ => exact q764
  | 38, _ => exact q781
  | k + 39, h => exact absurd h (Nat.not_lt.mpr (Nat.le_add_left _ _))
theorem str_start {s : State} {args : Array Value} (hn : ∀ c ∈ flatC (Jvm.Cond.and given_1 narrow_1), c.before args s = true) (htb : ∀ w ∈ lw_tbl, w.before args s = true) {A : Nat → Prop} (hA : ∀ a : Nat, a < s.heap.size → ¬ A a) :
    ∃ (sA sV : Nat → Nat), ∀ i, i < 39 → va_O "java/lang/String" (sA i) A s s.heap ∧ va_OF "java/lang/String" "coder" "B" (.int 0) (sA i) A s s.heap ∧ va_OF "java/lang/String" "value" "[B" (.ref (sV i)) (sA i) A s s.heap ∧ va_T .byte (sV i) (sbT.getD i []).length (fun j => .int ((sbT.getD i []).getD j 0)) A s s.heap ∧ vk_R (sown i) (sidx i) (stxt i) (sA i) s := by
  have h0 : ∀ i : Nat, ∃ q : Nat × Nat, i < 39 → va_O "java/lang/String" q.1 A s s.heap ∧ va_OF "java/lang/String" "coder" "B" (.int 0) q.1 A s s.heap ∧ va_OF "java/lang/String" "value" "[B" (.ref q.2) q.1 A s s.heap ∧ va_T .byte q.2 (sbT.getD i []).length (fun j => .int ((sbT.getD i []).getD j 0)) A s s.heap ∧ vk_R (sown i) (sidx i) (stxt i) q.1 s := by
    intro i
    by_cases hi : i < 39
    · have hw : ∀ w ∈ swd i, w.before args s = true := fun w h => hn w (swd_ok hi h)
      have hone : ∀ j : Nat, j < 1 → j = 0 := fun j h => by omega
      obtain ⟨adK, adV, g1, g2⟩ := vk_Sof (s := s) (args := args) (N := 1) (tm := fun _ => .string (sown i) (sidx i)) (len := [(sbT.getD i []).length]) (byt := [sbT.getD i []]) (A := A)
        (fun j hj => by rw [hone j hj]; exact swd_len hi)
        (fun j hj => hw _ (by simp [swd])) (fun j hj => hw _ (by simp [swd])) (fun j hj => hw _ (by simp [swd]))
        (fun j hj => by rw [hone j hj]; exact hw _ (by simp [swd]))
        (fun j hj k hk => by
          rw [hone j hj] at hk ⊢
          exact hw _ (List.mem_append_right _ (List.mem_map.mpr ⟨k, List.mem_range.mpr hk, rfl⟩)))
        (fun a b ha hb hab => absurd ((hone a ha).trans (hone b hb).symm) hab) hA
      obtain ⟨a1, a2, a3, a4⟩ := g1.1 0 (by omega)
      exact ⟨(adK 0, adV 0), fun _ => ⟨a1, a2, a3, a4, vk_R.of (htb _ (str_tbl i hi)) (by
        have := g2 0 (by omega)
        rw [Term.string_eval_of_vm (args := args) (U := s) rfl]; exact this)⟩⟩
    · exact ⟨(0, 0), fun z => absurd z hi⟩
  obtain ⟨f, hf⟩ := Classical.axiomOfChoice h0
  exact ⟨fun i => (f i).1, fun i => (f i).2, hf⟩
theorem stat_start {s : State} {args : Array Value} (hn : ∀ c ∈ flatC (Jvm.Cond.and given_1 narrow_1), c.before args s = true) (htb : ∀ w ∈ lw_tbl, w.before args s = true) {A : Nat → Prop} (hA : ∀ a : Nat, a < s.heap.size → ¬ A a) :
    va_Z "java/lang/String" "COMPACT_STRINGS" "Z" (.int 1) A s s.heap ∧ ∃ vS : Nat → Option Nat, va_Z "jdk/internal/util/Preconditions" "SIOOBE_FORMATTER" "Ljava/util/function/BiFunction;" (va_rf (vS 0)) A s s.heap ∧ va_Z "java/lang/Throwable" "UNASSIGNED_STACK" "[Ljava/lang/StackTraceElement;" (va_rf (vS 1)) A s s.heap ∧ va_Z "java/lang/Throwable" "SUPPRESSED_SENTINEL" "Ljava/util/List;" (va_rf (vS 2)) A s s.heap := by
  have hq : ∀ {C n d : String}, va_Zq C n d A s s.heap → ∃ r : Option Nat, va_Z C n d (va_rf r) A s s.heap := by
    intro C n d h
    rcases h with h | ⟨t, h⟩
    · exact ⟨none, h⟩
    · exact ⟨some t, h⟩
  obtain ⟨r0, z0⟩ := hq (va_Zqof (htb _ q522) (htb _ (lw_all_tbl q127)) (hn (.isRef (.static "jdk/internal/util/Preconditions" "SIOOBE_FORMATTER" "Ljava/util/function/BiFunction;")) (by decide +kernel)) hA)
  obtain ⟨r1, z1⟩ := hq (va_Zqof (htb _ q276) (htb _ (lw_all_tbl q118)) (hn (.isRef (.static "java/lang/Throwable" "UNASSIGNED_STACK" "[Ljava/lang/StackTraceElement;")) (by decide +kernel)) hA)
  obtain ⟨r2, z2⟩ := hq (va_Zqof (htb _ q278) (htb _ (lw_all_tbl q118)) (hn (.isRef (.static "java/lang/Throwable" "SUPPRESSED_SENTINEL" "Ljava/util/List;")) (by decide +kernel)) hA)
  refine ⟨va_Zof (htb _ q506) (htb _ (lw_all_tbl q125)) (va_eqi (hn (.eq (.static "java/lang/String" "COMPACT_STRINGS" "Z") (.int 1)) (by decide +kernel))) hA, fun k => if k = 0 then r0 else if k = 1 then r1 else r2, z0, z1, z2⟩
theorem nwF_tbl : ∀ x ∈ nwF, Cond.fieldLinkNest x.1 x.2.1 x.2.2.1 x.2.2.2.1 x.2.2.2.2.1 x.2.2.2.2.2 ∈ lw_tbl := List.forall_mem_cons.mpr ⟨q158, List.forall_mem_cons.mpr ⟨q161, List.forall_mem_cons.mpr ⟨q163, List.forall_mem_cons.mpr ⟨q167, List.forall_mem_cons.mpr ⟨q169, List.forall_mem_cons.mpr ⟨q171, List.forall_mem_cons.mpr ⟨q175, List.forall_mem_cons.mpr ⟨q177, List.forall_mem_cons.mpr ⟨q179, List.forall_mem_cons.mpr ⟨q187, List.forall_mem_cons.mpr ⟨q190, List.forall_mem_cons.mpr ⟨q192, List.forall_mem_cons.mpr ⟨q194, List.forall_mem_cons.mpr ⟨q196, List.forall_mem_cons.mpr ⟨q198, List.forall_mem_cons.mpr ⟨q200, List.forall_mem_cons.mpr ⟨q302, List.forall_mem_cons.mpr ⟨q304, List.forall_mem_cons.mpr ⟨q1088, List.forall_mem_cons.mpr ⟨q1089, List.forall_mem_cons.mpr ⟨q1090, List.forall_mem_cons.mpr ⟨q1091, List.forall_mem_cons.mpr ⟨q157, List.forall_mem_cons.mpr ⟨q160, List.forall_mem_cons.mpr ⟨q164, List.forall_mem_cons.mpr ⟨q166, List.forall_mem_cons.mpr ⟨q173, List.forall_mem_cons.mpr ⟨q181, List.forall_mem_cons.mpr ⟨q183, List.forall_mem_cons.mpr ⟨q185, List.forall_mem_cons.mpr ⟨q188, List.forall_mem_cons.mpr ⟨q301, List.forall_mem_cons.mpr ⟨q303, List.forall_mem_cons.mpr ⟨q348, List.forall_mem_cons.mpr ⟨q351, List.forall_mem_cons.mpr ⟨q354, List.forall_mem_cons.mpr ⟨q356, List.forall_mem_cons.mpr ⟨q358, List.forall_mem_cons.mpr ⟨q361, List.forall_mem_cons.mpr ⟨q363, List.forall_mem_cons.mpr ⟨q364, List.forall_mem_cons.mpr ⟨q626, List.forall_mem_cons.mpr ⟨q628, List.forall_mem_cons.mpr ⟨q645, List.forall_mem_cons.mpr ⟨q647, List.forall_mem_cons.mpr ⟨q644, (fun _ h => by cases h)⟩⟩⟩⟩⟩⟩⟩⟩⟩⟩⟩⟩⟩⟩⟩⟩⟩⟩⟩⟩⟩⟩⟩⟩⟩⟩⟩⟩⟩⟩⟩⟩⟩⟩⟩⟩⟩⟩⟩⟩⟩⟩⟩⟩⟩⟩
theorem nwM_tbl : ∀ x ∈ nwM, Cond.methodLinkNest x.1 x.2.1 x.2.2.1 x.2.2.2 ∈ lw_tbl := List.forall_mem_cons.mpr ⟨q152, List.forall_mem_cons.mpr ⟨q440, List.forall_mem_cons.mpr ⟨q1081, List.forall_mem_cons.mpr ⟨q843, List.forall_mem_cons.mpr ⟨q569, List.forall_mem_cons.mpr ⟨q619, List.forall_mem_cons.mpr ⟨q640, List.forall_mem_cons.mpr ⟨q675, List.forall_mem_cons.mpr ⟨q688, List.forall_mem_cons.mpr ⟨q698, List.forall_mem_cons.mpr ⟨q736, List.forall_mem_cons.mpr ⟨q753, List.forall_mem_cons.mpr ⟨q770, List.forall_mem_cons.mpr ⟨q1086, (fun _ h => by cases h)⟩⟩⟩⟩⟩⟩⟩⟩⟩⟩⟩⟩⟩⟩
theorem nwA_tbl : ∀ C ∈ nwA, Cond.arrayOver (.object C) ∈ lw_tbl := List.forall_mem_cons.mpr ⟨q248, List.forall_mem_cons.mpr ⟨q324, List.forall_mem_cons.mpr ⟨q341, List.forall_mem_cons.mpr ⟨q624, List.forall_mem_cons.mpr ⟨q343, (fun _ h => by cases h)⟩⟩⟩⟩⟩
theorem nw_start {s : State} {args : Array Value} (htb : ∀ w ∈ lw_tbl, w.before args s = true) : NW s := ⟨fun x hx => va_Nw.of rfl (htb _ (nwF_tbl x hx)), fun x hx => va_Nw.of rfl (htb _ (nwM_tbl x hx)), fun C hC => va_AO.of (htb _ (nwA_tbl C hC)), va_Nw.of rfl (htb _ q251), va_Nw.of rfl (htb _ q873), va_Nw.of rfl (htb _ q864)⟩
theorem kd_start {s : State} {args : Array Value} (htb : ∀ w ∈ lw_tbl, w.before args s = true) : ∃ (D : va_G) (dA : Nat → ClassId), (∀ (c : Nat) (q : vw_C), clX[c]? = some q → u_Kn s q.1 q.2.1 q.2.2 (D.1 c) (D.2 c)) ∧ ∀ k, k < 9 → ArrOfT s (dA k) (akT k) ∧ va_RA s (dA k) (akT k) := by
  have hts : ∀ w ∈ lw_all, w.before args s = true := fun w h => htb w (lw_all_tbl h)
  have h1 : ∀ c : Nat, ∃ x : ClassId × (Nat → Nat), c < 14 → ∀ q : vw_C, clX[c]? = some q → u_Kn s q.1 q.2.1 q.2.2 x.1 x.2 := by
    intro c
    by_cases hc : c < 14
    · obtain ⟨C, T, ty, a1, a2, -, -, -, a6, -⟩ := cok_all c hc
      obtain ⟨cC, iS, h⟩ := u_known (C := C) (T := T) (N := fno c) hts a2 (hts _ a6)
      refine ⟨(cC, iS), fun _ q hq => ?_⟩
      rw [a1] at hq
      cases hq
      exact h
    · exact ⟨(0, fun _ => 0), fun z => absurd z hc⟩
  have h2 : ∀ k : Nat, ∃ cA : ClassId, k < 9 → ArrOfT s cA (akT k) ∧ va_RA s cA (akT k) := by
    have prim : ∀ (t : FieldType), Cond.arrayClass t ∈ lw_all → (∀ C, t ≠ .object C) → ∃ cA : ClassId, ArrOfT s cA t ∧ va_RA s cA t := by
      intro t ht hno
      obtain ⟨cA, kA, comp, b1, b2, b3⟩ := Cond.arrayClass_spec (hts _ ht)
      refine ⟨cA, fun n z => ⟨fun k h => (by cases h), kA, b2, comp, b3⟩, ?_⟩
      unfold va_RA
      split
      · next C => exact absurd rfl (hno C)
      · exact b1
    have obj : ∀ C : String, C ∈ nwA → ∃ cA : ClassId, ArrOfT s cA (.object C) ∧ va_RA s cA (.object C) := by
      intro C hC
      obtain ⟨comp, cA, kA, b1, b2, b3, b4, b5⟩ := Cond.arrayOver_spec (htb _ (nwA_tbl C hC))
      exact ⟨cA, fun n z => ⟨fun k h => (by cases h), kA, b3, comp, b4⟩, kA, comp, b3, b4, b1, b5⟩
    intro k
    match k with
    | 0 => obtain ⟨a, b⟩ := prim .int q245 (fun C z => by cases z); exact ⟨a, fun _ => b⟩
    | 1 => obtain ⟨a, b⟩ := prim .byte q322 (fun C z => by cases z); exact ⟨a, fun _ => b⟩
    | 2 => obtain ⟨a, b⟩ := prim .boolean q246 (fun C z => by cases z); exact ⟨a, fun _ => b⟩
    | 3 => obtain ⟨a, b⟩ := prim .long q247 (fun C z => by cases z); exact ⟨a, fun _ => b⟩
    | 4 => obtain ⟨a, b⟩ := obj "SkySpire$Sky" (by decide); exact ⟨a, fun _ => b⟩
    | 5 => obtain ⟨a, b⟩ := obj "java/lang/String" (by decide); exact ⟨a, fun _ => b⟩
    | 6 => obtain ⟨a, b⟩ := obj "SkySpire$Rule" (by decide); exact ⟨a, fun _ => b⟩
    | 7 => obtain ⟨a, b⟩ := obj "SkySpire$Clause" (by decide); exact ⟨a, fun _ => b⟩
    | 8 => obtain ⟨a, b⟩ := obj "SkySpire$Image" (by decide); exact ⟨a, fun _ => b⟩
    | k + 9 => exact ⟨0, fun z => absurd z (by omega)⟩
  obtain ⟨f, hf⟩ := Classical.axiomOfChoice h1
  obtain ⟨g, hg⟩ := Classical.axiomOfChoice h2
  refine ⟨(fun c => (f c).1, fun c => (f c).2), g, fun c q hq => hf c ?_ q hq, fun k hk => hg k hk⟩
  exact (List.getElem?_eq_some_iff.mp hq).1
/-! THE CLAIM OUT OF ONE WALK OF THE LAW'S BODY. Your part is whole_start (and what it stands on); all else here is the same for every law, but numbers. -/
def R_law : String := "SkySpireLaw"
def lw_P (b : Addr) (xs : List Int32) (args : Array Value) (s : State) : Prop := args = #[.ref b] ∧ s.IntsAt b xs ∧ xs.length ≤ 384 ∧ (Jvm.Cond.and given_1 narrow_1).before args s = true
def lw_Q (_ : Array Value) (s : State) (o : Outcome) (t : State) : Prop := o = .returned (some (.int 1)) ∧ Framed s o t [] 601024 7293034
def lw_Z (below : List Frame) (a : Array Value) (s : State) : State → Prop := fun t => ∃ o, t.status = .running ∧ Ended t below o ∧ lw_Q a s o t
/-- the law's own end, with 1 on the stack, nothing written that was there before, its room as the claim has it -/
theorem lw_ret {p : Program} {l : Launch} {e : Env} {s : State} {m : MethodId} {below : List Frame} {meth : Method} {c : Code} {b : Nat} (hx : p.tables.exec = Jvm.exec) (hb : c.code = code) (hr : meth.sig.returnType = ret) (hlocks : meth.locks = false) {pc : Nat} {H : Heap} {ls : Array Slot} (hdg : decode code pc = .ok (.ireturn, 1)) : W p l e room_1 s m #[Value.ref b] below meth c H [] 601024 7293034 (lw_Z below #[Value.ref b] s) (F0 m pc ls [.int 1]) := by
  intro T hT X
  obtain ⟨fs, hret, hrun, hended, hW, hframe⟩ := X.leave (v := some (.int 1)) (hlocks := hlocks) (fun h => by rw [hr] at h; cases h)
  have hmeth' : T.vm.method? m = some meth := X.method'
  refine ⟨T.setFrames fs, ?_, .returned (some (.int 1)), hrun, hended, rfl, ⟨_, rfl⟩, hW, hframe⟩
  jvm_step X.here [X.here.top, hx, hb, hdg, hmeth', hr, ret, narrow_b1]
  (try refine ⟨rfl, ?_⟩); (try refine ⟨rfl, ?_⟩)
  first | (intro acts; rw [hret _ acts rfl rfl rfl]) | rw [hret _ _ rfl rfl rfl]
  exact Steps.refl _
/-- what holds at the law's entry: the machine, the code, the tables' words (any of lw_tbl by 'hts w (by decide +kernel)'), the script of L ints xs at the cell b, what the Statement gives of the start (any of its parts by flat_of_before) -/
def lw_At (p : Program) (s : State) (m : MethodId) (meth : Method) (c : Code) (b L : Nat) (xs : Nat → Int32) : Prop :=
  p.tables.exec = Jvm.exec ∧ c.code = code ∧ meth.sig.returnType = ret ∧ c.maxLocals = 4 ∧ s.vm.findClass R_law = some m.cls ∧ (∀ w ∈ lw_tbl, w.before #[Value.ref b] s = true) ∧ va_X b L xs s s.heap ∧ b < s.heap.size ∧ meth.locks = false ∧ (Jvm.Cond.and given_1 narrow_1).before #[Value.ref b] s = true
/-- the walk of the law's body, out of the abstract machine's -/
theorem whole_start (PG : PureGoal) {p : Program} {e : Env} {s : State} {m : MethodId} {below : List Frame} {meth : Method} {c : Code} (l : Launch) (hflags : l.flags = flags0) {b L : Nat} {xs : Nat → Int32} (hL : L ≤ 384) (C0 : lw_At p s m meth c b L xs) (hname : meth.name = "law") (htabl : c.exceptionTable.toList = []) : W p l e room_1 s m #[Value.ref b] below meth c s.heap [] 0 0 (lw_Z below #[Value.ref b] s) (entryFrame m ([Value.ref b] : List Value).toArray 4) := by
  obtain ⟨hx, hb, hr, hml, hown, htb, hX, hbl, hlocks, hgv⟩ := C0
  have hn := flat_of_before _ hgv
  have hA : ∀ a : Nat, a < s.heap.size → ¬ (s.heap.size - 1 < a) := fun a h z => by omega
  obtain ⟨sA, sV, hstr⟩ := str_start hn htb (A := fun q => s.heap.size - 1 < q) hA
  obtain ⟨hc1, vS, hc2, hc3, hc4⟩ := stat_start hn htb (A := fun q => s.heap.size - 1 < q) hA
  obtain ⟨D, dA, hD, hdA⟩ := kd_start htb
  obtain ⟨d, hf, hdd, hev, hcN, hcS⟩ := PG L xs hL
  obtain ⟨n, hrun⟩ := ev_get hev
  have hB : ∃ B : Bs, B = (s.heap.size - 1, b, sA, sV, vS, D, dA, L, xs) := ⟨_, rfl⟩
  obtain ⟨B, hB⟩ := hB
  have e1 : B.base = s.heap.size - 1 := by rw [hB]; rfl
  have e2 : B.scr = b := by rw [hB]; rfl
  have e3 : B.sA = sA := by rw [hB]; rfl
  have e4 : B.sV = sV := by rw [hB]; rfl
  have e5 : B.vS = vS := by rw [hB]; rfl
  have e6 : B.D = D := by rw [hB]; rfl
  have e7 : B.dA = dA := by rw [hB]; rfl
  have e8 : B.L = L := by rw [hB]; rfl
  have e9 : B.xs = xs := by rw [hB]; rfl
  have eA : AA B = fun q => s.heap.size - 1 < q := by unfold AA; rw [e1]
  have hKD : KD B s := by
    refine ⟨fun c q hq => ?_, fun k q hq => ?_⟩
    · rw [e6]; exact hD c q hq
    · have hk : k < 9 := by
        have := (List.getElem?_eq_some_iff.mp hq).1
        simpa [tysX] using this
      rw [tysX_at B hk] at hq
      cases hq
      rw [e7]
      exact hdA k hk
  have hEX : EX B s s.heap := by
    refine ⟨by rw [e2, e8, e9]; exact hX, by rw [e1, e2]; omega, fun i hi => ?_, fun x hx => ?_⟩
    · rw [e3, e4, eA]; exact hstr i hi
    · have o : ∀ j : Nat, j < 3 → cv B (.ref (3000000 + j)) = va_rf (vS j) := by
        intro j hj
        show va_rf (oa B (3000000 + j)) = _
        rw [oa, if_pos (by omega), e5, Nat.add_sub_cancel_left]
      rw [eA]
      simp only [stL, List.mem_cons, List.not_mem_nil, or_false] at hx
      rcases hx with rfl | rfl | rfl | rfl
      · exact hc1
      · have := o 0 (by omega); simp only [Nat.add_zero] at this; rw [this]; exact hc2
      · have := o 1 (by omega); simp only [Nat.reduceAdd] at this; rw [this]; exact hc3
      · have := o 2 (by omega); simp only [Nat.reduceAdd] at this; rw [this]; exact hc4
  have hRep : Rep B (h00 L xs) s.heap := by
    refine ⟨by rw [e1]; show s.heap.size = s.heap.size - 1 + 1; omega, Nat.le_refl _, by show 1 ≤ 900000; omega, fun t h1 h2 => absurd h1 (by have : t < 1 := h2; omega), fun t ht => if_neg (by have : 1 ≤ t := ht; omega), rfl, e8.symm, e9.symm⟩
  have X : Cx B mL_law p s m #[Value.ref b] meth c := ⟨hx, hb, hr, hlocks, hml, hown, fun w h => htb w (lw_all_tbl h), hname, hKD, hEX, nw_start htb, by rw [e1]; omega, htabl⟩
  obtain ⟨g1, g2⟩ := run_sound (h0 := h00 L xs) (l := l) (e := e) (R := room_1) (below := below) (Q := lw_Z below #[Value.ref b] s) X (cs_all l B d) ⟨by show d + 1 ≤ 8192; omega, by show 80 * (d + 1) ≤ 100000; omega⟩ ⟨by show hf.N - 1 ≤ 601024; omega, by show hf.S - 0 ≤ 7293034; omega⟩
    (fun i ty pc ls st h2 a b2 c2 => by
      intro H locs la hr2 hs hl n1 n2
      have hshape : i = .ireturn ∧ st = [.int 1] ∧ h2 = hf := by
        unfold nrt at c2
        split at c2
        · next x t hret =>
          by_cases hP : ty = 0 ∧ rok t x
          · rw [if_pos hP] at c2
            cases c2
            obtain ⟨rfl, -⟩ := hP
            rcases b2 with ⟨rfl, -⟩ | ⟨-, z⟩ | ⟨-, z⟩ | ⟨-, z⟩
            · exact ⟨rfl, rfl, rfl⟩
            all_goals cases z
          · rw [if_neg hP] at c2; cases c2
        · next hret => cases hret
        · next hret => cases hret
        · next hret => cases hret
        · next hret => cases hret
        · cases c2
      obtain ⟨rfl, rfl, rfl⟩ := hshape
      refine va_forget (fun q hq => ?_) ?_
      · have z : B.base < q.base := hs.2.2 q hq
        rw [e1] at z
        omega
      · refine W.widen (k := 601024) (n := 7293034) (by show h2.N - 1 ≤ 601024; omega) (by show h2.S - 0 ≤ 7293034; omega) ?_
        exact lw_ret hx hb hr hlocks a)
    (fun pc ls q h2 a => by
      rcases nth_cases a with ⟨_, _, _, w⟩ | w
      · cases w
      · cases w) n _ _ _ _ hrun
  have g3 := g2 s.heap [] _ hRep va_S.rf (lr_entry B [.ref 0] 4 (by decide)) (Nat.le_refl _) (Nat.le_refl _)
  rw [Nat.sub_self, Nat.sub_self] at g3
  have e10 : ([Value.ref 0] : List Value).map (cv B) = [.ref b] := by
    show [va_rf (oa B 0)] = _
    rw [← e2]
    rfl
  rw [e10] at g3
  rw [lg_entry_eq]
  exact g3
