/-! ===== the base: where the cells lie ===== -/
set_option maxRecDepth 100000
/-- base, the script's cell, the String constants' cells, their bytes, what nobody asks, classes, slots, array classes, the script -/
def Bs : Type := Nat × Nat × (Nat → Nat) × (Nat → Nat) × (Nat → Option Nat) × va_G × (Nat → ClassId) × Nat × (Nat → Int32)
def Bs.base (B : Bs) : Nat := B.1
def Bs.scr (B : Bs) : Nat := B.2.1
def Bs.sA (B : Bs) : Nat → Nat := B.2.2.1
def Bs.sV (B : Bs) : Nat → Nat := B.2.2.2.1
def Bs.vS (B : Bs) : Nat → Option Nat := B.2.2.2.2.1
def Bs.D (B : Bs) : va_G := B.2.2.2.2.2.1
def Bs.dA (B : Bs) : Nat → ClassId := B.2.2.2.2.2.2.1
def Bs.L (B : Bs) : Nat := B.2.2.2.2.2.2.2.1
def Bs.xs (B : Bs) : Nat → Int32 := B.2.2.2.2.2.2.2.2
def AA (B : Bs) : Nat → Prop := fun q => B.base < q
def ra (B : Bs) (t : Nat) : Nat := if t = 0 then B.scr else if t < 1000000 then B.base + t else if t < 2000000 then B.sA (t - 1000000) else B.sV (t - 2000000)
def oa (B : Bs) (t : Nat) : Option Nat := if 3000000 ≤ t then B.vS (t - 3000000) else some (ra B t)
def cv (B : Bs) (v : Value) : Value := match v with
  | .ref t => va_rf (oa B t)
  | v => v
theorem cv_cat (B : Bs) (v : Value) : (cv B v).category = v.category := by
  cases v <;> try rfl
  show (va_rf (oa B _)).category = _
  cases oa B _ <;> rfl
theorem cv_ref {B : Bs} {t : Nat} (h : t < 3000000) : cv B (.ref t) = .ref (ra B t) := by
  show va_rf (oa B t) = _
  rw [oa, if_neg (by omega)]
  rfl
theorem cv_rf (B : Bs) (r : Option Nat) : cv B (va_rf r) = va_rf (r.bind (oa B)) := by cases r <;> rfl
theorem cv_sum (B : Bs) (st : List Value) : ((st.map (cv B)).map fun v => v.category).sum = csum st := by
  rw [csum, List.map_map]
  congr 1
  exact List.map_congr_left (fun v _ => cv_cat B v)
def clX : List vw_C := [(RX0, TX0, 23), (RX1, TX1, 21), (RX2, TX2, 8), (RX3, TX3, 54), (RX4, TX4, 7), (RX5, TX5, 2), (RX6, TX6, 2), (RX8, TX8, 1), (RX9, TX9, 1), (RX10, TX10, 3), (RX12, TX12, 1), (RX13, TX13, 3), (RX14, TX14, 3), (RX15, TX15, 4)]
def akT (k : Nat) : FieldType := match k with
  | 0 => .int
  | 1 => .byte
  | 2 => .boolean
  | 3 => .long
  | 4 => .object "SkySpire$Sky"
  | 5 => .object "java/lang/String"
  | 6 => .object "SkySpire$Rule"
  | 7 => .object "SkySpire$Clause"
  | _ => .object "SkySpire$Image"
def tysX (B : Bs) : List (ClassId × FieldType) := (List.range 9).map (fun k => (B.dA k, akT k))
theorem tysX_at (B : Bs) {k : Nat} (h : k < 9) : (tysX B)[k]? = some (B.dA k, akT k) := by
  rw [tysX, List.getElem?_map, List.getElem?_range h]
  rfl
def KD (B : Bs) (U : State) : Prop := va_K B.D clX (tysX B) U
/-- a cell of the heap -/
def arrOf (B : Bs) (h : Hp) (t : Nat) : vp_A := (h.L t, if h.K t ≤ 2 then .inl (h.I t) else if h.K t = 3 then .inr (.inl (h.J t)) else .inr (.inr (.inr (.inr (fun k => (h.P t k).bind (oa B))))))
def objOf (B : Bs) (h : Hp) (t : Nat) : List Value := (List.range (fno (h.K t - 16))).map (fun k => cv B (fv h (fty (h.K t - 16) k) t k))
def cellOf (B : Bs) (h : Hp) (t : Nat) : va_E := if h.K t ≤ 8 then .inl (B.dA (h.K t), arrOf B h t) else .inr (h.K t - 16, objOf B h t)
def Rep (B : Bs) (h : Hp) (H : Heap) : Prop := H.size = B.base + h.N ∧ 1 ≤ h.N ∧ h.N ≤ 900000 ∧ (∀ t, 1 ≤ t → t < h.N → va_at B.D clX (B.base + t, cellOf B h t) H) ∧ (∀ t, h.N ≤ t → h.K t = 999) ∧ h.K 0 = 0 ∧ h.L 0 = B.L ∧ h.I 0 = B.xs
/-- what is known of a class of the heap -/
def COk (ci : Nat) : Prop := ∃ (C : String) (T : u_T) (ty : Nat → FieldType), clX[ci]? = some (C, T, fno ci) ∧ (∀ w ∈ u_ws C T (fno ci), w ∈ lw_all) ∧ (∀ k, k < fno ci → parseFieldDescriptor (T k).2.2.1 = some (ty k)) ∧ (∀ a, a < fno ci → ∀ b, b < fno ci → a ≠ b → (T a).2.1 ≠ (T b).2.1) ∧ (∀ k, k < fno ci → (fty ci k = 0 ∧ ty k = .int) ∨ (fty ci k = 1 ∧ ty k = .boolean) ∨ (fty ci k = 2 ∧ ty k = .long) ∨ (fty ci k = 3 ∧ ((∃ n, ty k = .object n) ∨ ∃ t, ty k = .array t))) ∧ Cond.instantiable C (fno ci) ∈ lw_all ∧ Cond.initialized C ∈ lw_all ∧ (C ≠ "java/lang/invoke/MethodHandle" ∧ C ≠ "java/lang/invoke/VarHandle")
theorem cok_X0 : COk 0 := by
  refine ⟨RX0, TX0, tyX0, rfl, in_X0, tyX0_ok, nmX0, ?_, q143, q116, by decide +kernel⟩
  intro k hk
  match k, hk with
  | 0, _ => exact Or.inr (Or.inr (Or.inr ⟨rfl, Or.inl ⟨_, rfl⟩⟩))
  | 1, _ => exact Or.inr (Or.inr (Or.inr ⟨rfl, Or.inl ⟨_, rfl⟩⟩))
  | 2, _ => exact Or.inr (Or.inr (Or.inr ⟨rfl, Or.inl ⟨_, rfl⟩⟩))
  | 3, _ => exact Or.inr (Or.inr (Or.inr ⟨rfl, Or.inr ⟨_, rfl⟩⟩))
  | 4, _ => exact Or.inr (Or.inr (Or.inr ⟨rfl, Or.inl ⟨_, rfl⟩⟩))
  | 5, _ => exact Or.inr (Or.inr (Or.inr ⟨rfl, Or.inl ⟨_, rfl⟩⟩))
  | 6, _ => exact Or.inl ⟨rfl, rfl⟩
  | 7, _ => exact Or.inl ⟨rfl, rfl⟩
  | 8, _ => exact Or.inr (Or.inr (Or.inr ⟨rfl, Or.inl ⟨_, rfl⟩⟩))
  | 9, _ => exact Or.inr (Or.inr (Or.inr ⟨rfl, Or.inr ⟨_, rfl⟩⟩))
  | 10, _ => exact Or.inl ⟨rfl, rfl⟩
  | 11, _ => exact Or.inr (Or.inr (Or.inr ⟨rfl, Or.inr ⟨_, rfl⟩⟩))
  | 12, _ => exact Or.inr (Or.inr (Or.inr ⟨rfl, Or.inr ⟨_, rfl⟩⟩))
  | 13, _ => exact Or.inr (Or.inr (Or.inr ⟨rfl, Or.inr ⟨_, rfl⟩⟩))
  | 14, _ => exact Or.inr (Or.inr (Or.inr ⟨rfl, Or.inr ⟨_, rfl⟩⟩))
  | 15, _ => exact Or.inl ⟨rfl, rfl⟩
  | 16, _ => exact Or.inl ⟨rfl, rfl⟩
  | 17, _ => exact Or.inr (Or.inr (Or.inr ⟨rfl, Or.inr ⟨_, rfl⟩⟩))
  | 18, _ => exact Or.inr (Or.inr (Or.inr ⟨rfl, Or.inr ⟨_, rfl⟩⟩))
  | 19, _ => exact Or.inr (Or.inr (Or.inr ⟨rfl, Or.inr ⟨_, rfl⟩⟩))
  | 20, _ => exact Or.inr (Or.inr (Or.inr ⟨rfl, Or.inr ⟨_, rfl⟩⟩))
  | 21, _ => exact Or.inl ⟨rfl, rfl⟩
  | 22, _ => exact Or.inr (Or.inr (Or.inr ⟨rfl, Or.inr ⟨_, rfl⟩⟩))
  | k + 23, hk => exact absurd hk (Nat.not_lt.mpr (Nat.le_add_left _ _))
theorem cok_X1 : COk 1 := by
  refine ⟨RX1, TX1, tyX1, rfl, in_X1, tyX1_ok, nmX1, ?_, q151, q117, by decide +kernel⟩
  intro k hk
  match k, hk with
  | 0, _ => exact Or.inl ⟨rfl, rfl⟩
  | 1, _ => exact Or.inl ⟨rfl, rfl⟩
  | 2, _ => exact Or.inl ⟨rfl, rfl⟩
  | 3, _ => exact Or.inl ⟨rfl, rfl⟩
  | 4, _ => exact Or.inl ⟨rfl, rfl⟩
  | 5, _ => exact Or.inl ⟨rfl, rfl⟩
  | 6, _ => exact Or.inl ⟨rfl, rfl⟩
  | 7, _ => exact Or.inl ⟨rfl, rfl⟩
  | 8, _ => exact Or.inl ⟨rfl, rfl⟩
  | 9, _ => exact Or.inl ⟨rfl, rfl⟩
  | 10, _ => exact Or.inr (Or.inr (Or.inr ⟨rfl, Or.inr ⟨_, rfl⟩⟩))
  | 11, _ => exact Or.inr (Or.inr (Or.inr ⟨rfl, Or.inr ⟨_, rfl⟩⟩))
  | 12, _ => exact Or.inr (Or.inr (Or.inr ⟨rfl, Or.inr ⟨_, rfl⟩⟩))
  | 13, _ => exact Or.inr (Or.inr (Or.inr ⟨rfl, Or.inr ⟨_, rfl⟩⟩))
  | 14, _ => exact Or.inr (Or.inr (Or.inr ⟨rfl, Or.inr ⟨_, rfl⟩⟩))
  | 15, _ => exact Or.inr (Or.inr (Or.inr ⟨rfl, Or.inr ⟨_, rfl⟩⟩))
  | 16, _ => exact Or.inr (Or.inr (Or.inr ⟨rfl, Or.inr ⟨_, rfl⟩⟩))
  | 17, _ => exact Or.inr (Or.inr (Or.inr ⟨rfl, Or.inr ⟨_, rfl⟩⟩))
  | 18, _ => exact Or.inr (Or.inr (Or.inr ⟨rfl, Or.inr ⟨_, rfl⟩⟩))
  | 19, _ => exact Or.inr (Or.inr (Or.inr ⟨rfl, Or.inr ⟨_, rfl⟩⟩))
  | 20, _ => exact Or.inr (Or.inr (Or.inr ⟨rfl, Or.inr ⟨_, rfl⟩⟩))
  | k + 21, hk => exact absurd hk (Nat.not_lt.mpr (Nat.le_add_left _ _))
theorem cok_X2 : COk 2 := by
  refine ⟨RX2, TX2, tyX2, rfl, in_X2, tyX2_ok, nmX2, ?_, q250, q121, by decide +kernel⟩
  intro k hk
  match k, hk with
  | 0, _ => exact Or.inr (Or.inr (Or.inr ⟨rfl, Or.inl ⟨_, rfl⟩⟩))
  | 1, _ => exact Or.inr (Or.inr (Or.inr ⟨rfl, Or.inr ⟨_, rfl⟩⟩))
  | 2, _ => exact Or.inr (Or.inr (Or.inr ⟨rfl, Or.inl ⟨_, rfl⟩⟩))
  | 3, _ => exact Or.inr (Or.inr (Or.inr ⟨rfl, Or.inl ⟨_, rfl⟩⟩))
  | 4, _ => exact Or.inr (Or.inr (Or.inr ⟨rfl, Or.inl ⟨_, rfl⟩⟩))
  | 5, _ => exact Or.inl ⟨rfl, rfl⟩
  | 6, _ => exact Or.inl ⟨rfl, rfl⟩
  | 7, _ => exact Or.inl ⟨rfl, rfl⟩
  | k + 8, hk => exact absurd hk (Nat.not_lt.mpr (Nat.le_add_left _ _))
theorem cok_X3 : COk 3 := by
  refine ⟨RX3, TX3, tyX3, rfl, in_X3, tyX3_ok, nmX3, ?_, q1106, q122, by decide +kernel⟩
  intro k hk
  match k, hk with
  | 0, _ => exact Or.inl ⟨rfl, rfl⟩
  | 1, _ => exact Or.inr (Or.inr (Or.inr ⟨rfl, Or.inr ⟨_, rfl⟩⟩))
  | 2, _ => exact Or.inr (Or.inr (Or.inr ⟨rfl, Or.inr ⟨_, rfl⟩⟩))
  | 3, _ => exact Or.inr (Or.inr (Or.inr ⟨rfl, Or.inr ⟨_, rfl⟩⟩))
  | 4, _ => exact Or.inr (Or.inr (Or.inr ⟨rfl, Or.inr ⟨_, rfl⟩⟩))
  | 5, _ => exact Or.inr (Or.inr (Or.inr ⟨rfl, Or.inr ⟨_, rfl⟩⟩))
  | 6, _ => exact Or.inr (Or.inr (Or.inr ⟨rfl, Or.inr ⟨_, rfl⟩⟩))
  | 7, _ => exact Or.inr (Or.inr (Or.inr ⟨rfl, Or.inr ⟨_, rfl⟩⟩))
  | 8, _ => exact Or.inr (Or.inr (Or.inr ⟨rfl, Or.inr ⟨_, rfl⟩⟩))
  | 9, _ => exact Or.inr (Or.inr (Or.inr ⟨rfl, Or.inr ⟨_, rfl⟩⟩))
  | 10, _ => exact Or.inr (Or.inr (Or.inr ⟨rfl, Or.inr ⟨_, rfl⟩⟩))
  | 11, _ => exact Or.inr (Or.inr (Or.inr ⟨rfl, Or.inr ⟨_, rfl⟩⟩))
  | 12, _ => exact Or.inr (Or.inr (Or.inr ⟨rfl, Or.inr ⟨_, rfl⟩⟩))
  | 13, _ => exact Or.inr (Or.inr (Or.inr ⟨rfl, Or.inr ⟨_, rfl⟩⟩))
  | 14, _ => exact Or.inr (Or.inr (Or.inr ⟨rfl, Or.inr ⟨_, rfl⟩⟩))
  | 15, _ => exact Or.inr (Or.inr (Or.inr ⟨rfl, Or.inr ⟨_, rfl⟩⟩))
  | 16, _ => exact Or.inr (Or.inr (Or.inr ⟨rfl, Or.inr ⟨_, rfl⟩⟩))
  | 17, _ => exact Or.inr (Or.inr (Or.inr ⟨rfl, Or.inr ⟨_, rfl⟩⟩))
  | 18, _ => exact Or.inr (Or.inr (Or.inr ⟨rfl, Or.inr ⟨_, rfl⟩⟩))
  | 19, _ => exact Or.inr (Or.inr (Or.inr ⟨rfl, Or.inr ⟨_, rfl⟩⟩))
  | 20, _ => exact Or.inl ⟨rfl, rfl⟩
  | 21, _ => exact Or.inl ⟨rfl, rfl⟩
  | 22, _ => exact Or.inl ⟨rfl, rfl⟩
  | 23, _ => exact Or.inl ⟨rfl, rfl⟩
  | 24, _ => exact Or.inl ⟨rfl, rfl⟩
  | 25, _ => exact Or.inl ⟨rfl, rfl⟩
  | 26, _ => exact Or.inl ⟨rfl, rfl⟩
  | 27, _ => exact Or.inl ⟨rfl, rfl⟩
  | 28, _ => exact Or.inl ⟨rfl, rfl⟩
  | 29, _ => exact Or.inl ⟨rfl, rfl⟩
  | 30, _ => exact Or.inr (Or.inr (Or.inr ⟨rfl, Or.inr ⟨_, rfl⟩⟩))
  | 31, _ => exact Or.inr (Or.inr (Or.inr ⟨rfl, Or.inr ⟨_, rfl⟩⟩))
  | 32, _ => exact Or.inr (Or.inr (Or.inr ⟨rfl, Or.inr ⟨_, rfl⟩⟩))
  | 33, _ => exact Or.inr (Or.inr (Or.inr ⟨rfl, Or.inr ⟨_, rfl⟩⟩))
  | 34, _ => exact Or.inr (Or.inr (Or.inr ⟨rfl, Or.inr ⟨_, rfl⟩⟩))
  | 35, _ => exact Or.inr (Or.inr (Or.inr ⟨rfl, Or.inr ⟨_, rfl⟩⟩))
  | 36, _ => exact Or.inr (Or.inr (Or.inr ⟨rfl, Or.inr ⟨_, rfl⟩⟩))
  | 37, _ => exact Or.inr (Or.inr (Or.inr ⟨rfl, Or.inr ⟨_, rfl⟩⟩))
  | 38, _ => exact Or.inr (Or.inr (Or.inr ⟨rfl, Or.inr ⟨_, rfl⟩⟩))
  | 39, _ => exact Or.inr (Or.inr (Or.inr ⟨rfl, Or.inr ⟨_, rfl⟩⟩))
  | 40, _ => exact Or.inr (Or.inr (Or.inr ⟨rfl, Or.inr ⟨_, rfl⟩⟩))
  | 41, _ => exact Or.inr (Or.inr (Or.inr ⟨rfl, Or.inr ⟨_, rfl⟩⟩))
  | 42, _ => exact Or.inl ⟨rfl, rfl⟩
  | 43, _ => exact Or.inl ⟨rfl, rfl⟩
  | 44, _ => exact Or.inr (Or.inl ⟨rfl, rfl⟩)
  | 45, _ => exact Or.inr (Or.inr (Or.inr ⟨rfl, Or.inr ⟨_, rfl⟩⟩))
  | 46, _ => exact Or.inr (Or.inr (Or.inr ⟨rfl, Or.inr ⟨_, rfl⟩⟩))
  | 47, _ => exact Or.inr (Or.inr (Or.inr ⟨rfl, Or.inr ⟨_, rfl⟩⟩))
  | 48, _ => exact Or.inr (Or.inr (Or.inr ⟨rfl, Or.inr ⟨_, rfl⟩⟩))
  | 49, _ => exact Or.inr (Or.inr (Or.inr ⟨rfl, Or.inr ⟨_, rfl⟩⟩))
  | 50, _ => exact Or.inr (Or.inr (Or.inr ⟨rfl, Or.inr ⟨_, rfl⟩⟩))
  | 51, _ => exact Or.inr (Or.inr (Or.inr ⟨rfl, Or.inr ⟨_, rfl⟩⟩))
  | 52, _ => exact Or.inl ⟨rfl, rfl⟩
  | 53, _ => exact Or.inr (Or.inl ⟨rfl, rfl⟩)
  | k + 54, hk => exact absurd hk (Nat.not_lt.mpr (Nat.le_add_left _ _))
theorem cok_X4 : COk 4 := by
  refine ⟨RX4, TX4, tyX4, rfl, in_X4, tyX4_ok, nmX4, ?_, q439, q123, by decide +kernel⟩
  intro k hk
  match k, hk with
  | 0, _ => exact Or.inr (Or.inr (Or.inr ⟨rfl, Or.inr ⟨_, rfl⟩⟩))
  | 1, _ => exact Or.inr (Or.inr (Or.inr ⟨rfl, Or.inl ⟨_, rfl⟩⟩))
  | 2, _ => exact Or.inl ⟨rfl, rfl⟩
  | 3, _ => exact Or.inl ⟨rfl, rfl⟩
  | 4, _ => exact Or.inl ⟨rfl, rfl⟩
  | 5, _ => exact Or.inl ⟨rfl, rfl⟩
  | 6, _ => exact Or.inr (Or.inr (Or.inr ⟨rfl, Or.inl ⟨_, rfl⟩⟩))
  | k + 7, hk => exact absurd hk (Nat.not_lt.mpr (Nat.le_add_left _ _))
theorem cok_X5 : COk 5 := by
  refine ⟨RX5, TX5, tyX5, rfl, in_X5, tyX5_ok, nmX5, ?_, q618, q129, by decide +kernel⟩
  intro k hk
  match k, hk with
  | 0, _ => exact Or.inr (Or.inr (Or.inr ⟨rfl, Or.inr ⟨_, rfl⟩⟩))
  | 1, _ => exact Or.inl ⟨rfl, rfl⟩
  | k + 2, hk => exact absurd hk (Nat.not_lt.mpr (Nat.le_add_left _ _))
theorem cok_X6 : COk 6 := by
  refine ⟨RX6, TX6, tyX6, rfl, in_X6, tyX6_ok, nmX6, ?_, q639, q130, by decide +kernel⟩
  intro k hk
  match k, hk with
  | 0, _ => exact Or.inr (Or.inr (Or.inr ⟨rfl, Or.inl ⟨_, rfl⟩⟩))
  | 1, _ => exact Or.inr (Or.inr (Or.inr ⟨rfl, Or.inl ⟨_, rfl⟩⟩))
  | k + 2, hk => exact absurd hk (Nat.not_lt.mpr (Nat.le_add_left _ _))
theorem cok_X8 : COk 7 := by
  refine ⟨RX8, TX8, tyX8, rfl, in_X8, tyX8_ok, nmX8, ?_, q671, q132, by decide +kernel⟩
  intro k hk
  match k, hk with
  | 0, _ => exact Or.inr (Or.inr (Or.inl ⟨rfl, rfl⟩))
  | k + 1, hk => exact absurd hk (Nat.not_lt.mpr (Nat.le_add_left _ _))
theorem cok_X9 : COk 8 := by
  refine ⟨RX9, TX9, tyX9, rfl, in_X9, tyX9_ok, nmX9, ?_, q684, q133, by decide +kernel⟩
  intro k hk
  match k, hk with
  | 0, _ => exact Or.inl ⟨rfl, rfl⟩
  | k + 1, hk => exact absurd hk (Nat.not_lt.mpr (Nat.le_add_left _ _))
theorem cok_X10 : COk 9 := by
  refine ⟨RX10, TX10, tyX10, rfl, in_X10, tyX10_ok, nmX10, ?_, q694, q134, by decide +kernel⟩
  intro k hk
  match k, hk with
  | 0, _ => exact Or.inr (Or.inr (Or.inr ⟨rfl, Or.inl ⟨_, rfl⟩⟩))
  | 1, _ => exact Or.inr (Or.inr (Or.inr ⟨rfl, Or.inl ⟨_, rfl⟩⟩))
  | 2, _ => exact Or.inl ⟨rfl, rfl⟩
  | k + 3, hk => exact absurd hk (Nat.not_lt.mpr (Nat.le_add_left _ _))
theorem cok_X12 : COk 10 := by
  refine ⟨RX12, TX12, tyX12, rfl, in_X12, tyX12_ok, nmX12, ?_, q732, q136, by decide +kernel⟩
  intro k hk
  match k, hk with
  | 0, _ => exact Or.inr (Or.inr (Or.inr ⟨rfl, Or.inl ⟨_, rfl⟩⟩))
  | k + 1, hk => exact absurd hk (Nat.not_lt.mpr (Nat.le_add_left _ _))
theorem cok_X13 : COk 11 := by
  refine ⟨RX13, TX13, tyX13, rfl, in_X13, tyX13_ok, nmX13, ?_, q749, q137, by decide +kernel⟩
  intro k hk
  match k, hk with
  | 0, _ => exact Or.inr (Or.inr (Or.inr ⟨rfl, Or.inl ⟨_, rfl⟩⟩))
  | 1, _ => exact Or.inr (Or.inr (Or.inr ⟨rfl, Or.inl ⟨_, rfl⟩⟩))
  | 2, _ => exact Or.inl ⟨rfl, rfl⟩
  | k + 3, hk => exact absurd hk (Nat.not_lt.mpr (Nat.le_add_left _ _))
theorem cok_X14 : COk 12 := by
  refine ⟨RX14, TX14, tyX14, rfl, in_X14, tyX14_ok, nmX14, ?_, q766, q138, by decide +kernel⟩
  intro k hk
  match k, hk with
  | 0, _ => exact Or.inr (Or.inr (Or.inr ⟨rfl, Or.inl ⟨_, rfl⟩⟩))
  | 1, _ => exact Or.inr (Or.inr (Or.inr ⟨rfl, Or.inl ⟨_, rfl⟩⟩))
  | 2, _ => exact Or.inr (Or.inl ⟨rfl, rfl⟩)
  | k + 3, hk => exact absurd hk (Nat.not_lt.mpr (Nat.le_add_left _ _))
theorem cok_X15 : COk 13 := by
  refine ⟨RX15, TX15, tyX15, rfl, in_X15, tyX15_ok, nmX15, ?_, q1080, q141, by decide +kernel⟩
  intro k hk
  match k, hk with
  | 0, _ => exact Or.inr (Or.inr (Or.inr ⟨rfl, Or.inl ⟨_, rfl⟩⟩))
  | 1, _ => exact Or.inr (Or.inl ⟨rfl, rfl⟩)
  | 2, _ => exact Or.inl ⟨rfl, rfl⟩
  | 3, _ => exact Or.inl ⟨rfl, rfl⟩
  | k + 4, hk => exact absurd hk (Nat.not_lt.mpr (Nat.le_add_left _ _))
theorem cok_all (ci : Nat) (h : ci < 14) : COk ci := by
  match ci, h with
  | 0, _ => exact cok_X0
  | 1, _ => exact cok_X1
  | 2, _ => exact cok_X2
  | 3, _ => exact cok_X3
  | 4, _ => exact cok_X4
  | 5, _ => exact cok_X5
  | 6, _ => exact cok_X6
  | 7, _ => exact cok_X8
  | 8, _ => exact cok_X9
  | 9, _ => exact cok_X10
  | 10, _ => exact cok_X12
  | 11, _ => exact cok_X13
  | 12, _ => exact cok_X14
  | 13, _ => exact cok_X15
  | k + 14, h => exact absurd h (Nat.not_lt.mpr (Nat.le_add_left _ _))
def cnm (cn : Nat) : String := ["SkySpire", "SkySpire$Sky", "SkySpire$Fault", "SkySpireModel", "SkySpire$Text", "SkySpire$Rule", "SkySpire$Clause", "SkySpire$Value", "SkySpire$Number", "SkySpire$Word", "SkySpire$Pair", "SkySpire$Test", "SkySpire$Not", "SkySpire$Compare", "SkySpire$Both", "SkySpire$Image", "java/lang/Throwable", "java/lang/Exception", "java/lang/RuntimeException", "java/lang/String", "java/lang/StringLatin1", "jdk/internal/util/Preconditions", "java/lang/StringUTF16", "java/lang/Integer", "java/lang/Math", "java/lang/Object", "SkySpireLaw"].getD cn ""
/-- words that do not ride in the list -/
def nwF : List (String × Nat × String × String × String × String) := [("SkySpire", 345, "SkySpire$Sky", "side", "I", "SkySpire"), ("SkySpire", 348, "SkySpire$Sky", "fades", "I", "SkySpire"), ("SkySpire", 140, "SkySpire$Sky", "penMany", "I", "SkySpire"), ("SkySpire", 262, "SkySpire$Sky", "windMany", "I", "SkySpire"), ("SkySpire", 307, "SkySpire$Sky", "noteMany", "I", "SkySpire"), ("SkySpire", 190, "SkySpire$Sky", "undoMany", "I", "SkySpire"), ("SkySpire", 208, "SkySpire$Sky", "now", "I", "SkySpire"), ("SkySpire", 340, "SkySpire$Sky", "claps", "I", "SkySpire"), ("SkySpire", 166, "SkySpire$Sky", "stayed", "I", "SkySpire"), ("SkySpire", 188, "SkySpire$Sky", "mark", "[Z", "SkySpire"), ("SkySpire", 310, "SkySpire$Sky", "notes", "[I", "SkySpire"), ("SkySpire", 161, "SkySpire$Sky", "cell", "[I", "SkySpire"), ("SkySpire", 164, "SkySpire$Sky", "stiff", "[I", "SkySpire"), ("SkySpire", 182, "SkySpire$Sky", "whose", "[I", "SkySpire"), ("SkySpire", 185, "SkySpire$Sky", "when", "[I", "SkySpire"), ("SkySpire", 193, "SkySpire$Sky", "undo", "[I", "SkySpire"), ("SkySpire", 122, "SkySpire$Fault", "kind", "I", "SkySpire"), ("SkySpire", 119, "SkySpire$Fault", "place", "I", "SkySpire"), ("SkySpire", 358, "SkySpire$Image", "sky", "LSkySpire$Sky;", "SkySpire"), ("SkySpire", 352, "SkySpire$Image", "isTold", "Z", "SkySpire"), ("SkySpire", 356, "SkySpire$Image", "x", "I", "SkySpire"), ("SkySpire", 357, "SkySpire$Image", "inForce", "I", "SkySpire"), ("SkySpire$Text", 111, "SkySpire$Sky", "side", "I", "SkySpire"), ("SkySpire$Text", 114, "SkySpire$Sky", "fades", "I", "SkySpire"), ("SkySpire$Text", 98, "SkySpire$Sky", "penMany", "I", "SkySpire"), ("SkySpire$Text", 101, "SkySpire$Sky", "windMany", "I", "SkySpire"), ("SkySpire$Text", 93, "SkySpire$Sky", "isTold", "I", "SkySpire"), ("SkySpire$Text", 117, "SkySpire$Sky", "toldCell", "[I", "SkySpire"), ("SkySpire$Text", 124, "SkySpire$Sky", "toldStiff", "[I", "SkySpire"), ("SkySpire$Text", 127, "SkySpire$Sky", "winds", "[I", "SkySpire"), ("SkySpire$Text", 139, "SkySpire$Sky", "mark", "[Z", "SkySpire"), ("SkySpire$Text", 33, "SkySpire$Fault", "kind", "I", "SkySpire"), ("SkySpire$Text", 39, "SkySpire$Fault", "place", "I", "SkySpire"), ("SkySpire$Text", 22, "SkySpire", "reading", "LSkySpire$Sky;", "SkySpire"), ("SkySpire$Text", 143, "SkySpire", "blank", "LSkySpire$Sky;", "SkySpire"), ("SkySpire$Text", 29, "SkySpire", "fault", "LSkySpire$Fault;", "SkySpire"), ("SkySpire$Text", 48, "SkySpire", "tape", "[B", "SkySpire"), ("SkySpire$Text", 45, "SkySpire", "taped", "I", "SkySpire"), ("SkySpire$Text", 150, "SkySpire", "lineWords", "[Ljava/lang/String;", "SkySpire"), ("SkySpire$Text", 199, "SkySpire", "clauseWords", "[Ljava/lang/String;", "SkySpire"), ("SkySpire$Text", 15, "SkySpire", "wordNames", "[Ljava/lang/String;", "SkySpire"), ("SkySpire$Text", 202, "SkySpire$Rule", "clauses", "[LSkySpire$Clause;", "SkySpire"), ("SkySpire$Text", 206, "SkySpire$Rule", "many", "I", "SkySpire"), ("SkySpire$Text", 180, "SkySpire$Clause", "sum", "LSkySpire$Value;", "SkySpire"), ("SkySpire$Text", 192, "SkySpire$Clause", "test", "LSkySpire$Test;", "SkySpire"), ("SkySpire$Rule", 25, "SkySpire$Clause", "sum", "LSkySpire$Value;", "SkySpire")]
def nwM : List (String × Nat × MethodName × String) := [("SkySpire", 9, ⟨"SkySpire$Sky", "<init>", "()V"⟩, "SkySpire"), ("SkySpire", 127, ⟨"SkySpire$Text", "<init>", "(LSkySpire;)V"⟩, "SkySpire"), ("SkySpire", 351, ⟨"SkySpire$Image", "<init>", "()V"⟩, "SkySpire"), ("SkySpire$Sky", 96, ⟨"SkySpire", "has", "(II)Z"⟩, "SkySpire"), ("SkySpire$Text", 80, ⟨"SkySpire", "in", "(JJJ)Z"⟩, "SkySpire"), ("SkySpire$Text", 198, ⟨"SkySpire$Rule", "<init>", "()V"⟩, "SkySpire"), ("SkySpire$Text", 175, ⟨"SkySpire$Clause", "<init>", "()V"⟩, "SkySpire"), ("SkySpire$Number", 1, ⟨"SkySpire$Value", "<init>", "()V"⟩, "SkySpire"), ("SkySpire$Word", 1, ⟨"SkySpire$Value", "<init>", "()V"⟩, "SkySpire"), ("SkySpire$Pair", 1, ⟨"SkySpire$Value", "<init>", "()V"⟩, "SkySpire"), ("SkySpire$Not", 1, ⟨"SkySpire$Test", "<init>", "()V"⟩, "SkySpire"), ("SkySpire$Compare", 1, ⟨"SkySpire$Test", "<init>", "()V"⟩, "SkySpire"), ("SkySpire$Both", 1, ⟨"SkySpire$Test", "<init>", "()V"⟩, "SkySpire"), ("SkySpire$Image", 9, ⟨"SkySpire$Sky", "<init>", "()V"⟩, "SkySpire")]
def nwA : List String := ["SkySpire$Sky", "java/lang/String", "SkySpire$Rule", "SkySpire$Clause", "SkySpire$Image"]
def NW (U : State) : Prop := (∀ x ∈ nwF, va_Nw (.fieldLinkNest x.1 x.2.1 x.2.2.1 x.2.2.2.1 x.2.2.2.2.1 x.2.2.2.2.2) U) ∧ (∀ x ∈ nwM, va_Nw (.methodLinkNest x.1 x.2.1 x.2.2.1 x.2.2.2) U) ∧ (∀ C ∈ nwA, va_AO C U) ∧ va_Nw (.castable "SkySpire$Fault" "SkySpire$Fault") U ∧ va_Nw (.declares ⟨"SkySpire$Value", "of", "([J)J"⟩) U ∧ va_Nw (.declares ⟨"SkySpire$Test", "is", "([J)Z"⟩) U
def FOk (own : String) (idx : Nat) (v : Nat × Nat × Nat) : Prop := v.1 < 14 ∧ v.2.1 < fno v.1 ∧ v.2.2 ≤ 2 ∧ ∃ (C : String) (T : u_T), clX[v.1]? = some (C, T, fno v.1) ∧ (v.2.2 = 0 → (T v.2.1).2.2.2 = false) ∧ (v.2.2 = 1 → (T v.2.1).2.2.2 = true ∧ (T v.2.1).1 = own ∧ Cond.fieldLink own idx (T v.2.1).1 (T v.2.1).2.1 (T v.2.1).2.2.1 ∈ lw_all) ∧ (Cond.fieldLink own idx (T v.2.1).1 (T v.2.1).2.1 (T v.2.1).2.2.1 ∈ lw_all ∨ ∃ host, (own, idx, (T v.2.1).1, (T v.2.1).2.1, (T v.2.1).2.2.1, host) ∈ nwF)
theorem fok_X0_345 : FOk (cnm 0) 345 (1, 0, 0) := ⟨by decide, by decide +kernel, by decide, RX1, TX1, rfl, (fun _ => rfl), (fun z => by cases z), Or.inr ⟨_, List.mem_of_getElem? (i := 0) rfl⟩⟩
theorem fok_X0_348 : FOk (cnm 0) 348 (1, 1, 0) := ⟨by decide, by decide +kernel, by decide, RX1, TX1, rfl, (fun _ => rfl), (fun z => by cases z), Or.inr ⟨_, List.mem_of_getElem? (i := 1) rfl⟩⟩
theorem fok_X0_140 : FOk (cnm 0) 140 (1, 2, 0) := ⟨by decide, by decide +kernel, by decide, RX1, TX1, rfl, (fun _ => rfl), (fun z => by cases z), Or.inr ⟨_, List.mem_of_getElem? (i := 2) rfl⟩⟩
theorem fok_X0_262 : FOk (cnm 0) 262 (1, 3, 0) := ⟨by decide, by decide +kernel, by decide, RX1, TX1, rfl, (fun _ => rfl), (fun z => by cases z), Or.inr ⟨_, List.mem_of_getElem? (i := 3) rfl⟩⟩
theorem fok_X0_307 : FOk (cnm 0) 307 (1, 4, 0) := ⟨by decide, by decide +kernel, by decide, RX1, TX1, rfl, (fun _ => rfl), (fun z => by cases z), Or.inr ⟨_, List.mem_of_getElem? (i := 4) rfl⟩⟩
theorem fok_X0_190 : FOk (cnm 0) 190 (1, 5, 0) := ⟨by decide, by decide +kernel, by decide, RX1, TX1, rfl, (fun _ => rfl), (fun z => by cases z), Or.inr ⟨_, List.mem_of_getElem? (i := 5) rfl⟩⟩
theorem fok_X0_208 : FOk (cnm 0) 208 (1, 7, 0) := ⟨by decide, by decide +kernel, by decide, RX1, TX1, rfl, (fun _ => rfl), (fun z => by cases z), Or.inr ⟨_, List.mem_of_getElem? (i := 6) rfl⟩⟩
theorem fok_X0_340 : FOk (cnm 0) 340 (1, 8, 0) := ⟨by decide, by decide +kernel, by decide, RX1, TX1, rfl, (fun _ => rfl), (fun z => by cases z), Or.inr ⟨_, List.mem_of_getElem? (i := 7) rfl⟩⟩
theorem fok_X0_166 : FOk (cnm 0) 166 (1, 9, 0) := ⟨by decide, by decide +kernel, by decide, RX1, TX1, rfl, (fun _ => rfl), (fun z => by cases z), Or.inr ⟨_, List.mem_of_getElem? (i := 8) rfl⟩⟩
theorem fok_X0_188 : FOk (cnm 0) 188 (1, 13, 2) := ⟨by decide, by decide +kernel, by decide, RX1, TX1, rfl, (fun z => by cases z), (fun z => by cases z), Or.inr ⟨_, List.mem_of_getElem? (i := 9) rfl⟩⟩
theorem fok_X0_310 : FOk (cnm 0) 310 (1, 14, 2) := ⟨by decide, by decide +kernel, by decide, RX1, TX1, rfl, (fun z => by cases z), (fun z => by cases z), Or.inr ⟨_, List.mem_of_getElem? (i := 10) rfl⟩⟩
theorem fok_X0_161 : FOk (cnm 0) 161 (1, 15, 2) := ⟨by decide, by decide +kernel, by decide, RX1, TX1, rfl, (fun z => by cases z), (fun z => by cases z), Or.inr ⟨_, List.mem_of_getElem? (i := 11) rfl⟩⟩
theorem fok_X0_164 : FOk (cnm 0) 164 (1, 16, 2) := ⟨by decide, by decide +kernel, by decide, RX1, TX1, rfl, (fun z => by cases z), (fun z => by cases z), Or.inr ⟨_, List.mem_of_getElem? (i := 12) rfl⟩⟩
theorem fok_X0_182 : FOk (cnm 0) 182 (1, 17, 2) := ⟨by decide, by decide +kernel, by decide, RX1, TX1, rfl, (fun z => by cases z), (fun z => by cases z), Or.inr ⟨_, List.mem_of_getElem? (i := 13) rfl⟩⟩
theorem fok_X0_185 : FOk (cnm 0) 185 (1, 18, 2) := ⟨by decide, by decide +kernel, by decide, RX1, TX1, rfl, (fun z => by cases z), (fun z => by cases z), Or.inr ⟨_, List.mem_of_getElem? (i := 14) rfl⟩⟩
theorem fok_X0_193 : FOk (cnm 0) 193 (1, 19, 2) := ⟨by decide, by decide +kernel, by decide, RX1, TX1, rfl, (fun z => by cases z), (fun z => by cases z), Or.inr ⟨_, List.mem_of_getElem? (i := 15) rfl⟩⟩
theorem fok_X0_122 : FOk (cnm 0) 122 (2, 6, 0) := ⟨by decide, by decide +kernel, by decide, RX2, TX2, rfl, (fun _ => rfl), (fun z => by cases z), Or.inr ⟨_, List.mem_of_getElem? (i := 16) rfl⟩⟩
theorem fok_X0_119 : FOk (cnm 0) 119 (2, 7, 0) := ⟨by decide, by decide +kernel, by decide, RX2, TX2, rfl, (fun _ => rfl), (fun z => by cases z), Or.inr ⟨_, List.mem_of_getElem? (i := 17) rfl⟩⟩
theorem fok_X0_138 : FOk (cnm 0) 138 (0, 0, 0) := ⟨by decide, by decide +kernel, by decide, RX0, TX0, rfl, (fun _ => rfl), (fun z => by cases z), Or.inl q344⟩
theorem fok_X0_10 : FOk (cnm 0) 10 (0, 1, 1) := ⟨by decide, by decide +kernel, by decide, RX0, TX0, rfl, (fun z => by cases z), (fun _ => ⟨rfl, rfl, q345⟩), Or.inl q345⟩
theorem fok_X0_16 : FOk (cnm 0) 16 (0, 2, 1) := ⟨by decide, by decide +kernel, by decide, RX0, TX0, rfl, (fun z => by cases z), (fun _ => ⟨rfl, rfl, q346⟩), Or.inl q346⟩
theorem fok_X0_19 : FOk (cnm 0) 19 (0, 3, 1) := ⟨by decide, by decide +kernel, by decide, RX0, TX0, rfl, (fun z => by cases z), (fun _ => ⟨rfl, rfl, q347⟩), Or.inl q347⟩
theorem fok_X0_23 : FOk (cnm 0) 23 (0, 4, 1) := ⟨by decide, by decide +kernel, by decide, RX0, TX0, rfl, (fun z => by cases z), (fun _ => ⟨rfl, rfl, q349⟩), Or.inl q349⟩
theorem fok_X0_26 : FOk (cnm 0) 26 (0, 5, 1) := ⟨by decide, by decide +kernel, by decide, RX0, TX0, rfl, (fun z => by cases z), (fun _ => ⟨rfl, rfl, q350⟩), Or.inl q350⟩
theorem fok_X0_322 : FOk (cnm 0) 322 (0, 6, 0) := ⟨by decide, by decide +kernel, by decide, RX0, TX0, rfl, (fun _ => rfl), (fun z => by cases z), Or.inl q352⟩
theorem fok_X0_29 : FOk (cnm 0) 29 (0, 7, 0) := ⟨by decide, by decide +kernel, by decide, RX0, TX0, rfl, (fun _ => rfl), (fun z => by cases z), Or.inl q353⟩
theorem fok_X0_36 : FOk (cnm 0) 36 (0, 8, 1) := ⟨by decide, by decide +kernel, by decide, RX0, TX0, rfl, (fun z => by cases z), (fun _ => ⟨rfl, rfl, q355⟩), Or.inl q355⟩
theorem fok_X0_40 : FOk (cnm 0) 40 (0, 9, 1) := ⟨by decide, by decide +kernel, by decide, RX0, TX0, rfl, (fun z => by cases z), (fun _ => ⟨rfl, rfl, q357⟩), Or.inl q357⟩
theorem fok_X0_112 : FOk (cnm 0) 112 (0, 10, 0) := ⟨by decide, by decide +kernel, by decide, RX0, TX0, rfl, (fun _ => rfl), (fun z => by cases z), Or.inl q359⟩
theorem fok_X0_54 : FOk (cnm 0) 54 (0, 11, 1) := ⟨by decide, by decide +kernel, by decide, RX0, TX0, rfl, (fun z => by cases z), (fun _ => ⟨rfl, rfl, q360⟩), Or.inl q360⟩
theorem fok_X0_60 : FOk (cnm 0) 60 (0, 12, 1) := ⟨by decide, by decide +kernel, by decide, RX0, TX0, rfl, (fun z => by cases z), (fun _ => ⟨rfl, rfl, q362⟩), Or.inl q362⟩
theorem fok_X0_83 : FOk (cnm 0) 83 (0, 13, 1) := ⟨by decide, by decide +kernel, by decide, RX0, TX0, rfl, (fun z => by cases z), (fun _ => ⟨rfl, rfl, q365⟩), Or.inl q365⟩
theorem fok_X0_88 : FOk (cnm 0) 88 (0, 14, 1) := ⟨by decide, by decide +kernel, by decide, RX0, TX0, rfl, (fun z => by cases z), (fun _ => ⟨rfl, rfl, q366⟩), Or.inl q366⟩
theorem fok_X0_147 : FOk (cnm 0) 147 (0, 15, 0) := ⟨by decide, by decide +kernel, by decide, RX0, TX0, rfl, (fun _ => rfl), (fun z => by cases z), Or.inl q367⟩
theorem fok_X0_280 : FOk (cnm 0) 280 (0, 16, 0) := ⟨by decide, by decide +kernel, by decide, RX0, TX0, rfl, (fun _ => rfl), (fun z => by cases z), Or.inl q368⟩
theorem fok_X0_92 : FOk (cnm 0) 92 (0, 17, 1) := ⟨by decide, by decide +kernel, by decide, RX0, TX0, rfl, (fun z => by cases z), (fun _ => ⟨rfl, rfl, q369⟩), Or.inl q369⟩
theorem fok_X0_96 : FOk (cnm 0) 96 (0, 18, 1) := ⟨by decide, by decide +kernel, by decide, RX0, TX0, rfl, (fun z => by cases z), (fun _ => ⟨rfl, rfl, q370⟩), Or.inl q370⟩
theorem fok_X0_99 : FOk (cnm 0) 99 (0, 19, 1) := ⟨by decide, by decide +kernel, by decide, RX0, TX0, rfl, (fun z => by cases z), (fun _ => ⟨rfl, rfl, q371⟩), Or.inl q371⟩
theorem fok_X0_103 : FOk (cnm 0) 103 (0, 20, 1) := ⟨by decide, by decide +kernel, by decide, RX0, TX0, rfl, (fun z => by cases z), (fun _ => ⟨rfl, rfl, q372⟩), Or.inl q372⟩
theorem fok_X0_325 : FOk (cnm 0) 325 (0, 21, 0) := ⟨by decide, by decide +kernel, by decide, RX0, TX0, rfl, (fun _ => rfl), (fun z => by cases z), Or.inl q373⟩
theorem fok_X0_108 : FOk (cnm 0) 108 (0, 22, 1) := ⟨by decide, by decide +kernel, by decide, RX0, TX0, rfl, (fun z => by cases z), (fun _ => ⟨rfl, rfl, q374⟩), Or.inl q374⟩
theorem fok_X0_358 : FOk (cnm 0) 358 (13, 0, 2) := ⟨by decide, by decide +kernel, by decide, RX15, TX15, rfl, (fun z => by cases z), (fun z => by cases z), Or.inr ⟨_, List.mem_of_getElem? (i := 18) rfl⟩⟩
theorem fok_X0_352 : FOk (cnm 0) 352 (13, 1, 0) := ⟨by decide, by decide +kernel, by decide, RX15, TX15, rfl, (fun _ => rfl), (fun z => by cases z), Or.inr ⟨_, List.mem_of_getElem? (i := 19) rfl⟩⟩
theorem fok_X0_356 : FOk (cnm 0) 356 (13, 2, 0) := ⟨by decide, by decide +kernel, by decide, RX15, TX15, rfl, (fun _ => rfl), (fun z => by cases z), Or.inr ⟨_, List.mem_of_getElem? (i := 20) rfl⟩⟩
theorem fok_X0_357 : FOk (cnm 0) 357 (13, 3, 0) := ⟨by decide, by decide +kernel, by decide, RX15, TX15, rfl, (fun _ => rfl), (fun z => by cases z), Or.inr ⟨_, List.mem_of_getElem? (i := 21) rfl⟩⟩
theorem fok_X0 : ∀ p ∈ ft_X0, FOk (cnm 0) p.1 p.2 := List.forall_mem_cons.mpr ⟨fok_X0_345, List.forall_mem_cons.mpr ⟨fok_X0_348, List.forall_mem_cons.mpr ⟨fok_X0_140, List.forall_mem_cons.mpr ⟨fok_X0_262, List.forall_mem_cons.mpr ⟨fok_X0_307, List.forall_mem_cons.mpr ⟨fok_X0_190, List.forall_mem_cons.mpr ⟨fok_X0_208, List.forall_mem_cons.mpr ⟨fok_X0_340, List.forall_mem_cons.mpr ⟨fok_X0_166, List.forall_mem_cons.mpr ⟨fok_X0_188, List.forall_mem_cons.mpr ⟨fok_X0_310, List.forall_mem_cons.mpr ⟨fok_X0_161, List.forall_mem_cons.mpr ⟨fok_X0_164, List.forall_mem_cons.mpr ⟨fok_X0_182, List.forall_mem_cons.mpr ⟨fok_X0_185, List.forall_mem_cons.mpr ⟨fok_X0_193, List.forall_mem_cons.mpr ⟨fok_X0_122, List.forall_mem_cons.mpr ⟨fok_X0_119, List.forall_mem_cons.mpr ⟨fok_X0_138, List.forall_mem_cons.mpr ⟨fok_X0_10, List.forall_mem_cons.mpr ⟨fok_X0_16, List.forall_mem_cons.mpr ⟨fok_X0_19, List.forall_mem_cons.mpr ⟨fok_X0_23, List.forall_mem_cons.mpr ⟨fok_X0_26, List.forall_mem_cons.mpr ⟨fok_X0_322, List.forall_mem_cons.mpr ⟨fok_X0_29, List.forall_mem_cons.mpr ⟨fok_X0_36, List.forall_mem_cons.mpr ⟨fok_X0_40, List.forall_mem_cons.mpr ⟨fok_X0_112, List.forall_mem_cons.mpr ⟨fok_X0_54, List.forall_mem_cons.mpr ⟨fok_X0_60, List.forall_mem_cons.mpr ⟨fok_X0_83, List.forall_mem_cons.mpr ⟨fok_X0_88, List.forall_mem_cons.mpr ⟨fok_X0_147, List.forall_mem_cons.mpr ⟨fok_X0_280, List.forall_mem_cons.mpr ⟨fok_X0_92, List.forall_mem_cons.mpr ⟨fok_X0_96, List.forall_mem_cons.mpr ⟨fok_X0_99, List.forall_mem_cons.mpr ⟨fok_X0_103, List.forall_mem_cons.mpr ⟨fok_X0_325, List.forall_mem_cons.mpr ⟨fok_X0_108, List.forall_mem_cons.mpr ⟨fok_X0_358, List.forall_mem_cons.mpr ⟨fok_X0_352, List.forall_mem_cons.mpr ⟨fok_X0_356, List.forall_mem_cons.mpr ⟨fok_X0_357, (fun _ h => by cases h)⟩⟩⟩⟩⟩⟩⟩⟩⟩⟩⟩⟩⟩⟩⟩⟩⟩⟩⟩⟩⟩⟩⟩⟩⟩⟩⟩⟩⟩⟩⟩⟩⟩⟩⟩⟩⟩⟩⟩⟩⟩⟩⟩⟩⟩
theorem fok_X1_47 : FOk (cnm 1) 47 (1, 0, 0) := ⟨by decide, by decide +kernel, by decide, RX1, TX1, rfl, (fun _ => rfl), (fun z => by cases z), Or.inl q156⟩
theorem fok_X1_51 : FOk (cnm 1) 51 (1, 1, 0) := ⟨by decide, by decide +kernel, by decide, RX1, TX1, rfl, (fun _ => rfl), (fun z => by cases z), Or.inl q159⟩
theorem fok_X1_54 : FOk (cnm 1) 54 (1, 2, 0) := ⟨by decide, by decide +kernel, by decide, RX1, TX1, rfl, (fun _ => rfl), (fun z => by cases z), Or.inl q162⟩
theorem fok_X1_57 : FOk (cnm 1) 57 (1, 3, 0) := ⟨by decide, by decide +kernel, by decide, RX1, TX1, rfl, (fun _ => rfl), (fun z => by cases z), Or.inl q165⟩
theorem fok_X1_60 : FOk (cnm 1) 60 (1, 4, 0) := ⟨by decide, by decide +kernel, by decide, RX1, TX1, rfl, (fun _ => rfl), (fun z => by cases z), Or.inl q168⟩
theorem fok_X1_63 : FOk (cnm 1) 63 (1, 5, 0) := ⟨by decide, by decide +kernel, by decide, RX1, TX1, rfl, (fun _ => rfl), (fun z => by cases z), Or.inl q170⟩
theorem fok_X1_66 : FOk (cnm 1) 66 (1, 6, 0) := ⟨by decide, by decide +kernel, by decide, RX1, TX1, rfl, (fun _ => rfl), (fun z => by cases z), Or.inl q172⟩
theorem fok_X1_79 : FOk (cnm 1) 79 (1, 7, 0) := ⟨by decide, by decide +kernel, by decide, RX1, TX1, rfl, (fun _ => rfl), (fun z => by cases z), Or.inl q174⟩
theorem fok_X1_82 : FOk (cnm 1) 82 (1, 8, 0) := ⟨by decide, by decide +kernel, by decide, RX1, TX1, rfl, (fun _ => rfl), (fun z => by cases z), Or.inl q176⟩
theorem fok_X1_85 : FOk (cnm 1) 85 (1, 9, 0) := ⟨by decide, by decide +kernel, by decide, RX1, TX1, rfl, (fun _ => rfl), (fun z => by cases z), Or.inl q178⟩
theorem fok_X1_9 : FOk (cnm 1) 9 (1, 10, 1) := ⟨by decide, by decide +kernel, by decide, RX1, TX1, rfl, (fun z => by cases z), (fun _ => ⟨rfl, rfl, q180⟩), Or.inl q180⟩
theorem fok_X1_15 : FOk (cnm 1) 15 (1, 11, 1) := ⟨by decide, by decide +kernel, by decide, RX1, TX1, rfl, (fun z => by cases z), (fun _ => ⟨rfl, rfl, q182⟩), Or.inl q182⟩
theorem fok_X1_18 : FOk (cnm 1) 18 (1, 12, 1) := ⟨by decide, by decide +kernel, by decide, RX1, TX1, rfl, (fun z => by cases z), (fun _ => ⟨rfl, rfl, q184⟩), Or.inl q184⟩
theorem fok_X1_21 : FOk (cnm 1) 21 (1, 13, 1) := ⟨by decide, by decide +kernel, by decide, RX1, TX1, rfl, (fun z => by cases z), (fun _ => ⟨rfl, rfl, q186⟩), Or.inl q186⟩
theorem fok_X1_25 : FOk (cnm 1) 25 (1, 14, 1) := ⟨by decide, by decide +kernel, by decide, RX1, TX1, rfl, (fun z => by cases z), (fun _ => ⟨rfl, rfl, q189⟩), Or.inl q189⟩
theorem fok_X1_28 : FOk (cnm 1) 28 (1, 15, 1) := ⟨by decide, by decide +kernel, by decide, RX1, TX1, rfl, (fun z => by cases z), (fun _ => ⟨rfl, rfl, q191⟩), Or.inl q191⟩
theorem fok_X1_31 : FOk (cnm 1) 31 (1, 16, 1) := ⟨by decide, by decide +kernel, by decide, RX1, TX1, rfl, (fun z => by cases z), (fun _ => ⟨rfl, rfl, q193⟩), Or.inl q193⟩
theorem fok_X1_34 : FOk (cnm 1) 34 (1, 17, 1) := ⟨by decide, by decide +kernel, by decide, RX1, TX1, rfl, (fun z => by cases z), (fun _ => ⟨rfl, rfl, q195⟩), Or.inl q195⟩
theorem fok_X1_37 : FOk (cnm 1) 37 (1, 18, 1) := ⟨by decide, by decide +kernel, by decide, RX1, TX1, rfl, (fun z => by cases z), (fun _ => ⟨rfl, rfl, q197⟩), Or.inl q197⟩
theorem fok_X1_40 : FOk (cnm 1) 40 (1, 19, 1) := ⟨by decide, by decide +kernel, by decide, RX1, TX1, rfl, (fun z => by cases z), (fun _ => ⟨rfl, rfl, q199⟩), Or.inl q199⟩
theorem fok_X1_43 : FOk (cnm 1) 43 (1, 20, 1) := ⟨by decide, by decide +kernel, by decide, RX1, TX1, rfl, (fun z => by cases z), (fun _ => ⟨rfl, rfl, q201⟩), Or.inl q201⟩
theorem fok_X1 : ∀ p ∈ ft_X1, FOk (cnm 1) p.1 p.2 := List.forall_mem_cons.mpr ⟨fok_X1_47, List.forall_mem_cons.mpr ⟨fok_X1_51, List.forall_mem_cons.mpr ⟨fok_X1_54, List.forall_mem_cons.mpr ⟨fok_X1_57, List.forall_mem_cons.mpr ⟨fok_X1_60, List.forall_mem_cons.mpr ⟨fok_X1_63, List.forall_mem_cons.mpr ⟨fok_X1_66, List.forall_mem_cons.mpr ⟨fok_X1_79, List.forall_mem_cons.mpr ⟨fok_X1_82, List.forall_mem_cons.mpr ⟨fok_X1_85, List.forall_mem_cons.mpr ⟨fok_X1_9, List.forall_mem_cons.mpr ⟨fok_X1_15, List.forall_mem_cons.mpr ⟨fok_X1_18, List.forall_mem_cons.mpr ⟨fok_X1_21, List.forall_mem_cons.mpr ⟨fok_X1_25, List.forall_mem_cons.mpr ⟨fok_X1_28, List.forall_mem_cons.mpr ⟨fok_X1_31, List.forall_mem_cons.mpr ⟨fok_X1_34, List.forall_mem_cons.mpr ⟨fok_X1_37, List.forall_mem_cons.mpr ⟨fok_X1_40, List.forall_mem_cons.mpr ⟨fok_X1_43, (fun _ h => by cases h)⟩⟩⟩⟩⟩⟩⟩⟩⟩⟩⟩⟩⟩⟩⟩⟩⟩⟩⟩⟩⟩
theorem fok_X2 : ∀ p ∈ ft_X2, FOk (cnm 2) p.1 p.2 := (fun _ h => by cases h)
theorem fok_X3_9 : FOk (cnm 3) 9 (3, 1, 1) := ⟨by decide, by decide +kernel, by decide, RX3, TX3, rfl, (fun z => by cases z), (fun _ => ⟨rfl, rfl, q1111⟩), Or.inl q1111⟩
theorem fok_X3_13 : FOk (cnm 3) 13 (3, 2, 1) := ⟨by decide, by decide +kernel, by decide, RX3, TX3, rfl, (fun z => by cases z), (fun _ => ⟨rfl, rfl, q1112⟩), Or.inl q1112⟩
theorem fok_X3_16 : FOk (cnm 3) 16 (3, 3, 1) := ⟨by decide, by decide +kernel, by decide, RX3, TX3, rfl, (fun z => by cases z), (fun _ => ⟨rfl, rfl, q1113⟩), Or.inl q1113⟩
theorem fok_X3_19 : FOk (cnm 3) 19 (3, 4, 1) := ⟨by decide, by decide +kernel, by decide, RX3, TX3, rfl, (fun z => by cases z), (fun _ => ⟨rfl, rfl, q1114⟩), Or.inl q1114⟩
theorem fok_X3_22 : FOk (cnm 3) 22 (3, 5, 1) := ⟨by decide, by decide +kernel, by decide, RX3, TX3, rfl, (fun z => by cases z), (fun _ => ⟨rfl, rfl, q1115⟩), Or.inl q1115⟩
theorem fok_X3_25 : FOk (cnm 3) 25 (3, 6, 1) := ⟨by decide, by decide +kernel, by decide, RX3, TX3, rfl, (fun z => by cases z), (fun _ => ⟨rfl, rfl, q1116⟩), Or.inl q1116⟩
theorem fok_X3_28 : FOk (cnm 3) 28 (3, 7, 1) := ⟨by decide, by decide +kernel, by decide, RX3, TX3, rfl, (fun z => by cases z), (fun _ => ⟨rfl, rfl, q1117⟩), Or.inl q1117⟩
theorem fok_X3_31 : FOk (cnm 3) 31 (3, 8, 1) := ⟨by decide, by decide +kernel, by decide, RX3, TX3, rfl, (fun z => by cases z), (fun _ => ⟨rfl, rfl, q1118⟩), Or.inl q1118⟩
theorem fok_X3_34 : FOk (cnm 3) 34 (3, 9, 1) := ⟨by decide, by decide +kernel, by decide, RX3, TX3, rfl, (fun z => by cases z), (fun _ => ⟨rfl, rfl, q1119⟩), Or.inl q1119⟩
theorem fok_X3_37 : FOk (cnm 3) 37 (3, 10, 1) := ⟨by decide, by decide +kernel, by decide, RX3, TX3, rfl, (fun z => by cases z), (fun _ => ⟨rfl, rfl, q1120⟩), Or.inl q1120⟩
theorem fok_X3_40 : FOk (cnm 3) 40 (3, 11, 1) := ⟨by decide, by decide +kernel, by decide, RX3, TX3, rfl, (fun z => by cases z), (fun _ => ⟨rfl, rfl, q1121⟩), Or.inl q1121⟩
theorem fok_X3_43 : FOk (cnm 3) 43 (3, 12, 1) := ⟨by decide, by decide +kernel, by decide, RX3, TX3, rfl, (fun z => by cases z), (fun _ => ⟨rfl, rfl, q1122⟩), Or.inl q1122⟩
theorem fok_X3_46 : FOk (cnm 3) 46 (3, 13, 1) := ⟨by decide, by decide +kernel, by decide, RX3, TX3, rfl, (fun z => by cases z), (fun _ => ⟨rfl, rfl, q1123⟩), Or.inl q1123⟩
theorem fok_X3_49 : FOk (cnm 3) 49 (3, 14, 1) := ⟨by decide, by decide +kernel, by decide, RX3, TX3, rfl, (fun z => by cases z), (fun _ => ⟨rfl, rfl, q1124⟩), Or.inl q1124⟩
theorem fok_X3_52 : FOk (cnm 3) 52 (3, 15, 1) := ⟨by decide, by decide +kernel, by decide, RX3, TX3, rfl, (fun z => by cases z), (fun _ => ⟨rfl, rfl, q1125⟩), Or.inl q1125⟩
theorem fok_X3_55 : FOk (cnm 3) 55 (3, 16, 1) := ⟨by decide, by decide +kernel, by decide, RX3, TX3, rfl, (fun z => by cases z), (fun _ => ⟨rfl, rfl, q1126⟩), Or.inl q1126⟩
theorem fok_X3_58 : FOk (cnm 3) 58 (3, 17, 1) := ⟨by decide, by decide +kernel, by decide, RX3, TX3, rfl, (fun z => by cases z), (fun _ => ⟨rfl, rfl, q1127⟩), Or.inl q1127⟩
theorem fok_X3_61 : FOk (cnm 3) 61 (3, 18, 1) := ⟨by decide, by decide +kernel, by decide, RX3, TX3, rfl, (fun z => by cases z), (fun _ => ⟨rfl, rfl, q1128⟩), Or.inl q1128⟩
theorem fok_X3_64 : FOk (cnm 3) 64 (3, 19, 1) := ⟨by decide, by decide +kernel, by decide, RX3, TX3, rfl, (fun z => by cases z), (fun _ => ⟨rfl, rfl, q1129⟩), Or.inl q1129⟩
theorem fok_X3_142 : FOk (cnm 3) 142 (3, 20, 0) := ⟨by decide, by decide +kernel, by decide, RX3, TX3, rfl, (fun _ => rfl), (fun z => by cases z), Or.inl q1130⟩
theorem fok_X3_174 : FOk (cnm 3) 174 (3, 21, 0) := ⟨by decide, by decide +kernel, by decide, RX3, TX3, rfl, (fun _ => rfl), (fun z => by cases z), Or.inl q1131⟩
theorem fok_X3_171 : FOk (cnm 3) 171 (3, 22, 0) := ⟨by decide, by decide +kernel, by decide, RX3, TX3, rfl, (fun _ => rfl), (fun z => by cases z), Or.inl q1132⟩
theorem fok_X3_200 : FOk (cnm 3) 200 (3, 23, 0) := ⟨by decide, by decide +kernel, by decide, RX3, TX3, rfl, (fun _ => rfl), (fun z => by cases z), Or.inl q1133⟩
theorem fok_X3_318 : FOk (cnm 3) 318 (3, 24, 0) := ⟨by decide, by decide +kernel, by decide, RX3, TX3, rfl, (fun _ => rfl), (fun z => by cases z), Or.inl q1134⟩
theorem fok_X3_203 : FOk (cnm 3) 203 (3, 25, 0) := ⟨by decide, by decide +kernel, by decide, RX3, TX3, rfl, (fun _ => rfl), (fun z => by cases z), Or.inl q1135⟩
theorem fok_X3_244 : FOk (cnm 3) 244 (3, 26, 0) := ⟨by decide, by decide +kernel, by decide, RX3, TX3, rfl, (fun _ => rfl), (fun z => by cases z), Or.inl q1136⟩
theorem fok_X3_206 : FOk (cnm 3) 206 (3, 27, 0) := ⟨by decide, by decide +kernel, by decide, RX3, TX3, rfl, (fun _ => rfl), (fun z => by cases z), Or.inl q1137⟩
theorem fok_X3_241 : FOk (cnm 3) 241 (3, 28, 0) := ⟨by decide, by decide +kernel, by decide, RX3, TX3, rfl, (fun _ => rfl), (fun z => by cases z), Or.inl q1138⟩
theorem fok_X3_67 : FOk (cnm 3) 67 (3, 29, 0) := ⟨by decide, by decide +kernel, by decide, RX3, TX3, rfl, (fun _ => rfl), (fun z => by cases z), Or.inl q1139⟩
theorem fok_X3_71 : FOk (cnm 3) 71 (3, 30, 1) := ⟨by decide, by decide +kernel, by decide, RX3, TX3, rfl, (fun z => by cases z), (fun _ => ⟨rfl, rfl, q1140⟩), Or.inl q1140⟩
theorem fok_X3_75 : FOk (cnm 3) 75 (3, 31, 1) := ⟨by decide, by decide +kernel, by decide, RX3, TX3, rfl, (fun z => by cases z), (fun _ => ⟨rfl, rfl, q1141⟩), Or.inl q1141⟩
theorem fok_X3_78 : FOk (cnm 3) 78 (3, 32, 1) := ⟨by decide, by decide +kernel, by decide, RX3, TX3, rfl, (fun z => by cases z), (fun _ => ⟨rfl, rfl, q1142⟩), Or.inl q1142⟩
theorem fok_X3_81 : FOk (cnm 3) 81 (3, 33, 1) := ⟨by decide, by decide +kernel, by decide, RX3, TX3, rfl, (fun z => by cases z), (fun _ => ⟨rfl, rfl, q1143⟩), Or.inl q1143⟩
theorem fok_X3_84 : FOk (cnm 3) 84 (3, 34, 1) := ⟨by decide, by decide +kernel, by decide, RX3, TX3, rfl, (fun z => by cases z), (fun _ => ⟨rfl, rfl, q1144⟩), Or.inl q1144⟩
theorem fok_X3_87 : FOk (cnm 3) 87 (3, 35, 1) := ⟨by decide, by decide +kernel, by decide, RX3, TX3, rfl, (fun z => by cases z), (fun _ => ⟨rfl, rfl, q1145⟩), Or.inl q1145⟩
theorem fok_X3_90 : FOk (cnm 3) 90 (3, 36, 1) := ⟨by decide, by decide +kernel, by decide, RX3, TX3, rfl, (fun z => by cases z), (fun _ => ⟨rfl, rfl, q1146⟩), Or.inl q1146⟩
theorem fok_X3_93 : FOk (cnm 3) 93 (3, 37, 1) := ⟨by decide, by decide +kernel, by decide, RX3, TX3, rfl, (fun z => by cases z), (fun _ => ⟨rfl, rfl, q1147⟩), Or.inl q1147⟩
theorem fok_X3_96 : FOk (cnm 3) 96 (3, 38, 1) := ⟨by decide, by decide +kernel, by decide, RX3, TX3, rfl, (fun z => by cases z), (fun _ => ⟨rfl, rfl, q1148⟩), Or.inl q1148⟩
theorem fok_X3_100 : FOk (cnm 3) 100 (3, 39, 1) := ⟨by decide, by decide +kernel, by decide, RX3, TX3, rfl, (fun z => by cases z), (fun _ => ⟨rfl, rfl, q1149⟩), Or.inl q1149⟩
theorem fok_X3_103 : FOk (cnm 3) 103 (3, 40, 1) := ⟨by decide, by decide +kernel, by decide, RX3, TX3, rfl, (fun z => by cases z), (fun _ => ⟨rfl, rfl, q1150⟩), Or.inl q1150⟩
theorem fok_X3_106 : FOk (cnm 3) 106 (3, 41, 1) := ⟨by decide, by decide +kernel, by decide, RX3, TX3, rfl, (fun z => by cases z), (fun _ => ⟨rfl, rfl, q1151⟩), Or.inl q1151⟩
theorem fok_X3_305 : FOk (cnm 3) 305 (3, 42, 0) := ⟨by decide, by decide +kernel, by decide, RX3, TX3, rfl, (fun _ => rfl), (fun z => by cases z), Or.inl q1152⟩
theorem fok_X3_388 : FOk (cnm 3) 388 (3, 43, 0) := ⟨by decide, by decide +kernel, by decide, RX3, TX3, rfl, (fun _ => rfl), (fun z => by cases z), Or.inl q1153⟩
theorem fok_X3_384 : FOk (cnm 3) 384 (3, 44, 0) := ⟨by decide, by decide +kernel, by decide, RX3, TX3, rfl, (fun _ => rfl), (fun z => by cases z), Or.inl q1154⟩
theorem fok_X3_109 : FOk (cnm 3) 109 (3, 45, 1) := ⟨by decide, by decide +kernel, by decide, RX3, TX3, rfl, (fun z => by cases z), (fun _ => ⟨rfl, rfl, q1155⟩), Or.inl q1155⟩
theorem fok_X3_112 : FOk (cnm 3) 112 (3, 46, 1) := ⟨by decide, by decide +kernel, by decide, RX3, TX3, rfl, (fun z => by cases z), (fun _ => ⟨rfl, rfl, q1156⟩), Or.inl q1156⟩
theorem fok_X3_115 : FOk (cnm 3) 115 (3, 47, 1) := ⟨by decide, by decide +kernel, by decide, RX3, TX3, rfl, (fun z => by cases z), (fun _ => ⟨rfl, rfl, q1157⟩), Or.inl q1157⟩
theorem fok_X3_118 : FOk (cnm 3) 118 (3, 48, 1) := ⟨by decide, by decide +kernel, by decide, RX3, TX3, rfl, (fun z => by cases z), (fun _ => ⟨rfl, rfl, q1158⟩), Or.inl q1158⟩
theorem fok_X3_121 : FOk (cnm 3) 121 (3, 49, 1) := ⟨by decide, by decide +kernel, by decide, RX3, TX3, rfl, (fun z => by cases z), (fun _ => ⟨rfl, rfl, q1159⟩), Or.inl q1159⟩
theorem fok_X3_124 : FOk (cnm 3) 124 (3, 50, 1) := ⟨by decide, by decide +kernel, by decide, RX3, TX3, rfl, (fun z => by cases z), (fun _ => ⟨rfl, rfl, q1160⟩), Or.inl q1160⟩
theorem fok_X3_127 : FOk (cnm 3) 127 (3, 51, 1) := ⟨by decide, by decide +kernel, by decide, RX3, TX3, rfl, (fun z => by cases z), (fun _ => ⟨rfl, rfl, q1161⟩), Or.inl q1161⟩
theorem fok_X3_501 : FOk (cnm 3) 501 (3, 52, 0) := ⟨by decide, by decide +kernel, by decide, RX3, TX3, rfl, (fun _ => rfl), (fun z => by cases z), Or.inl q1162⟩
theorem fok_X3_498 : FOk (cnm 3) 498 (3, 53, 0) := ⟨by decide, by decide +kernel, by decide, RX3, TX3, rfl, (fun _ => rfl), (fun z => by cases z), Or.inl q1163⟩
theorem fok_X3 : ∀ p ∈ ft_X3, FOk (cnm 3) p.1 p.2 := List.forall_mem_cons.mpr ⟨fok_X3_9, List.forall_mem_cons.mpr ⟨fok_X3_13, List.forall_mem_cons.mpr ⟨fok_X3_16, List.forall_mem_cons.mpr ⟨fok_X3_19, List.forall_mem_cons.mpr ⟨fok_X3_22, List.forall_mem_cons.mpr ⟨fok_X3_25, List.forall_mem_cons.mpr ⟨fok_X3_28, List.forall_mem_cons.mpr ⟨fok_X3_31, List.forall_mem_cons.mpr ⟨fok_X3_34, List.forall_mem_cons.mpr ⟨fok_X3_37, List.forall_mem_cons.mpr ⟨fok_X3_40, List.forall_mem_cons.mpr ⟨fok_X3_43, List.forall_mem_cons.mpr ⟨fok_X3_46, List.forall_mem_cons.mpr ⟨fok_X3_49, List.forall_mem_cons.mpr ⟨fok_X3_52, List.forall_mem_cons.mpr ⟨fok_X3_55, List.forall_mem_cons.mpr ⟨fok_X3_58, List.forall_mem_cons.mpr ⟨fok_X3_61, List.forall_mem_cons.mpr ⟨fok_X3_64, List.forall_mem_cons.mpr ⟨fok_X3_142, List.forall_mem_cons.mpr ⟨fok_X3_174, List.forall_mem_cons.mpr ⟨fok_X3_171, List.forall_mem_cons.mpr ⟨fok_X3_200, List.forall_mem_cons.mpr ⟨fok_X3_318, List.forall_mem_cons.mpr ⟨fok_X3_203, List.forall_mem_cons.mpr ⟨fok_X3_244, List.forall_mem_cons.mpr ⟨fok_X3_206, List.forall_mem_cons.mpr ⟨fok_X3_241, List.forall_mem_cons.mpr ⟨fok_X3_67, List.forall_mem_cons.mpr ⟨fok_X3_71, List.forall_mem_cons.mpr ⟨fok_X3_75, List.forall_mem_cons.mpr ⟨fok_X3_78, List.forall_mem_cons.mpr ⟨fok_X3_81, List.forall_mem_cons.mpr ⟨fok_X3_84, List.forall_mem_cons.mpr ⟨fok_X3_87, List.forall_mem_cons.mpr ⟨fok_X3_90, List.forall_mem_cons.mpr ⟨fok_X3_93, List.forall_mem_cons.mpr ⟨fok_X3_96, List.forall_mem_cons.mpr ⟨fok_X3_100, List.forall_mem_cons.mpr ⟨fok_X3_103, List.forall_mem_cons.mpr ⟨fok_X3_106, List.forall_mem_cons.mpr ⟨fok_X3_305, List.forall_mem_cons.mpr ⟨fok_X3_388, List.forall_mem_cons.mpr ⟨fok_X3_384, List.forall_mem_cons.mpr ⟨fok_X3_109, List.forall_mem_cons.mpr ⟨fok_X3_112, List.forall_mem_cons.mpr ⟨fok_X3_115, List.forall_mem_cons.mpr ⟨fok_X3_118, List.forall_mem_cons.mpr ⟨fok_X3_121, List.forall_mem_cons.mpr ⟨fok_X3_124, List.forall_mem_cons.mpr ⟨fok_X3_127, List.forall_mem_cons.mpr ⟨fok_X3_501, List.forall_mem_cons.mpr ⟨fok_X3_498, (fun _ h => by cases h)⟩⟩⟩⟩⟩⟩⟩⟩⟩⟩⟩⟩⟩⟩⟩⟩⟩⟩⟩⟩⟩⟩⟩⟩⟩⟩⟩⟩⟩⟩⟩⟩⟩⟩⟩⟩⟩⟩⟩⟩⟩⟩⟩⟩⟩⟩⟩⟩⟩⟩⟩⟩⟩
theorem fok_X4_111 : FOk (cnm 4) 111 (1, 0, 0) := ⟨by decide, by decide +kernel, by decide, RX1, TX1, rfl, (fun _ => rfl), (fun z => by cases z), Or.inr ⟨_, List.mem_of_getElem? (i := 22) rfl⟩⟩
theorem fok_X4_114 : FOk (cnm 4) 114 (1, 1, 0) := ⟨by decide, by decide +kernel, by decide, RX1, TX1, rfl, (fun _ => rfl), (fun z => by cases z), Or.inr ⟨_, List.mem_of_getElem? (i := 23) rfl⟩⟩
theorem fok_X4_98 : FOk (cnm 4) 98 (1, 2, 0) := ⟨by decide, by decide +kernel, by decide, RX1, TX1, rfl, (fun _ => rfl), (fun z => by cases z), Or.inr ⟨_, List.mem_of_getElem? (i := 24) rfl⟩⟩
theorem fok_X4_101 : FOk (cnm 4) 101 (1, 3, 0) := ⟨by decide, by decide +kernel, by decide, RX1, TX1, rfl, (fun _ => rfl), (fun z => by cases z), Or.inr ⟨_, List.mem_of_getElem? (i := 25) rfl⟩⟩
theorem fok_X4_93 : FOk (cnm 4) 93 (1, 6, 0) := ⟨by decide, by decide +kernel, by decide, RX1, TX1, rfl, (fun _ => rfl), (fun z => by cases z), Or.inr ⟨_, List.mem_of_getElem? (i := 26) rfl⟩⟩
theorem fok_X4_117 : FOk (cnm 4) 117 (1, 10, 2) := ⟨by decide, by decide +kernel, by decide, RX1, TX1, rfl, (fun z => by cases z), (fun z => by cases z), Or.inr ⟨_, List.mem_of_getElem? (i := 27) rfl⟩⟩
theorem fok_X4_124 : FOk (cnm 4) 124 (1, 11, 2) := ⟨by decide, by decide +kernel, by decide, RX1, TX1, rfl, (fun z => by cases z), (fun z => by cases z), Or.inr ⟨_, List.mem_of_getElem? (i := 28) rfl⟩⟩
theorem fok_X4_127 : FOk (cnm 4) 127 (1, 12, 2) := ⟨by decide, by decide +kernel, by decide, RX1, TX1, rfl, (fun z => by cases z), (fun z => by cases z), Or.inr ⟨_, List.mem_of_getElem? (i := 29) rfl⟩⟩
theorem fok_X4_139 : FOk (cnm 4) 139 (1, 13, 2) := ⟨by decide, by decide +kernel, by decide, RX1, TX1, rfl, (fun z => by cases z), (fun z => by cases z), Or.inr ⟨_, List.mem_of_getElem? (i := 30) rfl⟩⟩
theorem fok_X4_33 : FOk (cnm 4) 33 (2, 6, 0) := ⟨by decide, by decide +kernel, by decide, RX2, TX2, rfl, (fun _ => rfl), (fun z => by cases z), Or.inr ⟨_, List.mem_of_getElem? (i := 31) rfl⟩⟩
theorem fok_X4_39 : FOk (cnm 4) 39 (2, 7, 0) := ⟨by decide, by decide +kernel, by decide, RX2, TX2, rfl, (fun _ => rfl), (fun z => by cases z), Or.inr ⟨_, List.mem_of_getElem? (i := 32) rfl⟩⟩
theorem fok_X4_22 : FOk (cnm 4) 22 (0, 4, 2) := ⟨by decide, by decide +kernel, by decide, RX0, TX0, rfl, (fun z => by cases z), (fun z => by cases z), Or.inr ⟨_, List.mem_of_getElem? (i := 33) rfl⟩⟩
theorem fok_X4_143 : FOk (cnm 4) 143 (0, 5, 2) := ⟨by decide, by decide +kernel, by decide, RX0, TX0, rfl, (fun z => by cases z), (fun z => by cases z), Or.inr ⟨_, List.mem_of_getElem? (i := 34) rfl⟩⟩
theorem fok_X4_29 : FOk (cnm 4) 29 (0, 8, 2) := ⟨by decide, by decide +kernel, by decide, RX0, TX0, rfl, (fun z => by cases z), (fun z => by cases z), Or.inr ⟨_, List.mem_of_getElem? (i := 35) rfl⟩⟩
theorem fok_X4_48 : FOk (cnm 4) 48 (0, 9, 2) := ⟨by decide, by decide +kernel, by decide, RX0, TX0, rfl, (fun z => by cases z), (fun z => by cases z), Or.inr ⟨_, List.mem_of_getElem? (i := 36) rfl⟩⟩
theorem fok_X4_45 : FOk (cnm 4) 45 (0, 10, 0) := ⟨by decide, by decide +kernel, by decide, RX0, TX0, rfl, (fun _ => rfl), (fun z => by cases z), Or.inr ⟨_, List.mem_of_getElem? (i := 37) rfl⟩⟩
theorem fok_X4_150 : FOk (cnm 4) 150 (0, 11, 2) := ⟨by decide, by decide +kernel, by decide, RX0, TX0, rfl, (fun z => by cases z), (fun z => by cases z), Or.inr ⟨_, List.mem_of_getElem? (i := 38) rfl⟩⟩
theorem fok_X4_199 : FOk (cnm 4) 199 (0, 12, 2) := ⟨by decide, by decide +kernel, by decide, RX0, TX0, rfl, (fun z => by cases z), (fun z => by cases z), Or.inr ⟨_, List.mem_of_getElem? (i := 39) rfl⟩⟩
theorem fok_X4_15 : FOk (cnm 4) 15 (0, 13, 2) := ⟨by decide, by decide +kernel, by decide, RX0, TX0, rfl, (fun z => by cases z), (fun z => by cases z), Or.inr ⟨_, List.mem_of_getElem? (i := 40) rfl⟩⟩
theorem fok_X4_19 : FOk (cnm 4) 19 (4, 0, 1) := ⟨by decide, by decide +kernel, by decide, RX4, TX4, rfl, (fun z => by cases z), (fun _ => ⟨rfl, rfl, q444⟩), Or.inl q444⟩
theorem fok_X4_26 : FOk (cnm 4) 26 (4, 1, 1) := ⟨by decide, by decide +kernel, by decide, RX4, TX4, rfl, (fun z => by cases z), (fun _ => ⟨rfl, rfl, q445⟩), Or.inl q445⟩
theorem fok_X4_42 : FOk (cnm 4) 42 (4, 2, 0) := ⟨by decide, by decide +kernel, by decide, RX4, TX4, rfl, (fun _ => rfl), (fun z => by cases z), Or.inl q446⟩
theorem fok_X4_87 : FOk (cnm 4) 87 (4, 3, 0) := ⟨by decide, by decide +kernel, by decide, RX4, TX4, rfl, (fun _ => rfl), (fun z => by cases z), Or.inl q447⟩
theorem fok_X4_84 : FOk (cnm 4) 84 (4, 4, 0) := ⟨by decide, by decide +kernel, by decide, RX4, TX4, rfl, (fun _ => rfl), (fun z => by cases z), Or.inl q448⟩
theorem fok_X4_90 : FOk (cnm 4) 90 (4, 5, 0) := ⟨by decide, by decide +kernel, by decide, RX4, TX4, rfl, (fun _ => rfl), (fun z => by cases z), Or.inl q449⟩
theorem fok_X4_3 : FOk (cnm 4) 3 (4, 6, 1) := ⟨by decide, by decide +kernel, by decide, RX4, TX4, rfl, (fun z => by cases z), (fun _ => ⟨rfl, rfl, q450⟩), Or.inl q450⟩
theorem fok_X4_202 : FOk (cnm 4) 202 (5, 0, 2) := ⟨by decide, by decide +kernel, by decide, RX5, TX5, rfl, (fun z => by cases z), (fun z => by cases z), Or.inr ⟨_, List.mem_of_getElem? (i := 41) rfl⟩⟩
theorem fok_X4_206 : FOk (cnm 4) 206 (5, 1, 0) := ⟨by decide, by decide +kernel, by decide, RX5, TX5, rfl, (fun _ => rfl), (fun z => by cases z), Or.inr ⟨_, List.mem_of_getElem? (i := 42) rfl⟩⟩
theorem fok_X4_180 : FOk (cnm 4) 180 (6, 0, 0) := ⟨by decide, by decide +kernel, by decide, RX6, TX6, rfl, (fun _ => rfl), (fun z => by cases z), Or.inr ⟨_, List.mem_of_getElem? (i := 43) rfl⟩⟩
theorem fok_X4_192 : FOk (cnm 4) 192 (6, 1, 0) := ⟨by decide, by decide +kernel, by decide, RX6, TX6, rfl, (fun _ => rfl), (fun z => by cases z), Or.inr ⟨_, List.mem_of_getElem? (i := 44) rfl⟩⟩
theorem fok_X4 : ∀ p ∈ ft_X4, FOk (cnm 4) p.1 p.2 := List.forall_mem_cons.mpr ⟨fok_X4_111, List.forall_mem_cons.mpr ⟨fok_X4_114, List.forall_mem_cons.mpr ⟨fok_X4_98, List.forall_mem_cons.mpr ⟨fok_X4_101, List.forall_mem_cons.mpr ⟨fok_X4_93, List.forall_mem_cons.mpr ⟨fok_X4_117, List.forall_mem_cons.mpr ⟨fok_X4_124, List.forall_mem_cons.mpr ⟨fok_X4_127, List.forall_mem_cons.mpr ⟨fok_X4_139, List.forall_mem_cons.mpr ⟨fok_X4_33, List.forall_mem_cons.mpr ⟨fok_X4_39, List.forall_mem_cons.mpr ⟨fok_X4_22, List.forall_mem_cons.mpr ⟨fok_X4_143, List.forall_mem_cons.mpr ⟨fok_X4_29, List.forall_mem_cons.mpr ⟨fok_X4_48, List.forall_mem_cons.mpr ⟨fok_X4_45, List.forall_mem_cons.mpr ⟨fok_X4_150, List.forall_mem_cons.mpr ⟨fok_X4_199, List.forall_mem_cons.mpr ⟨fok_X4_15, List.forall_mem_cons.mpr ⟨fok_X4_19, List.forall_mem_cons.mpr ⟨fok_X4_26, List.forall_mem_cons.mpr ⟨fok_X4_42, List.forall_mem_cons.mpr ⟨fok_X4_87, List.forall_mem_cons.mpr ⟨fok_X4_84, List.forall_mem_cons.mpr ⟨fok_X4_90, List.forall_mem_cons.mpr ⟨fok_X4_3, List.forall_mem_cons.mpr ⟨fok_X4_202, List.forall_mem_cons.mpr ⟨fok_X4_206, List.forall_mem_cons.mpr ⟨fok_X4_180, List.forall_mem_cons.mpr ⟨fok_X4_192, (fun _ h => by cases h)⟩⟩⟩⟩⟩⟩⟩⟩⟩⟩⟩⟩⟩⟩⟩⟩⟩⟩⟩⟩⟩⟩⟩⟩⟩⟩⟩⟩⟩⟩
theorem fok_X5_11 : FOk (cnm 5) 11 (5, 0, 1) := ⟨by decide, by decide +kernel, by decide, RX5, TX5, rfl, (fun z => by cases z), (fun _ => ⟨rfl, rfl, q625⟩), Or.inl q625⟩
theorem fok_X5_17 : FOk (cnm 5) 17 (5, 1, 0) := ⟨by decide, by decide +kernel, by decide, RX5, TX5, rfl, (fun _ => rfl), (fun z => by cases z), Or.inl q627⟩
theorem fok_X5_25 : FOk (cnm 5) 25 (6, 0, 0) := ⟨by decide, by decide +kernel, by decide, RX6, TX6, rfl, (fun _ => rfl), (fun z => by cases z), Or.inr ⟨_, List.mem_of_getElem? (i := 45) rfl⟩⟩
theorem fok_X5 : ∀ p ∈ ft_X5, FOk (cnm 5) p.1 p.2 := List.forall_mem_cons.mpr ⟨fok_X5_11, List.forall_mem_cons.mpr ⟨fok_X5_17, List.forall_mem_cons.mpr ⟨fok_X5_25, (fun _ h => by cases h)⟩⟩⟩
theorem fok_X6_7 : FOk (cnm 6) 7 (6, 1, 0) := ⟨by decide, by decide +kernel, by decide, RX6, TX6, rfl, (fun _ => rfl), (fun z => by cases z), Or.inl q646⟩
theorem fok_X6 : ∀ p ∈ ft_X6, FOk (cnm 6) p.1 p.2 := List.forall_mem_cons.mpr ⟨fok_X6_7, (fun _ h => by cases h)⟩
theorem fok_X7 : ∀ p ∈ ft_X7, FOk (cnm 7) p.1 p.2 := (fun _ h => by cases h)
theorem fok_X8_7 : FOk (cnm 8) 7 (7, 0, 1) := ⟨by decide, by decide +kernel, by decide, RX8, TX8, rfl, (fun z => by cases z), (fun _ => ⟨rfl, rfl, q679⟩), Or.inl q679⟩
theorem fok_X8 : ∀ p ∈ ft_X8, FOk (cnm 8) p.1 p.2 := List.forall_mem_cons.mpr ⟨fok_X8_7, (fun _ h => by cases h)⟩
theorem fok_X9_7 : FOk (cnm 9) 7 (8, 0, 1) := ⟨by decide, by decide +kernel, by decide, RX9, TX9, rfl, (fun z => by cases z), (fun _ => ⟨rfl, rfl, q689⟩), Or.inl q689⟩
theorem fok_X9 : ∀ p ∈ ft_X9, FOk (cnm 9) p.1 p.2 := List.forall_mem_cons.mpr ⟨fok_X9_7, (fun _ h => by cases h)⟩
theorem fok_X10_7 : FOk (cnm 10) 7 (9, 0, 1) := ⟨by decide, by decide +kernel, by decide, RX10, TX10, rfl, (fun z => by cases z), (fun _ => ⟨rfl, rfl, q699⟩), Or.inl q699⟩
theorem fok_X10_17 : FOk (cnm 10) 17 (9, 1, 1) := ⟨by decide, by decide +kernel, by decide, RX10, TX10, rfl, (fun z => by cases z), (fun _ => ⟨rfl, rfl, q700⟩), Or.inl q700⟩
theorem fok_X10_13 : FOk (cnm 10) 13 (9, 2, 1) := ⟨by decide, by decide +kernel, by decide, RX10, TX10, rfl, (fun z => by cases z), (fun _ => ⟨rfl, rfl, q701⟩), Or.inl q701⟩
theorem fok_X10 : ∀ p ∈ ft_X10, FOk (cnm 10) p.1 p.2 := List.forall_mem_cons.mpr ⟨fok_X10_7, List.forall_mem_cons.mpr ⟨fok_X10_17, List.forall_mem_cons.mpr ⟨fok_X10_13, (fun _ h => by cases h)⟩⟩⟩
theorem fok_X11 : ∀ p ∈ ft_X11, FOk (cnm 11) p.1 p.2 := (fun _ h => by cases h)
theorem fok_X12_7 : FOk (cnm 12) 7 (10, 0, 1) := ⟨by decide, by decide +kernel, by decide, RX12, TX12, rfl, (fun z => by cases z), (fun _ => ⟨rfl, rfl, q740⟩), Or.inl q740⟩
theorem fok_X12 : ∀ p ∈ ft_X12, FOk (cnm 12) p.1 p.2 := List.forall_mem_cons.mpr ⟨fok_X12_7, (fun _ h => by cases h)⟩
theorem fok_X13_7 : FOk (cnm 13) 7 (11, 0, 1) := ⟨by decide, by decide +kernel, by decide, RX13, TX13, rfl, (fun z => by cases z), (fun _ => ⟨rfl, rfl, q754⟩), Or.inl q754⟩
theorem fok_X13_17 : FOk (cnm 13) 17 (11, 1, 1) := ⟨by decide, by decide +kernel, by decide, RX13, TX13, rfl, (fun z => by cases z), (fun _ => ⟨rfl, rfl, q755⟩), Or.inl q755⟩
theorem fok_X13_13 : FOk (cnm 13) 13 (11, 2, 1) := ⟨by decide, by decide +kernel, by decide, RX13, TX13, rfl, (fun z => by cases z), (fun _ => ⟨rfl, rfl, q756⟩), Or.inl q756⟩
theorem fok_X13 : ∀ p ∈ ft_X13, FOk (cnm 13) p.1 p.2 := List.forall_mem_cons.mpr ⟨fok_X13_7, List.forall_mem_cons.mpr ⟨fok_X13_17, List.forall_mem_cons.mpr ⟨fok_X13_13, (fun _ h => by cases h)⟩⟩⟩
theorem fok_X14_7 : FOk (cnm 14) 7 (12, 0, 1) := ⟨by decide, by decide +kernel, by decide, RX14, TX14, rfl, (fun z => by cases z), (fun _ => ⟨rfl, rfl, q771⟩), Or.inl q771⟩
theorem fok_X14_17 : FOk (cnm 14) 17 (12, 1, 1) := ⟨by decide, by decide +kernel, by decide, RX14, TX14, rfl, (fun z => by cases z), (fun _ => ⟨rfl, rfl, q772⟩), Or.inl q772⟩
theorem fok_X14_13 : FOk (cnm 14) 13 (12, 2, 1) := ⟨by decide, by decide +kernel, by decide, RX14, TX14, rfl, (fun z => by cases z), (fun _ => ⟨rfl, rfl, q773⟩), Or.inl q773⟩
theorem fok_X14 : ∀ p ∈ ft_X14, FOk (cnm 14) p.1 p.2 := List.forall_mem_cons.mpr ⟨fok_X14_7, List.forall_mem_cons.mpr ⟨fok_X14_17, List.forall_mem_cons.mpr ⟨fok_X14_13, (fun _ h => by cases h)⟩⟩⟩
theorem fok_X15_10 : FOk (cnm 15) 10 (13, 0, 1) := ⟨by decide, by decide +kernel, by decide, RX15, TX15, rfl, (fun z => by cases z), (fun _ => ⟨rfl, rfl, q1087⟩), Or.inl q1087⟩
theorem fok_X15 : ∀ p ∈ ft_X15, FOk (cnm 15) p.1 p.2 := List.forall_mem_cons.mpr ⟨fok_X15_10, (fun _ h => by cases h)⟩
theorem fok_J0_31 : FOk (cnm 16) 31 (2, 3, 0) := ⟨by decide, by decide +kernel, by decide, RX2, TX2, rfl, (fun _ => rfl), (fun z => by cases z), Or.inl q306⟩
theorem fok_J0_7 : FOk (cnm 16) 7 (2, 0, 0) := ⟨by decide, by decide +kernel, by decide, RX2, TX2, rfl, (fun _ => rfl), (fun z => by cases z), Or.inl q307⟩
theorem fok_J0_17 : FOk (cnm 16) 17 (2, 1, 0) := ⟨by decide, by decide +kernel, by decide, RX2, TX2, rfl, (fun _ => rfl), (fun z => by cases z), Or.inl q308⟩
theorem fok_J0_24 : FOk (cnm 16) 24 (2, 2, 0) := ⟨by decide, by decide +kernel, by decide, RX2, TX2, rfl, (fun _ => rfl), (fun z => by cases z), Or.inl q309⟩
theorem fok_J0 : ∀ p ∈ ft_J0, FOk (cnm 16) p.1 p.2 := List.forall_mem_cons.mpr ⟨fok_J0_31, List.forall_mem_cons.mpr ⟨fok_J0_7, List.forall_mem_cons.mpr ⟨fok_J0_17, List.forall_mem_cons.mpr ⟨fok_J0_24, (fun _ h => by cases h)⟩⟩⟩⟩
theorem fok_J1 : ∀ p ∈ ft_J1, FOk (cnm 17) p.1 p.2 := (fun _ h => by cases h)
theorem fok_J2 : ∀ p ∈ ft_J2, FOk (cnm 18) p.1 p.2 := (fun _ h => by cases h)
theorem fok_J3 : ∀ p ∈ ft_J3, FOk (cnm 19) p.1 p.2 := (fun _ h => by cases h)
theorem fok_J4 : ∀ p ∈ ft_J4, FOk (cnm 20) p.1 p.2 := (fun _ h => by cases h)
theorem fok_J5 : ∀ p ∈ ft_J5, FOk (cnm 21) p.1 p.2 := (fun _ h => by cases h)
theorem fok_J6 : ∀ p ∈ ft_J6, FOk (cnm 22) p.1 p.2 := (fun _ h => by cases h)
theorem fok_J7 : ∀ p ∈ ft_J7, FOk (cnm 23) p.1 p.2 := (fun _ h => by cases h)
theorem fok_J8 : ∀ p ∈ ft_J8, FOk (cnm 24) p.1 p.2 := (fun _ h => by cases h)
theorem fok_J9 : ∀ p ∈ ft_J9, FOk (cnm 25) p.1 p.2 := (fun _ h => by cases h)
theorem fok_L : ∀ p ∈ ft_L, FOk (cnm 26) p.1 p.2 := (fun _ h => by cases h)
theorem lk_getD {α : Type} {L : List (Nat × List α)} {cn : Nat} {p : α} (h : p ∈ (lk L cn).getD []) : ∃ l, (cn, l) ∈ L ∧ p ∈ l := by
  cases e : lk L cn with
  | none => rw [e] at h; simp at h
  | some l => rw [e] at h; exact ⟨l, lk_mem e, h⟩
theorem fok_all_L : ∀ q ∈ ftabL, ∀ p ∈ q.2, FOk (cnm q.1) p.1 p.2 := List.forall_mem_cons.mpr ⟨fok_X0, List.forall_mem_cons.mpr ⟨fok_X1, List.forall_mem_cons.mpr ⟨fok_X2, List.forall_mem_cons.mpr ⟨fok_X3, List.forall_mem_cons.mpr ⟨fok_X4, List.forall_mem_cons.mpr ⟨fok_X5, List.forall_mem_cons.mpr ⟨fok_X6, List.forall_mem_cons.mpr ⟨fok_X7, List.forall_mem_cons.mpr ⟨fok_X8, List.forall_mem_cons.mpr ⟨fok_X9, List.forall_mem_cons.mpr ⟨fok_X10, List.forall_mem_cons.mpr ⟨fok_X11, List.forall_mem_cons.mpr ⟨fok_X12, List.forall_mem_cons.mpr ⟨fok_X13, List.forall_mem_cons.mpr ⟨fok_X14, List.forall_mem_cons.mpr ⟨fok_X15, List.forall_mem_cons.mpr ⟨fok_J0, List.forall_mem_cons.mpr ⟨fok_J1, List.forall_mem_cons.mpr ⟨fok_J2, List.forall_mem_cons.mpr ⟨fok_J3, List.forall_mem_cons.mpr ⟨fok_J4, List.forall_mem_cons.mpr ⟨fok_J5, List.forall_mem_cons.mpr ⟨fok_J6, List.forall_mem_cons.mpr ⟨fok_J7, List.forall_mem_cons.mpr ⟨fok_J8, List.forall_mem_cons.mpr ⟨fok_J9, List.forall_mem_cons.mpr ⟨fok_L, (fun _ h => by cases h)⟩⟩⟩⟩⟩⟩⟩⟩⟩⟩⟩⟩⟩⟩⟩⟩⟩⟩⟩⟩⟩⟩⟩⟩⟩⟩⟩
theorem fok_all (cn : Nat) : ∀ p ∈ ftab cn, FOk (cnm cn) p.1 p.2 := fun p h => by
  obtain ⟨l, h1, h2⟩ := lk_getD h
  exact fok_all_L _ h1 p h2
def KOk (own : String) (idx ci : Nat) : Prop := ci < 14 ∧ ∃ (C : String) (T : u_T), clX[ci]? = some (C, T, fno ci) ∧ Cond.classLink own idx C ∈ lw_all
theorem kok_X0 : ∀ p ∈ ck_X0, KOk (cnm 0) p.1 p.2 := List.forall_mem_cons.mpr ⟨⟨by decide, _, _, rfl, q150⟩, List.forall_mem_cons.mpr ⟨⟨by decide, _, _, rfl, q249⟩, List.forall_mem_cons.mpr ⟨⟨by decide, _, _, rfl, q342⟩, List.forall_mem_cons.mpr ⟨⟨by decide, _, _, rfl, q438⟩, (fun _ h => by cases h)⟩⟩⟩⟩
theorem kok_X1 : ∀ p ∈ ck_X1, KOk (cnm 1) p.1 p.2 := (fun _ h => by cases h)
theorem kok_X2 : ∀ p ∈ ck_X2, KOk (cnm 2) p.1 p.2 := (fun _ h => by cases h)
theorem kok_X3 : ∀ p ∈ ck_X3, KOk (cnm 3) p.1 p.2 := (fun _ h => by cases h)
theorem kok_X4 : ∀ p ∈ ck_X4, KOk (cnm 4) p.1 p.2 := List.forall_mem_cons.mpr ⟨⟨by decide, _, _, rfl, q617⟩, List.forall_mem_cons.mpr ⟨⟨by decide, _, _, rfl, q638⟩, List.forall_mem_cons.mpr ⟨⟨by decide, _, _, rfl, q670⟩, List.forall_mem_cons.mpr ⟨⟨by decide, _, _, rfl, q683⟩, List.forall_mem_cons.mpr ⟨⟨by decide, _, _, rfl, q693⟩, List.forall_mem_cons.mpr ⟨⟨by decide, _, _, rfl, q731⟩, List.forall_mem_cons.mpr ⟨⟨by decide, _, _, rfl, q748⟩, List.forall_mem_cons.mpr ⟨⟨by decide, _, _, rfl, q765⟩, (fun _ h => by cases h)⟩⟩⟩⟩⟩⟩⟩⟩
theorem kok_X5 : ∀ p ∈ ck_X5, KOk (cnm 5) p.1 p.2 := (fun _ h => by cases h)
theorem kok_X6 : ∀ p ∈ ck_X6, KOk (cnm 6) p.1 p.2 := (fun _ h => by cases h)
theorem kok_X7 : ∀ p ∈ ck_X7, KOk (cnm 7) p.1 p.2 := (fun _ h => by cases h)
theorem kok_X8 : ∀ p ∈ ck_X8, KOk (cnm 8) p.1 p.2 := (fun _ h => by cases h)
theorem kok_X9 : ∀ p ∈ ck_X9, KOk (cnm 9) p.1 p.2 := (fun _ h => by cases h)
theorem kok_X10 : ∀ p ∈ ck_X10, KOk (cnm 10) p.1 p.2 := (fun _ h => by cases h)
theorem kok_X11 : ∀ p ∈ ck_X11, KOk (cnm 11) p.1 p.2 := (fun _ h => by cases h)
theorem kok_X12 : ∀ p ∈ ck_X12, KOk (cnm 12) p.1 p.2 := (fun _ h => by cases h)
theorem kok_X13 : ∀ p ∈ ck_X13, KOk (cnm 13) p.1 p.2 := (fun _ h => by cases h)
theorem kok_X14 : ∀ p ∈ ck_X14, KOk (cnm 14) p.1 p.2 := (fun _ h => by cases h)
theorem kok_X15 : ∀ p ∈ ck_X15, KOk (cnm 15) p.1 p.2 := List.forall_mem_cons.mpr ⟨⟨by decide, _, _, rfl, q1085⟩, (fun _ h => by cases h)⟩
theorem kok_J0 : ∀ p ∈ ck_J0, KOk (cnm 16) p.1 p.2 := (fun _ h => by cases h)
theorem kok_J1 : ∀ p ∈ ck_J1, KOk (cnm 17) p.1 p.2 := (fun _ h => by cases h)
theorem kok_J2 : ∀ p ∈ ck_J2, KOk (cnm 18) p.1 p.2 := (fun _ h => by cases h)
theorem kok_J3 : ∀ p ∈ ck_J3, KOk (cnm 19) p.1 p.2 := (fun _ h => by cases h)
theorem kok_J4 : ∀ p ∈ ck_J4, KOk (cnm 20) p.1 p.2 := (fun _ h => by cases h)
theorem kok_J5 : ∀ p ∈ ck_J5, KOk (cnm 21) p.1 p.2 := (fun _ h => by cases h)
theorem kok_J6 : ∀ p ∈ ck_J6, KOk (cnm 22) p.1 p.2 := (fun _ h => by cases h)
theorem kok_J7 : ∀ p ∈ ck_J7, KOk (cnm 23) p.1 p.2 := (fun _ h => by cases h)
theorem kok_J8 : ∀ p ∈ ck_J8, KOk (cnm 24) p.1 p.2 := (fun _ h => by cases h)
theorem kok_J9 : ∀ p ∈ ck_J9, KOk (cnm 25) p.1 p.2 := (fun _ h => by cases h)
theorem kok_L : ∀ p ∈ ck_L, KOk (cnm 26) p.1 p.2 := List.forall_mem_cons.mpr ⟨⟨by decide, _, _, rfl, q142⟩, List.forall_mem_cons.mpr ⟨⟨by decide, _, _, rfl, q1105⟩, (fun _ h => by cases h)⟩⟩
theorem kok_all_L : ∀ q ∈ ctabL, ∀ p ∈ q.2, KOk (cnm q.1) p.1 p.2 := List.forall_mem_cons.mpr ⟨kok_X0, List.forall_mem_cons.mpr ⟨kok_X1, List.forall_mem_cons.mpr ⟨kok_X2, List.forall_mem_cons.mpr ⟨kok_X3, List.forall_mem_cons.mpr ⟨kok_X4, List.forall_mem_cons.mpr ⟨kok_X5, List.forall_mem_cons.mpr ⟨kok_X6, List.forall_mem_cons.mpr ⟨kok_X7, List.forall_mem_cons.mpr ⟨kok_X8, List.forall_mem_cons.mpr ⟨kok_X9, List.forall_mem_cons.mpr ⟨kok_X10, List.forall_mem_cons.mpr ⟨kok_X11, List.forall_mem_cons.mpr ⟨kok_X12, List.forall_mem_cons.mpr ⟨kok_X13, List.forall_mem_cons.mpr ⟨kok_X14, List.forall_mem_cons.mpr ⟨kok_X15, List.forall_mem_cons.mpr ⟨kok_J0, List.forall_mem_cons.mpr ⟨kok_J1, List.forall_mem_cons.mpr ⟨kok_J2, List.forall_mem_cons.mpr ⟨kok_J3, List.forall_mem_cons.mpr ⟨kok_J4, List.forall_mem_cons.mpr ⟨kok_J5, List.forall_mem_cons.mpr ⟨kok_J6, List.forall_mem_cons.mpr ⟨kok_J7, List.forall_mem_cons.mpr ⟨kok_J8, List.forall_mem_cons.mpr ⟨kok_J9, List.forall_mem_cons.mpr ⟨kok_L, (fun _ h => by cases h)⟩⟩⟩⟩⟩⟩⟩⟩⟩⟩⟩⟩⟩⟩⟩⟩⟩⟩⟩⟩⟩⟩⟩⟩⟩⟩⟩
theorem kok_all (cn : Nat) : ∀ p ∈ ctab cn, KOk (cnm cn) p.1 p.2 := fun p h => by
  obtain ⟨l, h1, h2⟩ := lk_getD h
  exact kok_all_L _ h1 p h2
def ZOk (own : String) (idx kd : Nat) : Prop := 4 ≤ kd ∧ kd ≤ 8 ∧ ∃ C : String, akT kd = .object C ∧ C ∈ nwA ∧ Cond.classLink own idx C ∈ lw_all
theorem zok_X0 : ∀ p ∈ ak_X0, ZOk (cnm 0) p.1 p.2 := List.forall_mem_cons.mpr ⟨⟨by decide, by decide, _, rfl, by decide, q150⟩, List.forall_mem_cons.mpr ⟨⟨by decide, by decide, _, rfl, by decide, q323⟩, List.forall_mem_cons.mpr ⟨⟨by decide, by decide, _, rfl, by decide, q340⟩, List.forall_mem_cons.mpr ⟨⟨by decide, by decide, _, rfl, by decide, q342⟩, (fun _ h => by cases h)⟩⟩⟩⟩
theorem zok_X1 : ∀ p ∈ ak_X1, ZOk (cnm 1) p.1 p.2 := (fun _ h => by cases h)
theorem zok_X2 : ∀ p ∈ ak_X2, ZOk (cnm 2) p.1 p.2 := (fun _ h => by cases h)
theorem zok_X3 : ∀ p ∈ ak_X3, ZOk (cnm 3) p.1 p.2 := (fun _ h => by cases h)
theorem zok_X4 : ∀ p ∈ ak_X4, ZOk (cnm 4) p.1 p.2 := (fun _ h => by cases h)
theorem zok_X5 : ∀ p ∈ ak_X5, ZOk (cnm 5) p.1 p.2 := List.forall_mem_cons.mpr ⟨⟨by decide, by decide, _, rfl, by decide, q623⟩, (fun _ h => by cases h)⟩
theorem zok_X6 : ∀ p ∈ ak_X6, ZOk (cnm 6) p.1 p.2 := (fun _ h => by cases h)
theorem zok_X7 : ∀ p ∈ ak_X7, ZOk (cnm 7) p.1 p.2 := (fun _ h => by cases h)
theorem zok_X8 : ∀ p ∈ ak_X8, ZOk (cnm 8) p.1 p.2 := (fun _ h => by cases h)
theorem zok_X9 : ∀ p ∈ ak_X9, ZOk (cnm 9) p.1 p.2 := (fun _ h => by cases h)
theorem zok_X10 : ∀ p ∈ ak_X10, ZOk (cnm 10) p.1 p.2 := (fun _ h => by cases h)
theorem zok_X11 : ∀ p ∈ ak_X11, ZOk (cnm 11) p.1 p.2 := (fun _ h => by cases h)
theorem zok_X12 : ∀ p ∈ ak_X12, ZOk (cnm 12) p.1 p.2 := (fun _ h => by cases h)
theorem zok_X13 : ∀ p ∈ ak_X13, ZOk (cnm 13) p.1 p.2 := (fun _ h => by cases h)
theorem zok_X14 : ∀ p ∈ ak_X14, ZOk (cnm 14) p.1 p.2 := (fun _ h => by cases h)
theorem zok_X15 : ∀ p ∈ ak_X15, ZOk (cnm 15) p.1 p.2 := (fun _ h => by cases h)
theorem zok_J0 : ∀ p ∈ ak_J0, ZOk (cnm 16) p.1 p.2 := (fun _ h => by cases h)
theorem zok_J1 : ∀ p ∈ ak_J1, ZOk (cnm 17) p.1 p.2 := (fun _ h => by cases h)
theorem zok_J2 : ∀ p ∈ ak_J2, ZOk (cnm 18) p.1 p.2 := (fun _ h => by cases h)
theorem zok_J3 : ∀ p ∈ ak_J3, ZOk (cnm 19) p.1 p.2 := (fun _ h => by cases h)
theorem zok_J4 : ∀ p ∈ ak_J4, ZOk (cnm 20) p.1 p.2 := (fun _ h => by cases h)
theorem zok_J5 : ∀ p ∈ ak_J5, ZOk (cnm 21) p.1 p.2 := (fun _ h => by cases h)
theorem zok_J6 : ∀ p ∈ ak_J6, ZOk (cnm 22) p.1 p.2 := (fun _ h => by cases h)
theorem zok_J7 : ∀ p ∈ ak_J7, ZOk (cnm 23) p.1 p.2 := (fun _ h => by cases h)
theorem zok_J8 : ∀ p ∈ ak_J8, ZOk (cnm 24) p.1 p.2 := (fun _ h => by cases h)
theorem zok_J9 : ∀ p ∈ ak_J9, ZOk (cnm 25) p.1 p.2 := (fun _ h => by cases h)
theorem zok_L : ∀ p ∈ ak_L, ZOk (cnm 26) p.1 p.2 := (fun _ h => by cases h)
theorem zok_all_L : ∀ q ∈ atabL, ∀ p ∈ q.2, ZOk (cnm q.1) p.1 p.2 := List.forall_mem_cons.mpr ⟨zok_X0, List.forall_mem_cons.mpr ⟨zok_X1, List.forall_mem_cons.mpr ⟨zok_X2, List.forall_mem_cons.mpr ⟨zok_X3, List.forall_mem_cons.mpr ⟨zok_X4, List.forall_mem_cons.mpr ⟨zok_X5, List.forall_mem_cons.mpr ⟨zok_X6, List.forall_mem_cons.mpr ⟨zok_X7, List.forall_mem_cons.mpr ⟨zok_X8, List.forall_mem_cons.mpr ⟨zok_X9, List.forall_mem_cons.mpr ⟨zok_X10, List.forall_mem_cons.mpr ⟨zok_X11, List.forall_mem_cons.mpr ⟨zok_X12, List.forall_mem_cons.mpr ⟨zok_X13, List.forall_mem_cons.mpr ⟨zok_X14, List.forall_mem_cons.mpr ⟨zok_X15, List.forall_mem_cons.mpr ⟨zok_J0, List.forall_mem_cons.mpr ⟨zok_J1, List.forall_mem_cons.mpr ⟨zok_J2, List.forall_mem_cons.mpr ⟨zok_J3, List.forall_mem_cons.mpr ⟨zok_J4, List.forall_mem_cons.mpr ⟨zok_J5, List.forall_mem_cons.mpr ⟨zok_J6, List.forall_mem_cons.mpr ⟨zok_J7, List.forall_mem_cons.mpr ⟨zok_J8, List.forall_mem_cons.mpr ⟨zok_J9, List.forall_mem_cons.mpr ⟨zok_L, (fun _ h => by cases h)⟩⟩⟩⟩⟩⟩⟩⟩⟩⟩⟩⟩⟩⟩⟩⟩⟩⟩⟩⟩⟩⟩⟩⟩⟩⟩⟩
theorem zok_all (cn : Nat) : ∀ p ∈ atab cn, ZOk (cnm cn) p.1 p.2 := fun p h => by
  obtain ⟨l, h1, h2⟩ := lk_getD h
  exact zok_all_L _ h1 p h2
theorem iok_X0 : ∀ p ∈ ki_X0, Cond.constant (cnm 0) p.1 p.2 ∈ lw_all := List.forall_mem_cons.mpr ⟨q1070, (fun _ h => by cases h)⟩
theorem lok_X0 : ∀ p ∈ kl_X0, Cond.constantLong (cnm 0) p.1 p.2 ∈ lw_all := List.forall_mem_cons.mpr ⟨q808, List.forall_mem_cons.mpr ⟨q919, List.forall_mem_cons.mpr ⟨q929, List.forall_mem_cons.mpr ⟨q930, List.forall_mem_cons.mpr ⟨q960, List.forall_mem_cons.mpr ⟨q993, List.forall_mem_cons.mpr ⟨q1004, List.forall_mem_cons.mpr ⟨q1013, List.forall_mem_cons.mpr ⟨q1062, List.forall_mem_cons.mpr ⟨q1067, List.forall_mem_cons.mpr ⟨q1068, List.forall_mem_cons.mpr ⟨q1069, List.forall_mem_cons.mpr ⟨q1075, (fun _ h => by cases h)⟩⟩⟩⟩⟩⟩⟩⟩⟩⟩⟩⟩⟩
theorem sok_X0 : ∀ p ∈ ks_X0, p.2 < 39 ∧ sown p.2 = cnm 0 ∧ sidx p.2 = p.1 := List.forall_mem_cons.mpr ⟨⟨by decide, rfl, rfl⟩, List.forall_mem_cons.mpr ⟨⟨by decide, rfl, rfl⟩, List.forall_mem_cons.mpr ⟨⟨by decide, rfl, rfl⟩, List.forall_mem_cons.mpr ⟨⟨by decide, rfl, rfl⟩, List.forall_mem_cons.mpr ⟨⟨by decide, rfl, rfl⟩, List.forall_mem_cons.mpr ⟨⟨by decide, rfl, rfl⟩, List.forall_mem_cons.mpr ⟨⟨by decide, rfl, rfl⟩, List.forall_mem_cons.mpr ⟨⟨by decide, rfl, rfl⟩, List.forall_mem_cons.mpr ⟨⟨by decide, rfl, rfl⟩, List.forall_mem_cons.mpr ⟨⟨by decide, rfl, rfl⟩, List.forall_mem_cons.mpr ⟨⟨by decide, rfl, rfl⟩, List.forall_mem_cons.mpr ⟨⟨by decide, rfl, rfl⟩, List.forall_mem_cons.mpr ⟨⟨by decide, rfl, rfl⟩, List.forall_mem_cons.mpr ⟨⟨by decide, rfl, rfl⟩, List.forall_mem_cons.mpr ⟨⟨by decide, rfl, rfl⟩, (fun _ h => by cases h)⟩⟩⟩⟩⟩⟩⟩⟩⟩⟩⟩⟩⟩⟩⟩
theorem iok_X1 : ∀ p ∈ ki_X1, Cond.constant (cnm 1) p.1 p.2 ∈ lw_all := (fun _ h => by cases h)
theorem lok_X1 : ∀ p ∈ kl_X1, Cond.constantLong (cnm 1) p.1 p.2 ∈ lw_all := (fun _ h => by cases h)
theorem sok_X1 : ∀ p ∈ ks_X1, p.2 < 39 ∧ sown p.2 = cnm 1 ∧ sidx p.2 = p.1 := (fun _ h => by cases h)
theorem iok_X2 : ∀ p ∈ ki_X2, Cond.constant (cnm 2) p.1 p.2 ∈ lw_all := (fun _ h => by cases h)
theorem lok_X2 : ∀ p ∈ kl_X2, Cond.constantLong (cnm 2) p.1 p.2 ∈ lw_all := (fun _ h => by cases h)
theorem sok_X2 : ∀ p ∈ ks_X2, p.2 < 39 ∧ sown p.2 = cnm 2 ∧ sidx p.2 = p.1 := List.forall_mem_cons.mpr ⟨⟨by decide, rfl, rfl⟩, (fun _ h => by cases h)⟩
theorem iok_X3 : ∀ p ∈ ki_X3, Cond.constant (cnm 3) p.1 p.2 ∈ lw_all := List.forall_mem_cons.mpr ⟨q1338, List.forall_mem_cons.mpr ⟨q1656, List.forall_mem_cons.mpr ⟨q1723, (fun _ h => by cases h)⟩⟩⟩
theorem lok_X3 : ∀ p ∈ kl_X3, Cond.constantLong (cnm 3) p.1 p.2 ∈ lw_all := List.forall_mem_cons.mpr ⟨q1347, List.forall_mem_cons.mpr ⟨q1348, List.forall_mem_cons.mpr ⟨q1441, List.forall_mem_cons.mpr ⟨q1466, List.forall_mem_cons.mpr ⟨q1560, List.forall_mem_cons.mpr ⟨q1569, List.forall_mem_cons.mpr ⟨q1570, List.forall_mem_cons.mpr ⟨q1619, List.forall_mem_cons.mpr ⟨q1651, List.forall_mem_cons.mpr ⟨q1665, List.forall_mem_cons.mpr ⟨q1678, List.forall_mem_cons.mpr ⟨q1715, List.forall_mem_cons.mpr ⟨q1720, List.forall_mem_cons.mpr ⟨q1721, List.forall_mem_cons.mpr ⟨q1722, (fun _ h => by cases h)⟩⟩⟩⟩⟩⟩⟩⟩⟩⟩⟩⟩⟩⟩⟩
theorem sok_X3 : ∀ p ∈ ks_X3, p.2 < 39 ∧ sown p.2 = cnm 3 ∧ sidx p.2 = p.1 := List.forall_mem_cons.mpr ⟨⟨by decide, rfl, rfl⟩, List.forall_mem_cons.mpr ⟨⟨by decide, rfl, rfl⟩, List.forall_mem_cons.mpr ⟨⟨by decide, rfl, rfl⟩, List.forall_mem_cons.mpr ⟨⟨by decide, rfl, rfl⟩, List.forall_mem_cons.mpr ⟨⟨by decide, rfl, rfl⟩, List.forall_mem_cons.mpr ⟨⟨by decide, rfl, rfl⟩, List.forall_mem_cons.mpr ⟨⟨by decide, rfl, rfl⟩, List.forall_mem_cons.mpr ⟨⟨by decide, rfl, rfl⟩, List.forall_mem_cons.mpr ⟨⟨by decide, rfl, rfl⟩, List.forall_mem_cons.mpr ⟨⟨by decide, rfl, rfl⟩, List.forall_mem_cons.mpr ⟨⟨by decide, rfl, rfl⟩, List.forall_mem_cons.mpr ⟨⟨by decide, rfl, rfl⟩, List.forall_mem_cons.mpr ⟨⟨by decide, rfl, rfl⟩, List.forall_mem_cons.mpr ⟨⟨by decide, rfl, rfl⟩, List.forall_mem_cons.mpr ⟨⟨by decide, rfl, rfl⟩, List.forall_mem_cons.mpr ⟨⟨by decide, rfl, rfl⟩, List.forall_mem_cons.mpr ⟨⟨by decide, rfl, rfl⟩, List.forall_mem_cons.mpr ⟨⟨by decide, rfl, rfl⟩, List.forall_mem_cons.mpr ⟨⟨by decide, rfl, rfl⟩, (fun _ h => by cases h)⟩⟩⟩⟩⟩⟩⟩⟩⟩⟩⟩⟩⟩⟩⟩⟩⟩⟩⟩
theorem iok_X4 : ∀ p ∈ ki_X4, Cond.constant (cnm 4) p.1 p.2 ∈ lw_all := List.forall_mem_cons.mpr ⟨q665, (fun _ h => by cases h)⟩
theorem lok_X4 : ∀ p ∈ kl_X4, Cond.constantLong (cnm 4) p.1 p.2 ∈ lw_all := (fun _ h => by cases h)
theorem sok_X4 : ∀ p ∈ ks_X4, p.2 < 39 ∧ sown p.2 = cnm 4 ∧ sidx p.2 = p.1 := List.forall_mem_cons.mpr ⟨⟨by decide, rfl, rfl⟩, List.forall_mem_cons.mpr ⟨⟨by decide, rfl, rfl⟩, List.forall_mem_cons.mpr ⟨⟨by decide, rfl, rfl⟩, List.forall_mem_cons.mpr ⟨⟨by decide, rfl, rfl⟩, (fun _ h => by cases h)⟩⟩⟩⟩
theorem iok_X5 : ∀ p ∈ ki_X5, Cond.constant (cnm 5) p.1 p.2 ∈ lw_all := (fun _ h => by cases h)
theorem lok_X5 : ∀ p ∈ kl_X5, Cond.constantLong (cnm 5) p.1 p.2 ∈ lw_all := (fun _ h => by cases h)
theorem sok_X5 : ∀ p ∈ ks_X5, p.2 < 39 ∧ sown p.2 = cnm 5 ∧ sidx p.2 = p.1 := (fun _ h => by cases h)
theorem iok_X6 : ∀ p ∈ ki_X6, Cond.constant (cnm 6) p.1 p.2 ∈ lw_all := (fun _ h => by cases h)
theorem lok_X6 : ∀ p ∈ kl_X6, Cond.constantLong (cnm 6) p.1 p.2 ∈ lw_all := (fun _ h => by cases h)
theorem sok_X6 : ∀ p ∈ ks_X6, p.2 < 39 ∧ sown p.2 = cnm 6 ∧ sidx p.2 = p.1 := (fun _ h => by cases h)
theorem iok_X7 : ∀ p ∈ ki_X7, Cond.constant (cnm 7) p.1 p.2 ∈ lw_all := (fun _ h => by cases h)
theorem lok_X7 : ∀ p ∈ kl_X7, Cond.constantLong (cnm 7) p.1 p.2 ∈ lw_all := (fun _ h => by cases h)
theorem sok_X7 : ∀ p ∈ ks_X7, p.2 < 39 ∧ sown p.2 = cnm 7 ∧ sidx p.2 = p.1 := (fun _ h => by cases h)
theorem iok_X8 : ∀ p ∈ ki_X8, Cond.constant (cnm 8) p.1 p.2 ∈ lw_all := (fun _ h => by cases h)
theorem lok_X8 : ∀ p ∈ kl_X8, Cond.constantLong (cnm 8) p.1 p.2 ∈ lw_all := (fun _ h => by cases h)
theorem sok_X8 : ∀ p ∈ ks_X8, p.2 < 39 ∧ sown p.2 = cnm 8 ∧ sidx p.2 = p.1 := (fun _ h => by cases h)
theorem iok_X9 : ∀ p ∈ ki_X9, Cond.constant (cnm 9) p.1 p.2 ∈ lw_all := (fun _ h => by cases h)
theorem lok_X9 : ∀ p ∈ kl_X9, Cond.constantLong (cnm 9) p.1 p.2 ∈ lw_all := (fun _ h => by cases h)
theorem sok_X9 : ∀ p ∈ ks_X9, p.2 < 39 ∧ sown p.2 = cnm 9 ∧ sidx p.2 = p.1 := (fun _ h => by cases h)
theorem iok_X10 : ∀ p ∈ ki_X10, Cond.constant (cnm 10) p.1 p.2 ∈ lw_all := (fun _ h => by cases h)
theorem lok_X10 : ∀ p ∈ kl_X10, Cond.constantLong (cnm 10) p.1 p.2 ∈ lw_all := (fun _ h => by cases h)
theorem sok_X10 : ∀ p ∈ ks_X10, p.2 < 39 ∧ sown p.2 = cnm 10 ∧ sidx p.2 = p.1 := (fun _ h => by cases h)
theorem iok_X11 : ∀ p ∈ ki_X11, Cond.constant (cnm 11) p.1 p.2 ∈ lw_all := (fun _ h => by cases h)
theorem lok_X11 : ∀ p ∈ kl_X11, Cond.constantLong (cnm 11) p.1 p.2 ∈ lw_all := (fun _ h => by cases h)
theorem sok_X11 : ∀ p ∈ ks_X11, p.2 < 39 ∧ sown p.2 = cnm 11 ∧ sidx p.2 = p.1 := (fun _ h => by cases h)
theorem iok_X12 : ∀ p ∈ ki_X12, Cond.constant (cnm 12) p.1 p.2 ∈ lw_all := (fun _ h => by cases h)
theorem lok_X12 : ∀ p ∈ kl_X12, Cond.constantLong (cnm 12) p.1 p.2 ∈ lw_all := (fun _ h => by cases h)
theorem sok_X12 : ∀ p ∈ ks_X12, p.2 < 39 ∧ sown p.2 = cnm 12 ∧ sidx p.2 = p.1 := (fun _ h => by cases h)
theorem iok_X13 : ∀ p ∈ ki_X13, Cond.constant (cnm 13) p.1 p.2 ∈ lw_all := (fun _ h => by cases h)
theorem lok_X13 : ∀ p ∈ kl_X13, Cond.constantLong (cnm 13) p.1 p.2 ∈ lw_all := (fun _ h => by cases h)
theorem sok_X13 : ∀ p ∈ ks_X13, p.2 < 39 ∧ sown p.2 = cnm 13 ∧ sidx p.2 = p.1 := (fun _ h => by cases h)
theorem iok_X14 : ∀ p ∈ ki_X14, Cond.constant (cnm 14) p.1 p.2 ∈ lw_all := (fun _ h => by cases h)
theorem lok_X14 : ∀ p ∈ kl_X14, Cond.constantLong (cnm 14) p.1 p.2 ∈ lw_all := (fun _ h => by cases h)
theorem sok_X14 : ∀ p ∈ ks_X14, p.2 < 39 ∧ sown p.2 = cnm 14 ∧ sidx p.2 = p.1 := (fun _ h => by cases h)
theorem iok_X15 : ∀ p ∈ ki_X15, Cond.constant (cnm 15) p.1 p.2 ∈ lw_all := (fun _ h => by cases h)
theorem lok_X15 : ∀ p ∈ kl_X15, Cond.constantLong (cnm 15) p.1 p.2 ∈ lw_all := (fun _ h => by cases h)
theorem sok_X15 : ∀ p ∈ ks_X15, p.2 < 39 ∧ sown p.2 = cnm 15 ∧ sidx p.2 = p.1 := (fun _ h => by cases h)
theorem iok_J0 : ∀ p ∈ ki_J0, Cond.constant (cnm 16) p.1 p.2 ∈ lw_all := (fun _ h => by cases h)
theorem lok_J0 : ∀ p ∈ kl_J0, Cond.constantLong (cnm 16) p.1 p.2 ∈ lw_all := (fun _ h => by cases h)
theorem sok_J0 : ∀ p ∈ ks_J0, p.2 < 39 ∧ sown p.2 = cnm 16 ∧ sidx p.2 = p.1 := (fun _ h => by cases h)
theorem iok_J1 : ∀ p ∈ ki_J1, Cond.constant (cnm 17) p.1 p.2 ∈ lw_all := (fun _ h => by cases h)
theorem lok_J1 : ∀ p ∈ kl_J1, Cond.constantLong (cnm 17) p.1 p.2 ∈ lw_all := (fun _ h => by cases h)
theorem sok_J1 : ∀ p ∈ ks_J1, p.2 < 39 ∧ sown p.2 = cnm 17 ∧ sidx p.2 = p.1 := (fun _ h => by cases h)
theorem iok_J2 : ∀ p ∈ ki_J2, Cond.constant (cnm 18) p.1 p.2 ∈ lw_all := (fun _ h => by cases h)
theorem lok_J2 : ∀ p ∈ kl_J2, Cond.constantLong (cnm 18) p.1 p.2 ∈ lw_all := (fun _ h => by cases h)
theorem sok_J2 : ∀ p ∈ ks_J2, p.2 < 39 ∧ sown p.2 = cnm 18 ∧ sidx p.2 = p.1 := (fun _ h => by cases h)
theorem iok_J3 : ∀ p ∈ ki_J3, Cond.constant (cnm 19) p.1 p.2 ∈ lw_all := (fun _ h => by cases h)
theorem lok_J3 : ∀ p ∈ kl_J3, Cond.constantLong (cnm 19) p.1 p.2 ∈ lw_all := (fun _ h => by cases h)
theorem sok_J3 : ∀ p ∈ ks_J3, p.2 < 39 ∧ sown p.2 = cnm 19 ∧ sidx p.2 = p.1 := (fun _ h => by cases h)
theorem iok_J4 : ∀ p ∈ ki_J4, Cond.constant (cnm 20) p.1 p.2 ∈ lw_all := (fun _ h => by cases h)
theorem lok_J4 : ∀ p ∈ kl_J4, Cond.constantLong (cnm 20) p.1 p.2 ∈ lw_all := (fun _ h => by cases h)
theorem sok_J4 : ∀ p ∈ ks_J4, p.2 < 39 ∧ sown p.2 = cnm 20 ∧ sidx p.2 = p.1 := (fun _ h => by cases h)
theorem iok_J5 : ∀ p ∈ ki_J5, Cond.constant (cnm 21) p.1 p.2 ∈ lw_all := (fun _ h => by cases h)
theorem lok_J5 : ∀ p ∈ kl_J5, Cond.constantLong (cnm 21) p.1 p.2 ∈ lw_all := (fun _ h => by cases h)
theorem sok_J5 : ∀ p ∈ ks_J5, p.2 < 39 ∧ sown p.2 = cnm 21 ∧ sidx p.2 = p.1 := (fun _ h => by cases h)
theorem iok_J6 : ∀ p ∈ ki_J6, Cond.constant (cnm 22) p.1 p.2 ∈ lw_all := (fun _ h => by cases h)
theorem lok_J6 : ∀ p ∈ kl_J6, Cond.constantLong (cnm 22) p.1 p.2 ∈ lw_all := (fun _ h => by cases h)
theorem sok_J6 : ∀ p ∈ ks_J6, p.2 < 39 ∧ sown p.2 = cnm 22 ∧ sidx p.2 = p.1 := (fun _ h => by cases h)
theorem iok_J7 : ∀ p ∈ ki_J7, Cond.constant (cnm 23) p.1 p.2 ∈ lw_all := List.forall_mem_cons.mpr ⟨q965, List.forall_mem_cons.mpr ⟨q966, List.forall_mem_cons.mpr ⟨q967, (fun _ h => by cases h)⟩⟩⟩
theorem lok_J7 : ∀ p ∈ kl_J7, Cond.constantLong (cnm 23) p.1 p.2 ∈ lw_all := (fun _ h => by cases h)
theorem sok_J7 : ∀ p ∈ ks_J7, p.2 < 39 ∧ sown p.2 = cnm 23 ∧ sidx p.2 = p.1 := (fun _ h => by cases h)
theorem iok_J8 : ∀ p ∈ ki_J8, Cond.constant (cnm 24) p.1 p.2 ∈ lw_all := (fun _ h => by cases h)
theorem lok_J8 : ∀ p ∈ kl_J8, Cond.constantLong (cnm 24) p.1 p.2 ∈ lw_all := (fun _ h => by cases h)
theorem sok_J8 : ∀ p ∈ ks_J8, p.2 < 39 ∧ sown p.2 = cnm 24 ∧ sidx p.2 = p.1 := (fun _ h => by cases h)
theorem iok_J9 : ∀ p ∈ ki_J9, Cond.constant (cnm 25) p.1 p.2 ∈ lw_all := (fun _ h => by cases h)
theorem lok_J9 : ∀ p ∈ kl_J9, Cond.constantLong (cnm 25) p.1 p.2 ∈ lw_all := (fun _ h => by cases h)
theorem sok_J9 : ∀ p ∈ ks_J9, p.2 < 39 ∧ sown p.2 = cnm 25 ∧ sidx p.2 = p.1 := (fun _ h => by cases h)
theorem iok_L : ∀ p ∈ ki_L, Cond.constant (cnm 26) p.1 p.2 ∈ lw_all := (fun _ h => by cases h)
theorem lok_L : ∀ p ∈ kl_L, Cond.constantLong (cnm 26) p.1 p.2 ∈ lw_all := (fun _ h => by cases h)
theorem sok_L : ∀ p ∈ ks_L, p.2 < 39 ∧ sown p.2 = cnm 26 ∧ sidx p.2 = p.1 := (fun _ h => by cases h)
theorem iok_all_L : ∀ q ∈ kitabL, ∀ p ∈ q.2, Cond.constant (cnm q.1) p.1 p.2 ∈ lw_all := List.forall_mem_cons.mpr ⟨iok_X0, List.forall_mem_cons.mpr ⟨iok_X1, List.forall_mem_cons.mpr ⟨iok_X2, List.forall_mem_cons.mpr ⟨iok_X3, List.forall_mem_cons.mpr ⟨iok_X4, List.forall_mem_cons.mpr ⟨iok_X5, List.forall_mem_cons.mpr ⟨iok_X6, List.forall_mem_cons.mpr ⟨iok_X7, List.forall_mem_cons.mpr ⟨iok_X8, List.forall_mem_cons.mpr ⟨iok_X9, List.forall_mem_cons.mpr ⟨iok_X10, List.forall_mem_cons.mpr ⟨iok_X11, List.forall_mem_cons.mpr ⟨iok_X12, List.forall_mem_cons.mpr ⟨iok_X13, List.forall_mem_cons.mpr ⟨iok_X14, List.forall_mem_cons.mpr ⟨iok_X15, List.forall_mem_cons.mpr ⟨iok_J0, List.forall_mem_cons.mpr ⟨iok_J1, List.forall_mem_cons.mpr ⟨iok_J2, List.forall_mem_cons.mpr ⟨iok_J3, List.forall_mem_cons.mpr ⟨iok_J4, List.forall_mem_cons.mpr ⟨iok_J5, List.forall_mem_cons.mpr ⟨iok_J6, List.forall_mem_cons.mpr ⟨iok_J7, List.forall_mem_cons.mpr ⟨iok_J8, List.forall_mem_cons.mpr ⟨iok_J9, List.forall_mem_cons.mpr ⟨iok_L, (fun _ h => by cases h)⟩⟩⟩⟩⟩⟩⟩⟩⟩⟩⟩⟩⟩⟩⟩⟩⟩⟩⟩⟩⟩⟩⟩⟩⟩⟩⟩
theorem iok_all (cn : Nat) : ∀ p ∈ kitab cn, Cond.constant (cnm cn) p.1 p.2 ∈ lw_all := fun p h => by
  obtain ⟨l, h1, h2⟩ := lk_getD h
  exact iok_all_L _ h1 p h2
theorem lok_all_L : ∀ q ∈ kltabL, ∀ p ∈ q.2, Cond.constantLong (cnm q.1) p.1 p.2 ∈ lw_all := List.forall_mem_cons.mpr ⟨lok_X0, List.forall_mem_cons.mpr ⟨lok_X1, List.forall_mem_cons.mpr ⟨lok_X2, List.forall_mem_cons.mpr ⟨lok_X3, List.forall_mem_cons.mpr ⟨lok_X4, List.forall_mem_cons.mpr ⟨lok_X5, List.forall_mem_cons.mpr ⟨lok_X6, List.forall_mem_cons.mpr ⟨lok_X7, List.forall_mem_cons.mpr ⟨lok_X8, List.forall_mem_cons.mpr ⟨lok_X9, List.forall_mem_cons.mpr ⟨lok_X10, List.forall_mem_cons.mpr ⟨lok_X11, List.forall_mem_cons.mpr ⟨lok_X12, List.forall_mem_cons.mpr ⟨lok_X13, List.forall_mem_cons.mpr ⟨lok_X14, List.forall_mem_cons.mpr ⟨lok_X15, List.forall_mem_cons.mpr ⟨lok_J0, List.forall_mem_cons.mpr ⟨lok_J1, List.forall_mem_cons.mpr ⟨lok_J2, List.forall_mem_cons.mpr ⟨lok_J3, List.forall_mem_cons.mpr ⟨lok_J4, List.forall_mem_cons.mpr ⟨lok_J5, List.forall_mem_cons.mpr ⟨lok_J6, List.forall_mem_cons.mpr ⟨lok_J7, List.forall_mem_cons.mpr ⟨lok_J8, List.forall_mem_cons.mpr ⟨lok_J9, List.forall_mem_cons.mpr ⟨lok_L, (fun _ h => by cases h)⟩⟩⟩⟩⟩⟩⟩⟩⟩⟩⟩⟩⟩⟩⟩⟩⟩⟩⟩⟩⟩⟩⟩⟩⟩⟩⟩
theorem lok_all (cn : Nat) : ∀ p ∈ kltab cn, Cond.constantLong (cnm cn) p.1 p.2 ∈ lw_all := fun p h => by
  obtain ⟨l, h1, h2⟩ := lk_getD h
  exact lok_all_L _ h1 p h2
theorem sok_all_L : ∀ q ∈ kstabL, ∀ p ∈ q.2, p.2 < 39 ∧ sown p.2 = cnm q.1 ∧ sidx p.2 = p.1 := List.forall_mem_cons.mpr ⟨sok_X0, List.forall_mem_cons.mpr ⟨sok_X1, List.forall_mem_cons.mpr ⟨sok_X2, List.forall_mem_cons.mpr ⟨sok_X3, List.forall_mem_cons.mpr ⟨sok_X4, List.forall_mem_cons.mpr ⟨sok_X5, List.forall_mem_cons.mpr ⟨sok_X6, List.forall_mem_cons.mpr ⟨sok_X7, List.forall_mem_cons.mpr ⟨sok_X8, List.forall_mem_cons.mpr ⟨sok_X9, List.forall_mem_cons.mpr ⟨sok_X10, List.forall_mem_cons.mpr ⟨sok_X11, List.forall_mem_cons.mpr ⟨sok_X12, List.forall_mem_cons.mpr ⟨sok_X13, List.forall_mem_cons.mpr ⟨sok_X14, List.forall_mem_cons.mpr ⟨sok_X15, List.forall_mem_cons.mpr ⟨sok_J0, List.forall_mem_cons.mpr ⟨sok_J1, List.forall_mem_cons.mpr ⟨sok_J2, List.forall_mem_cons.mpr ⟨sok_J3, List.forall_mem_cons.mpr ⟨sok_J4, List.forall_mem_cons.mpr ⟨sok_J5, List.forall_mem_cons.mpr ⟨sok_J6, List.forall_mem_cons.mpr ⟨sok_J7, List.forall_mem_cons.mpr ⟨sok_J8, List.forall_mem_cons.mpr ⟨sok_J9, List.forall_mem_cons.mpr ⟨sok_L, (fun _ h => by cases h)⟩⟩⟩⟩⟩⟩⟩⟩⟩⟩⟩⟩⟩⟩⟩⟩⟩⟩⟩⟩⟩⟩⟩⟩⟩⟩⟩
theorem sok_all (cn : Nat) : ∀ p ∈ kstab cn, p.2 < 39 ∧ sown p.2 = cnm cn ∧ sidx p.2 = p.1 := fun p h => by
  obtain ⟨l, h1, h2⟩ := lk_getD h
  exact sok_all_L _ h1 p h2
def XOk (own : String) (idx k : Nat) : Prop := (k = 0 ∧ Cond.fieldLink own idx "java/lang/String" "value" "[B" ∈ lw_all) ∨ (k = 1 ∧ Cond.fieldLink own idx "java/lang/String" "coder" "B" ∈ lw_all)
theorem xok_X0 : ∀ p ∈ xf_X0, XOk (cnm 0) p.1 p.2 := (fun _ h => by cases h)
theorem xok_X1 : ∀ p ∈ xf_X1, XOk (cnm 1) p.1 p.2 := (fun _ h => by cases h)
theorem xok_X2 : ∀ p ∈ xf_X2, XOk (cnm 2) p.1 p.2 := (fun _ h => by cases h)
theorem xok_X3 : ∀ p ∈ xf_X3, XOk (cnm 3) p.1 p.2 := (fun _ h => by cases h)
theorem xok_X4 : ∀ p ∈ xf_X4, XOk (cnm 4) p.1 p.2 := (fun _ h => by cases h)
theorem xok_X5 : ∀ p ∈ xf_X5, XOk (cnm 5) p.1 p.2 := (fun _ h => by cases h)
theorem xok_X6 : ∀ p ∈ xf_X6, XOk (cnm 6) p.1 p.2 := (fun _ h => by cases h)
theorem xok_X7 : ∀ p ∈ xf_X7, XOk (cnm 7) p.1 p.2 := (fun _ h => by cases h)
theorem xok_X8 : ∀ p ∈ xf_X8, XOk (cnm 8) p.1 p.2 := (fun _ h => by cases h)
theorem xok_X9 : ∀ p ∈ xf_X9, XOk (cnm 9) p.1 p.2 := (fun _ h => by cases h)
theorem xok_X10 : ∀ p ∈ xf_X10, XOk (cnm 10) p.1 p.2 := (fun _ h => by cases h)
theorem xok_X11 : ∀ p ∈ xf_X11, XOk (cnm 11) p.1 p.2 := (fun _ h => by cases h)
theorem xok_X12 : ∀ p ∈ xf_X12, XOk (cnm 12) p.1 p.2 := (fun _ h => by cases h)
theorem xok_X13 : ∀ p ∈ xf_X13, XOk (cnm 13) p.1 p.2 := (fun _ h => by cases h)
theorem xok_X14 : ∀ p ∈ xf_X14, XOk (cnm 14) p.1 p.2 := (fun _ h => by cases h)
theorem xok_X15 : ∀ p ∈ xf_X15, XOk (cnm 15) p.1 p.2 := (fun _ h => by cases h)
theorem xok_J0 : ∀ p ∈ xf_J0, XOk (cnm 16) p.1 p.2 := (fun _ h => by cases h)
theorem xok_J1 : ∀ p ∈ xf_J1, XOk (cnm 17) p.1 p.2 := (fun _ h => by cases h)
theorem xok_J2 : ∀ p ∈ xf_J2, XOk (cnm 18) p.1 p.2 := (fun _ h => by cases h)
theorem xok_J3 : ∀ p ∈ xf_J3, XOk (cnm 19) p.1 p.2 := List.forall_mem_cons.mpr ⟨Or.inl ⟨rfl, q1737⟩, List.forall_mem_cons.mpr ⟨Or.inr ⟨rfl, q1738⟩, (fun _ h => by cases h)⟩⟩
theorem xok_J4 : ∀ p ∈ xf_J4, XOk (cnm 20) p.1 p.2 := (fun _ h => by cases h)
theorem xok_J5 : ∀ p ∈ xf_J5, XOk (cnm 21) p.1 p.2 := (fun _ h => by cases h)
theorem xok_J6 : ∀ p ∈ xf_J6, XOk (cnm 22) p.1 p.2 := (fun _ h => by cases h)
theorem xok_J7 : ∀ p ∈ xf_J7, XOk (cnm 23) p.1 p.2 := (fun _ h => by cases h)
theorem xok_J8 : ∀ p ∈ xf_J8, XOk (cnm 24) p.1 p.2 := (fun _ h => by cases h)
theorem xok_J9 : ∀ p ∈ xf_J9, XOk (cnm 25) p.1 p.2 := (fun _ h => by cases h)
theorem xok_L : ∀ p ∈ xf_L, XOk (cnm 26) p.1 p.2 := (fun _ h => by cases h)
theorem xok_all_L : ∀ q ∈ xftabL, ∀ p ∈ q.2, XOk (cnm q.1) p.1 p.2 := List.forall_mem_cons.mpr ⟨xok_X0, List.forall_mem_cons.mpr ⟨xok_X1, List.forall_mem_cons.mpr ⟨xok_X2, List.forall_mem_cons.mpr ⟨xok_X3, List.forall_mem_cons.mpr ⟨xok_X4, List.forall_mem_cons.mpr ⟨xok_X5, List.forall_mem_cons.mpr ⟨xok_X6, List.forall_mem_cons.mpr ⟨xok_X7, List.forall_mem_cons.mpr ⟨xok_X8, List.forall_mem_cons.mpr ⟨xok_X9, List.forall_mem_cons.mpr ⟨xok_X10, List.forall_mem_cons.mpr ⟨xok_X11, List.forall_mem_cons.mpr ⟨xok_X12, List.forall_mem_cons.mpr ⟨xok_X13, List.forall_mem_cons.mpr ⟨xok_X14, List.forall_mem_cons.mpr ⟨xok_X15, List.forall_mem_cons.mpr ⟨xok_J0, List.forall_mem_cons.mpr ⟨xok_J1, List.forall_mem_cons.mpr ⟨xok_J2, List.forall_mem_cons.mpr ⟨xok_J3, List.forall_mem_cons.mpr ⟨xok_J4, List.forall_mem_cons.mpr ⟨xok_J5, List.forall_mem_cons.mpr ⟨xok_J6, List.forall_mem_cons.mpr ⟨xok_J7, List.forall_mem_cons.mpr ⟨xok_J8, List.forall_mem_cons.mpr ⟨xok_J9, List.forall_mem_cons.mpr ⟨xok_L, (fun _ h => by cases h)⟩⟩⟩⟩⟩⟩⟩⟩⟩⟩⟩⟩⟩⟩⟩⟩⟩⟩⟩⟩⟩⟩⟩⟩⟩⟩⟩
theorem xok_all (cn : Nat) : ∀ p ∈ xftab cn, XOk (cnm cn) p.1 p.2 := fun p h => by
  obtain ⟨l, h1, h2⟩ := lk_getD h
  exact xok_all_L _ h1 p h2
def stL : List (String × String × String × Value) := [("java/lang/String", "COMPACT_STRINGS", "Z", .int 1), ("jdk/internal/util/Preconditions", "SIOOBE_FORMATTER", "Ljava/util/function/BiFunction;", .ref 3000000), ("java/lang/Throwable", "UNASSIGNED_STACK", "[Ljava/lang/StackTraceElement;", .ref 3000001), ("java/lang/Throwable", "SUPPRESSED_SENTINEL", "Ljava/util/List;", .ref 3000002)]
def TOk (own : String) (idx : Nat) (v : Value) : Prop := ∃ C n d : String, (C, n, d, v) ∈ stL ∧ Cond.fieldLink own idx C n d ∈ lw_all
theorem tok_X0 : ∀ p ∈ xs_X0, TOk (cnm 0) p.1 p.2 := (fun _ h => by cases h)
theorem tok_X1 : ∀ p ∈ xs_X1, TOk (cnm 1) p.1 p.2 := (fun _ h => by cases h)
theorem tok_X2 : ∀ p ∈ xs_X2, TOk (cnm 2) p.1 p.2 := (fun _ h => by cases h)
theorem tok_X3 : ∀ p ∈ xs_X3, TOk (cnm 3) p.1 p.2 := (fun _ h => by cases h)
theorem tok_X4 : ∀ p ∈ xs_X4, TOk (cnm 4) p.1 p.2 := (fun _ h => by cases h)
theorem tok_X5 : ∀ p ∈ xs_X5, TOk (cnm 5) p.1 p.2 := (fun _ h => by cases h)
theorem tok_X6 : ∀ p ∈ xs_X6, TOk (cnm 6) p.1 p.2 := (fun _ h => by cases h)
theorem tok_X7 : ∀ p ∈ xs_X7, TOk (cnm 7) p.1 p.2 := (fun _ h => by cases h)
theorem tok_X8 : ∀ p ∈ xs_X8, TOk (cnm 8) p.1 p.2 := (fun _ h => by cases h)
theorem tok_X9 : ∀ p ∈ xs_X9, TOk (cnm 9) p.1 p.2 := (fun _ h => by cases h)
theorem tok_X10 : ∀ p ∈ xs_X10, TOk (cnm 10) p.1 p.2 := (fun _ h => by cases h)
theorem tok_X11 : ∀ p ∈ xs_X11, TOk (cnm 11) p.1 p.2 := (fun _ h => by cases h)
theorem tok_X12 : ∀ p ∈ xs_X12, TOk (cnm 12) p.1 p.2 := (fun _ h => by cases h)
theorem tok_X13 : ∀ p ∈ xs_X13, TOk (cnm 13) p.1 p.2 := (fun _ h => by cases h)
theorem tok_X14 : ∀ p ∈ xs_X14, TOk (cnm 14) p.1 p.2 := (fun _ h => by cases h)
theorem tok_X15 : ∀ p ∈ xs_X15, TOk (cnm 15) p.1 p.2 := (fun _ h => by cases h)
theorem tok_J0 : ∀ p ∈ xs_J0, TOk (cnm 16) p.1 p.2 := List.forall_mem_cons.mpr ⟨⟨_, _, _, List.mem_of_getElem? (i := 2) rfl, q275⟩, List.forall_mem_cons.mpr ⟨⟨_, _, _, List.mem_of_getElem? (i := 3) rfl, q277⟩, (fun _ h => by cases h)⟩⟩
theorem tok_J1 : ∀ p ∈ xs_J1, TOk (cnm 17) p.1 p.2 := (fun _ h => by cases h)
theorem tok_J2 : ∀ p ∈ xs_J2, TOk (cnm 18) p.1 p.2 := (fun _ h => by cases h)
theorem tok_J3 : ∀ p ∈ xs_J3, TOk (cnm 19) p.1 p.2 := List.forall_mem_cons.mpr ⟨⟨_, _, _, List.mem_of_getElem? (i := 0) rfl, q505⟩, List.forall_mem_cons.mpr ⟨⟨_, _, _, List.mem_of_getElem? (i := 1) rfl, q521⟩, (fun _ h => by cases h)⟩⟩
theorem tok_J4 : ∀ p ∈ xs_J4, TOk (cnm 20) p.1 p.2 := (fun _ h => by cases h)
theorem tok_J5 : ∀ p ∈ xs_J5, TOk (cnm 21) p.1 p.2 := (fun _ h => by cases h)
theorem tok_J6 : ∀ p ∈ xs_J6, TOk (cnm 22) p.1 p.2 := (fun _ h => by cases h)
theorem tok_J7 : ∀ p ∈ xs_J7, TOk (cnm 23) p.1 p.2 := (fun _ h => by cases h)
theorem tok_J8 : ∀ p ∈ xs_J8, TOk (cnm 24) p.1 p.2 := (fun _ h => by cases h)
theorem tok_J9 : ∀ p ∈ xs_J9, TOk (cnm 25) p.1 p.2 := (fun _ h => by cases h)
theorem tok_L : ∀ p ∈ xs_L, TOk (cnm 26) p.1 p.2 := (fun _ h => by cases h)
theorem tok_all_L : ∀ q ∈ xstabL, ∀ p ∈ q.2, TOk (cnm q.1) p.1 p.2 := List.forall_mem_cons.mpr ⟨tok_X0, List.forall_mem_cons.mpr ⟨tok_X1, List.forall_mem_cons.mpr ⟨tok_X2, List.forall_mem_cons.mpr ⟨tok_X3, List.forall_mem_cons.mpr ⟨tok_X4, List.forall_mem_cons.mpr ⟨tok_X5, List.forall_mem_cons.mpr ⟨tok_X6, List.forall_mem_cons.mpr ⟨tok_X7, List.forall_mem_cons.mpr ⟨tok_X8, List.forall_mem_cons.mpr ⟨tok_X9, List.forall_mem_cons.mpr ⟨tok_X10, List.forall_mem_cons.mpr ⟨tok_X11, List.forall_mem_cons.mpr ⟨tok_X12, List.forall_mem_cons.mpr ⟨tok_X13, List.forall_mem_cons.mpr ⟨tok_X14, List.forall_mem_cons.mpr ⟨tok_X15, List.forall_mem_cons.mpr ⟨tok_J0, List.forall_mem_cons.mpr ⟨tok_J1, List.forall_mem_cons.mpr ⟨tok_J2, List.forall_mem_cons.mpr ⟨tok_J3, List.forall_mem_cons.mpr ⟨tok_J4, List.forall_mem_cons.mpr ⟨tok_J5, List.forall_mem_cons.mpr ⟨tok_J6, List.forall_mem_cons.mpr ⟨tok_J7, List.forall_mem_cons.mpr ⟨tok_J8, List.forall_mem_cons.mpr ⟨tok_J9, List.forall_mem_cons.mpr ⟨tok_L, (fun _ h => by cases h)⟩⟩⟩⟩⟩⟩⟩⟩⟩⟩⟩⟩⟩⟩⟩⟩⟩⟩⟩⟩⟩⟩⟩⟩⟩⟩⟩
theorem tok_all (cn : Nat) : ∀ p ∈ xstab cn, TOk (cnm cn) p.1 p.2 := fun p h => by
  obtain ⟨l, h1, h2⟩ := lk_getD h
  exact tok_all_L _ h1 p h2
/-- a method as the tables have it -/
def MOk (M : MR) : Prop := M.y.cls = cnm M.cn ∧ M.mx ≤ 60 ∧ plainName M.y.cls = true ∧ ((M.hh = [] ∧ Cond.code M.y M.code M.mx M.ret ∈ lw_all) ∨ (M.hh ≠ [] ∧ M.ret ≠ none ∧ Cond.codeWith M.y M.code M.mx M.ret M.hh ∈ lw_all))
theorem mok_J0_init : MOk mJ0_init := ⟨rfl, by decide, by decide +kernel, Or.inl ⟨rfl, q273⟩⟩
theorem mok_J0_init_2 : MOk mJ0_init_2 := ⟨rfl, by decide, by decide +kernel, Or.inl ⟨rfl, q300⟩⟩
theorem mok_J1_init : MOk mJ1_init := ⟨rfl, by decide, by decide +kernel, Or.inl ⟨rfl, q297⟩⟩
theorem mok_J2_init : MOk mJ2_init := ⟨rfl, by decide, by decide +kernel, Or.inl ⟨rfl, q294⟩⟩
theorem mok_J3_length : MOk mJ3_length := ⟨rfl, by decide, by decide +kernel, Or.inl ⟨rfl, q500⟩⟩
theorem mok_J3_coder : MOk mJ3_coder := ⟨rfl, by decide, by decide +kernel, Or.inl ⟨rfl, q504⟩⟩
theorem mok_J3_charAt : MOk mJ3_charAt := ⟨rfl, by decide, by decide +kernel, Or.inl ⟨rfl, q510⟩⟩
theorem mok_J3_isLatin1 : MOk mJ3_isLatin1 := ⟨rfl, by decide, by decide +kernel, Or.inl ⟨rfl, q514⟩⟩
theorem mok_J3_checkIndex : MOk mJ3_checkIndex := ⟨rfl, by decide, by decide +kernel, Or.inl ⟨rfl, q520⟩⟩
theorem mok_J4_charAt : MOk mJ4_charAt := ⟨rfl, by decide, by decide +kernel, Or.inl ⟨rfl, q517⟩⟩
theorem mok_J5_checkIndex : MOk mJ5_checkIndex := ⟨rfl, by decide, by decide +kernel, Or.inl ⟨rfl, q525⟩⟩
theorem mok_J6_charAt : MOk mJ6_charAt := ⟨rfl, by decide, by decide +kernel, Or.inl ⟨rfl, q528⟩⟩
theorem mok_J6_checkIndex : MOk mJ6_checkIndex := ⟨rfl, by decide, by decide +kernel, Or.inl ⟨rfl, q531⟩⟩
theorem mok_J6_length : MOk mJ6_length := ⟨rfl, by decide, by decide +kernel, Or.inl ⟨rfl, q534⟩⟩
theorem mok_J6_getChar : MOk mJ6_getChar := ⟨rfl, by decide, by decide +kernel, Or.inl ⟨rfl, q538⟩⟩
theorem mok_J7_bitCount : MOk mJ7_bitCount := ⟨rfl, by decide, by decide +kernel, Or.inl ⟨rfl, q964⟩⟩
theorem mok_X0_init : MOk mX0_init := ⟨rfl, by decide, by decide +kernel, Or.inl ⟨rfl, q146⟩⟩
theorem mok_X0_feed : MOk mX0_feed := ⟨rfl, by decide, by decide +kernel, Or.inl ⟨rfl, q425⟩⟩
theorem mok_X0_four : MOk mX0_four := ⟨rfl, by decide, by decide +kernel, Or.inl ⟨rfl, q429⟩⟩
theorem mok_X0_end : MOk mX0_end := ⟨rfl, by decide, by decide +kernel, Or.inl ⟨rfl, q433⟩⟩
theorem mok_X0_sky : MOk mX0_sky := ⟨rfl, by decide, by decide +kernel, Or.inr ⟨by decide, by decide, q437⟩⟩
theorem mok_X0_in : MOk mX0_in := ⟨rfl, by decide, by decide +kernel, Or.inl ⟨rfl, q571⟩⟩
theorem mok_X0_faulted : MOk mX0_faulted := ⟨rfl, by decide, by decide +kernel, Or.inl ⟨rfl, q608⟩⟩
theorem mok_X0_rule : MOk mX0_rule := ⟨rfl, by decide, by decide +kernel, Or.inr ⟨by decide, by decide, q612⟩⟩
theorem mok_X0_force : MOk mX0_force := ⟨rfl, by decide, by decide +kernel, Or.inl ⟨rfl, q785⟩⟩
theorem mok_X0_pen : MOk mX0_pen := ⟨rfl, by decide, by decide +kernel, Or.inl ⟨rfl, q789⟩⟩
theorem mok_X0_isPen : MOk mX0_isPen := ⟨rfl, by decide, by decide +kernel, Or.inl ⟨rfl, q793⟩⟩
theorem mok_X0_cell : MOk mX0_cell := ⟨rfl, by decide, by decide +kernel, Or.inl ⟨rfl, q802⟩⟩
theorem mok_X0_isCell : MOk mX0_isCell := ⟨rfl, by decide, by decide +kernel, Or.inl ⟨rfl, q806⟩⟩
theorem mok_X0_undo : MOk mX0_undo := ⟨rfl, by decide, by decide +kernel, Or.inl ⟨rfl, q813⟩⟩
theorem mok_X0_day : MOk mX0_day := ⟨rfl, by decide, by decide +kernel, Or.inl ⟨rfl, q821⟩⟩
theorem mok_X0_keepsAct : MOk mX0_keepsAct := ⟨rfl, by decide, by decide +kernel, Or.inl ⟨rfl, q825⟩⟩
theorem mok_X0_law : MOk mX0_law := ⟨rfl, by decide, by decide +kernel, Or.inl ⟨rfl, q834⟩⟩
theorem mok_X0_has : MOk mX0_has := ⟨rfl, by decide, by decide +kernel, Or.inl ⟨rfl, q845⟩⟩
theorem mok_X0_stay : MOk mX0_stay := ⟨rfl, by decide, by decide +kernel, Or.inl ⟨rfl, q910⟩⟩
theorem mok_X0_set : MOk mX0_set := ⟨rfl, by decide, by decide +kernel, Or.inl ⟨rfl, q914⟩⟩
theorem mok_X0_bend : MOk mX0_bend := ⟨rfl, by decide, by decide +kernel, Or.inl ⟨rfl, q918⟩⟩
theorem mok_X0_blot : MOk mX0_blot := ⟨rfl, by decide, by decide +kernel, Or.inl ⟨rfl, q923⟩⟩
theorem mok_X0_ahead : MOk mX0_ahead := ⟨rfl, by decide, by decide +kernel, Or.inl ⟨rfl, q928⟩⟩
theorem mok_X0_sign : MOk mX0_sign := ⟨rfl, by decide, by decide +kernel, Or.inl ⟨rfl, q947⟩⟩
theorem mok_X0_clean : MOk mX0_clean := ⟨rfl, by decide, by decide +kernel, Or.inl ⟨rfl, q955⟩⟩
theorem mok_X0_hold : MOk mX0_hold := ⟨rfl, by decide, by decide +kernel, Or.inl ⟨rfl, q959⟩⟩
theorem mok_X0_wrote : MOk mX0_wrote := ⟨rfl, by decide, by decide +kernel, Or.inl ⟨rfl, q971⟩⟩
theorem mok_X0_writesAlone : MOk mX0_writesAlone := ⟨rfl, by decide, by decide +kernel, Or.inl ⟨rfl, q975⟩⟩
theorem mok_X0_came : MOk mX0_came := ⟨rfl, by decide, by decide +kernel, Or.inl ⟨rfl, q980⟩⟩
theorem mok_X0_change : MOk mX0_change := ⟨rfl, by decide, by decide +kernel, Or.inl ⟨rfl, q984⟩⟩
theorem mok_X0_game : MOk mX0_game := ⟨rfl, by decide, by decide +kernel, Or.inl ⟨rfl, q992⟩⟩
theorem mok_X0_plays : MOk mX0_plays := ⟨rfl, by decide, by decide +kernel, Or.inl ⟨rfl, q997⟩⟩
theorem mok_X0_rests : MOk mX0_rests := ⟨rfl, by decide, by decide +kernel, Or.inl ⟨rfl, q1003⟩⟩
theorem mok_X0_isRest : MOk mX0_isRest := ⟨rfl, by decide, by decide +kernel, Or.inl ⟨rfl, q1008⟩⟩
theorem mok_X0_pence : MOk mX0_pence := ⟨rfl, by decide, by decide +kernel, Or.inl ⟨rfl, q1012⟩⟩
theorem mok_X0_read : MOk mX0_read := ⟨rfl, by decide, by decide +kernel, Or.inl ⟨rfl, q1017⟩⟩
theorem mok_X0_ruleOf : MOk mX0_ruleOf := ⟨rfl, by decide, by decide +kernel, Or.inl ⟨rfl, q1021⟩⟩
theorem mok_X0_parts : MOk mX0_parts := ⟨rfl, by decide, by decide +kernel, Or.inl ⟨rfl, q1025⟩⟩
theorem mok_X0_alikeOf : MOk mX0_alikeOf := ⟨rfl, by decide, by decide +kernel, Or.inl ⟨rfl, q1029⟩⟩
theorem mok_X0_note : MOk mX0_note := ⟨rfl, by decide, by decide +kernel, Or.inl ⟨rfl, q1036⟩⟩
theorem mok_X0_ruled : MOk mX0_ruled := ⟨rfl, by decide, by decide +kernel, Or.inl ⟨rfl, q1040⟩⟩
theorem mok_X0_gathersRules : MOk mX0_gathersRules := ⟨rfl, by decide, by decide +kernel, Or.inl ⟨rfl, q1044⟩⟩
theorem mok_X0_areNotesSo : MOk mX0_areNotesSo := ⟨rfl, by decide, by decide +kernel, Or.inl ⟨rfl, q1049⟩⟩
theorem mok_X0_look : MOk mX0_look := ⟨rfl, by decide, by decide +kernel, Or.inl ⟨rfl, q1053⟩⟩
theorem mok_X0_seed : MOk mX0_seed := ⟨rfl, by decide, by decide +kernel, Or.inl ⟨rfl, q1057⟩⟩
theorem mok_X0_rains : MOk mX0_rains := ⟨rfl, by decide, by decide +kernel, Or.inl ⟨rfl, q1061⟩⟩
theorem mok_X0_draw : MOk mX0_draw := ⟨rfl, by decide, by decide +kernel, Or.inl ⟨rfl, q1066⟩⟩
theorem mok_X0_count : MOk mX0_count := ⟨rfl, by decide, by decide +kernel, Or.inl ⟨rfl, q1074⟩⟩
theorem mok_X0_image : MOk mX0_image := ⟨rfl, by decide, by decide +kernel, Or.inl ⟨rfl, q1079⟩⟩
theorem mok_X0_back : MOk mX0_back := ⟨rfl, by decide, by decide +kernel, Or.inl ⟨rfl, q1104⟩⟩
theorem mok_X1_init : MOk mX1_init := ⟨rfl, by decide, by decide +kernel, Or.inl ⟨rfl, q154⟩⟩
theorem mok_X1_copies : MOk mX1_copies := ⟨rfl, by decide, by decide +kernel, Or.inl ⟨rfl, q473⟩⟩
theorem mok_X1_standsAs : MOk mX1_standsAs := ⟨rfl, by decide, by decide +kernel, Or.inl ⟨rfl, q480⟩⟩
theorem mok_X1_cells : MOk mX1_cells := ⟨rfl, by decide, by decide +kernel, Or.inl ⟨rfl, q583⟩⟩
theorem mok_X1_begins : MOk mX1_begins := ⟨rfl, by decide, by decide +kernel, Or.inl ⟨rfl, q599⟩⟩
theorem mok_X1_blots : MOk mX1_blots := ⟨rfl, by decide, by decide +kernel, Or.inl ⟨rfl, q603⟩⟩
theorem mok_X1_strokesOf : MOk mX1_strokesOf := ⟨rfl, by decide, by decide +kernel, Or.inl ⟨rfl, q797⟩⟩
theorem mok_X1_takes : MOk mX1_takes := ⟨rfl, by decide, by decide +kernel, Or.inl ⟨rfl, q817⟩⟩
theorem mok_X1_lays : MOk mX1_lays := ⟨rfl, by decide, by decide +kernel, Or.inl ⟨rfl, q830⟩⟩
theorem mok_X1_passes : MOk mX1_passes := ⟨rfl, by decide, by decide +kernel, Or.inl ⟨rfl, q838⟩⟩
theorem mok_X1_writes : MOk mX1_writes := ⟨rfl, by decide, by decide +kernel, Or.inl ⟨rfl, q842⟩⟩
theorem mok_X1_wayOn : MOk mX1_wayOn := ⟨rfl, by decide, by decide +kernel, Or.inl ⟨rfl, q849⟩⟩
theorem mok_X1_forceOn : MOk mX1_forceOn := ⟨rfl, by decide, by decide +kernel, Or.inl ⟨rfl, q853⟩⟩
theorem mok_X1_moves : MOk mX1_moves := ⟨rfl, by decide, by decide +kernel, Or.inl ⟨rfl, q894⟩⟩
theorem mok_X1_beside : MOk mX1_beside := ⟨rfl, by decide, by decide +kernel, Or.inl ⟨rfl, q898⟩⟩
theorem mok_X1_falls : MOk mX1_falls := ⟨rfl, by decide, by decide +kernel, Or.inl ⟨rfl, q902⟩⟩
theorem mok_X1_draws : MOk mX1_draws := ⟨rfl, by decide, by decide +kernel, Or.inl ⟨rfl, q906⟩⟩
theorem mok_X1_goesOn : MOk mX1_goesOn := ⟨rfl, by decide, by decide +kernel, Or.inl ⟨rfl, q934⟩⟩
theorem mok_X1_strokes : MOk mX1_strokes := ⟨rfl, by decide, by decide +kernel, Or.inl ⟨rfl, q939⟩⟩
theorem mok_X1_like : MOk mX1_like := ⟨rfl, by decide, by decide +kernel, Or.inl ⟨rfl, q943⟩⟩
theorem mok_X1_isSigned : MOk mX1_isSigned := ⟨rfl, by decide, by decide +kernel, Or.inl ⟨rfl, q951⟩⟩
theorem mok_X1_swapsWinds : MOk mX1_swapsWinds := ⟨rfl, by decide, by decide +kernel, Or.inl ⟨rfl, q988⟩⟩
theorem mok_X10_init : MOk mX10_init := ⟨rfl, by decide, by decide +kernel, Or.inl ⟨rfl, q697⟩⟩
theorem mok_X10_of : MOk mX10_of := ⟨rfl, by decide, by decide +kernel, Or.inl ⟨rfl, q880⟩⟩
theorem mok_X11_init : MOk mX11_init := ⟨rfl, by decide, by decide +kernel, Or.inl ⟨rfl, q738⟩⟩
theorem mok_X12_init : MOk mX12_init := ⟨rfl, by decide, by decide +kernel, Or.inl ⟨rfl, q735⟩⟩
theorem mok_X12_is : MOk mX12_is := ⟨rfl, by decide, by decide +kernel, Or.inl ⟨rfl, q886⟩⟩
theorem mok_X13_init : MOk mX13_init := ⟨rfl, by decide, by decide +kernel, Or.inl ⟨rfl, q752⟩⟩
theorem mok_X13_is : MOk mX13_is := ⟨rfl, by decide, by decide +kernel, Or.inl ⟨rfl, q871⟩⟩
theorem mok_X14_init : MOk mX14_init := ⟨rfl, by decide, by decide +kernel, Or.inl ⟨rfl, q769⟩⟩
theorem mok_X14_is : MOk mX14_is := ⟨rfl, by decide, by decide +kernel, Or.inl ⟨rfl, q868⟩⟩
theorem mok_X15_init : MOk mX15_init := ⟨rfl, by decide, by decide +kernel, Or.inl ⟨rfl, q1083⟩⟩
theorem mok_X2_init : MOk mX2_init := ⟨rfl, by decide, by decide +kernel, Or.inl ⟨rfl, q290⟩⟩
theorem mok_X3_init : MOk mX3_init := ⟨rfl, by decide, by decide +kernel, Or.inl ⟨rfl, q1109⟩⟩
theorem mok_X3_feed : MOk mX3_feed := ⟨rfl, by decide, by decide +kernel, Or.inl ⟨rfl, q1276⟩⟩
theorem mok_X3_put : MOk mX3_put := ⟨rfl, by decide, by decide +kernel, Or.inl ⟨rfl, q1280⟩⟩
theorem mok_X3_end : MOk mX3_end := ⟨rfl, by decide, by decide +kernel, Or.inl ⟨rfl, q1284⟩⟩
theorem mok_X3_sky : MOk mX3_sky := ⟨rfl, by decide, by decide +kernel, Or.inl ⟨rfl, q1288⟩⟩
theorem mok_X3_readsAll : MOk mX3_readsAll := ⟨rfl, by decide, by decide +kernel, Or.inl ⟨rfl, q1292⟩⟩
theorem mok_X3_starts : MOk mX3_starts := ⟨rfl, by decide, by decide +kernel, Or.inl ⟨rfl, q1296⟩⟩
theorem mok_X3_skyClause : MOk mX3_skyClause := ⟨rfl, by decide, by decide +kernel, Or.inl ⟨rfl, q1300⟩⟩
theorem mok_X3_blanks : MOk mX3_blanks := ⟨rfl, by decide, by decide +kernel, Or.inl ⟨rfl, q1304⟩⟩
theorem mok_X3_byteHere : MOk mX3_byteHere := ⟨rfl, by decide, by decide +kernel, Or.inl ⟨rfl, q1308⟩⟩
theorem mok_X3_skyWord : MOk mX3_skyWord := ⟨rfl, by decide, by decide +kernel, Or.inl ⟨rfl, q1311⟩⟩
theorem mok_X3_stood : MOk mX3_stood := ⟨rfl, by decide, by decide +kernel, Or.inl ⟨rfl, q1319⟩⟩
theorem mok_X3_fails : MOk mX3_fails := ⟨rfl, by decide, by decide +kernel, Or.inl ⟨rfl, q1325⟩⟩
theorem mok_X3_isFull : MOk mX3_isFull := ⟨rfl, by decide, by decide +kernel, Or.inl ⟨rfl, q1329⟩⟩
theorem mok_X3_skyPart : MOk mX3_skyPart := ⟨rfl, by decide, by decide +kernel, Or.inl ⟨rfl, q1333⟩⟩
theorem mok_X3_amount : MOk mX3_amount := ⟨rfl, by decide, by decide +kernel, Or.inl ⟨rfl, q1337⟩⟩
theorem mok_X3_digits : MOk mX3_digits := ⟨rfl, by decide, by decide +kernel, Or.inl ⟨rfl, q1342⟩⟩
theorem mok_X3_isDigit : MOk mX3_isDigit := ⟨rfl, by decide, by decide +kernel, Or.inl ⟨rfl, q1346⟩⟩
theorem mok_X3_in : MOk mX3_in := ⟨rfl, by decide, by decide +kernel, Or.inl ⟨rfl, q1351⟩⟩
theorem mok_X3_goesOn : MOk mX3_goesOn := ⟨rfl, by decide, by decide +kernel, Or.inl ⟨rfl, q1355⟩⟩
theorem mok_X3_copies : MOk mX3_copies := ⟨rfl, by decide, by decide +kernel, Or.inl ⟨rfl, q1358⟩⟩
theorem mok_X3_begins : MOk mX3_begins := ⟨rfl, by decide, by decide +kernel, Or.inl ⟨rfl, q1362⟩⟩
theorem mok_X3_rule : MOk mX3_rule := ⟨rfl, by decide, by decide +kernel, Or.inl ⟨rfl, q1366⟩⟩
theorem mok_X3_ruleClause : MOk mX3_ruleClause := ⟨rfl, by decide, by decide +kernel, Or.inl ⟨rfl, q1370⟩⟩
theorem mok_X3_sum : MOk mX3_sum := ⟨rfl, by decide, by decide +kernel, Or.inl ⟨rfl, q1375⟩⟩
theorem mok_X3_term : MOk mX3_term := ⟨rfl, by decide, by decide +kernel, Or.inl ⟨rfl, q1379⟩⟩
theorem mok_X3_value : MOk mX3_value := ⟨rfl, by decide, by decide +kernel, Or.inl ⟨rfl, q1383⟩⟩
theorem mok_X3_isCounted : MOk mX3_isCounted := ⟨rfl, by decide, by decide +kernel, Or.inl ⟨rfl, q1387⟩⟩
theorem mok_X3_entry : MOk mX3_entry := ⟨rfl, by decide, by decide +kernel, Or.inl ⟨rfl, q1391⟩⟩
theorem mok_X3_wordOf : MOk mX3_wordOf := ⟨rfl, by decide, by decide +kernel, Or.inl ⟨rfl, q1394⟩⟩
theorem mok_X3_takes : MOk mX3_takes := ⟨rfl, by decide, by decide +kernel, Or.inl ⟨rfl, q1409⟩⟩
theorem mok_X3_test : MOk mX3_test := ⟨rfl, by decide, by decide +kernel, Or.inl ⟨rfl, q1413⟩⟩
theorem mok_X3_fact : MOk mX3_fact := ⟨rfl, by decide, by decide +kernel, Or.inl ⟨rfl, q1417⟩⟩
theorem mok_X3_opens : MOk mX3_opens := ⟨rfl, by decide, by decide +kernel, Or.inl ⟨rfl, q1422⟩⟩
theorem mok_X3_compared : MOk mX3_compared := ⟨rfl, by decide, by decide +kernel, Or.inl ⟨rfl, q1426⟩⟩
theorem mok_X3_answers : MOk mX3_answers := ⟨rfl, by decide, by decide +kernel, Or.inl ⟨rfl, q1430⟩⟩
theorem mok_X3_top : MOk mX3_top := ⟨rfl, by decide, by decide +kernel, Or.inl ⟨rfl, q1434⟩⟩
theorem mok_X3_force : MOk mX3_force := ⟨rfl, by decide, by decide +kernel, Or.inl ⟨rfl, q1440⟩⟩
theorem mok_X3_pen : MOk mX3_pen := ⟨rfl, by decide, by decide +kernel, Or.inl ⟨rfl, q1445⟩⟩
theorem mok_X3_isPen : MOk mX3_isPen := ⟨rfl, by decide, by decide +kernel, Or.inl ⟨rfl, q1449⟩⟩
theorem mok_X3_strokesOf : MOk mX3_strokesOf := ⟨rfl, by decide, by decide +kernel, Or.inl ⟨rfl, q1453⟩⟩
theorem mok_X3_cells : MOk mX3_cells := ⟨rfl, by decide, by decide +kernel, Or.inl ⟨rfl, q1457⟩⟩
theorem mok_X3_cell : MOk mX3_cell := ⟨rfl, by decide, by decide +kernel, Or.inl ⟨rfl, q1461⟩⟩
theorem mok_X3_isCell : MOk mX3_isCell := ⟨rfl, by decide, by decide +kernel, Or.inl ⟨rfl, q1465⟩⟩
theorem mok_X3_undo : MOk mX3_undo := ⟨rfl, by decide, by decide +kernel, Or.inl ⟨rfl, q1470⟩⟩
theorem mok_X3_movesAll : MOk mX3_movesAll := ⟨rfl, by decide, by decide +kernel, Or.inl ⟨rfl, q1474⟩⟩
theorem mok_X3_moves : MOk mX3_moves := ⟨rfl, by decide, by decide +kernel, Or.inl ⟨rfl, q1478⟩⟩
theorem mok_X3_movesRow : MOk mX3_movesRow := ⟨rfl, by decide, by decide +kernel, Or.inl ⟨rfl, q1482⟩⟩
theorem mok_X3_day : MOk mX3_day := ⟨rfl, by decide, by decide +kernel, Or.inl ⟨rfl, q1486⟩⟩
theorem mok_X3_isSky : MOk mX3_isSky := ⟨rfl, by decide, by decide +kernel, Or.inl ⟨rfl, q1490⟩⟩
theorem mok_X3_keepsAct : MOk mX3_keepsAct := ⟨rfl, by decide, by decide +kernel, Or.inl ⟨rfl, q1494⟩⟩
theorem mok_X3_goes : MOk mX3_goes := ⟨rfl, by decide, by decide +kernel, Or.inl ⟨rfl, q1498⟩⟩
theorem mok_X3_writes : MOk mX3_writes := ⟨rfl, by decide, by decide +kernel, Or.inl ⟨rfl, q1502⟩⟩
theorem mok_X3_has : MOk mX3_has := ⟨rfl, by decide, by decide +kernel, Or.inl ⟨rfl, q1505⟩⟩
theorem mok_X3_wayOf : MOk mX3_wayOf := ⟨rfl, by decide, by decide +kernel, Or.inl ⟨rfl, q1509⟩⟩
theorem mok_X3_forceOf : MOk mX3_forceOf := ⟨rfl, by decide, by decide +kernel, Or.inl ⟨rfl, q1513⟩⟩
theorem mok_X3_wanted : MOk mX3_wanted := ⟨rfl, by decide, by decide +kernel, Or.inl ⟨rfl, q1517⟩⟩
theorem mok_X3_answer : MOk mX3_answer := ⟨rfl, by decide, by decide +kernel, Or.inl ⟨rfl, q1521⟩⟩
theorem mok_X3_both : MOk mX3_both := ⟨rfl, by decide, by decide +kernel, Or.inl ⟨rfl, q1524⟩⟩
theorem mok_X3_truth : MOk mX3_truth := ⟨rfl, by decide, by decide +kernel, Or.inl ⟨rfl, q1527⟩⟩
theorem mok_X3_drifts : MOk mX3_drifts := ⟨rfl, by decide, by decide +kernel, Or.inl ⟨rfl, q1531⟩⟩
theorem mok_X3_beside : MOk mX3_beside := ⟨rfl, by decide, by decide +kernel, Or.inl ⟨rfl, q1535⟩⟩
theorem mok_X3_strikes : MOk mX3_strikes := ⟨rfl, by decide, by decide +kernel, Or.inl ⟨rfl, q1539⟩⟩
theorem mok_X3_lays : MOk mX3_lays := ⟨rfl, by decide, by decide +kernel, Or.inl ⟨rfl, q1543⟩⟩
theorem mok_X3_fades : MOk mX3_fades := ⟨rfl, by decide, by decide +kernel, Or.inl ⟨rfl, q1547⟩⟩
theorem mok_X3_stay : MOk mX3_stay := ⟨rfl, by decide, by decide +kernel, Or.inl ⟨rfl, q1551⟩⟩
theorem mok_X3_set : MOk mX3_set := ⟨rfl, by decide, by decide +kernel, Or.inl ⟨rfl, q1555⟩⟩
theorem mok_X3_bend : MOk mX3_bend := ⟨rfl, by decide, by decide +kernel, Or.inl ⟨rfl, q1559⟩⟩
theorem mok_X3_blot : MOk mX3_blot := ⟨rfl, by decide, by decide +kernel, Or.inl ⟨rfl, q1564⟩⟩
theorem mok_X3_ahead : MOk mX3_ahead := ⟨rfl, by decide, by decide +kernel, Or.inl ⟨rfl, q1568⟩⟩
theorem mok_X3_keepsAll : MOk mX3_keepsAll := ⟨rfl, by decide, by decide +kernel, Or.inl ⟨rfl, q1574⟩⟩
theorem mok_X3_carriesAll : MOk mX3_carriesAll := ⟨rfl, by decide, by decide +kernel, Or.inl ⟨rfl, q1578⟩⟩
theorem mok_X3_carryRow : MOk mX3_carryRow := ⟨rfl, by decide, by decide +kernel, Or.inl ⟨rfl, q1582⟩⟩
theorem mok_X3_goFor : MOk mX3_goFor := ⟨rfl, by decide, by decide +kernel, Or.inl ⟨rfl, q1586⟩⟩
theorem mok_X3_allStrokes : MOk mX3_allStrokes := ⟨rfl, by decide, by decide +kernel, Or.inl ⟨rfl, q1590⟩⟩
theorem mok_X3_like : MOk mX3_like := ⟨rfl, by decide, by decide +kernel, Or.inl ⟨rfl, q1594⟩⟩
theorem mok_X3_laysBack : MOk mX3_laysBack := ⟨rfl, by decide, by decide +kernel, Or.inl ⟨rfl, q1598⟩⟩
theorem mok_X3_sign : MOk mX3_sign := ⟨rfl, by decide, by decide +kernel, Or.inl ⟨rfl, q1602⟩⟩
theorem mok_X3_signedAt : MOk mX3_signedAt := ⟨rfl, by decide, by decide +kernel, Or.inl ⟨rfl, q1606⟩⟩
theorem mok_X3_isSigned : MOk mX3_isSigned := ⟨rfl, by decide, by decide +kernel, Or.inl ⟨rfl, q1610⟩⟩
theorem mok_X3_clean : MOk mX3_clean := ⟨rfl, by decide, by decide +kernel, Or.inl ⟨rfl, q1614⟩⟩
theorem mok_X3_hold : MOk mX3_hold := ⟨rfl, by decide, by decide +kernel, Or.inl ⟨rfl, q1618⟩⟩
theorem mok_X3_likeIn : MOk mX3_likeIn := ⟨rfl, by decide, by decide +kernel, Or.inl ⟨rfl, q1623⟩⟩
theorem mok_X3_bits : MOk mX3_bits := ⟨rfl, by decide, by decide +kernel, Or.inl ⟨rfl, q1626⟩⟩
theorem mok_X3_wrote : MOk mX3_wrote := ⟨rfl, by decide, by decide +kernel, Or.inl ⟨rfl, q1630⟩⟩
theorem mok_X3_leaves : MOk mX3_leaves := ⟨rfl, by decide, by decide +kernel, Or.inl ⟨rfl, q1634⟩⟩
theorem mok_X3_came : MOk mX3_came := ⟨rfl, by decide, by decide +kernel, Or.inl ⟨rfl, q1638⟩⟩
theorem mok_X3_change : MOk mX3_change := ⟨rfl, by decide, by decide +kernel, Or.inl ⟨rfl, q1642⟩⟩
theorem mok_X3_swaps : MOk mX3_swaps := ⟨rfl, by decide, by decide +kernel, Or.inl ⟨rfl, q1646⟩⟩
theorem mok_X3_game : MOk mX3_game := ⟨rfl, by decide, by decide +kernel, Or.inl ⟨rfl, q1650⟩⟩
theorem mok_X3_playOf : MOk mX3_playOf := ⟨rfl, by decide, by decide +kernel, Or.inl ⟨rfl, q1655⟩⟩
theorem mok_X3_bestAt : MOk mX3_bestAt := ⟨rfl, by decide, by decide +kernel, Or.inl ⟨rfl, q1660⟩⟩
theorem mok_X3_rests : MOk mX3_rests := ⟨rfl, by decide, by decide +kernel, Or.inl ⟨rfl, q1664⟩⟩
theorem mok_X3_laysStiffs : MOk mX3_laysStiffs := ⟨rfl, by decide, by decide +kernel, Or.inl ⟨rfl, q1669⟩⟩
theorem mok_X3_isRest : MOk mX3_isRest := ⟨rfl, by decide, by decide +kernel, Or.inl ⟨rfl, q1673⟩⟩
theorem mok_X3_pence : MOk mX3_pence := ⟨rfl, by decide, by decide +kernel, Or.inl ⟨rfl, q1677⟩⟩
theorem mok_X3_read : MOk mX3_read := ⟨rfl, by decide, by decide +kernel, Or.inl ⟨rfl, q1682⟩⟩
theorem mok_X3_parting : MOk mX3_parting := ⟨rfl, by decide, by decide +kernel, Or.inl ⟨rfl, q1686⟩⟩
theorem mok_X3_mostAlike : MOk mX3_mostAlike := ⟨rfl, by decide, by decide +kernel, Or.inl ⟨rfl, q1690⟩⟩
theorem mok_X3_note : MOk mX3_note := ⟨rfl, by decide, by decide +kernel, Or.inl ⟨rfl, q1694⟩⟩
theorem mok_X3_ruled : MOk mX3_ruled := ⟨rfl, by decide, by decide +kernel, Or.inl ⟨rfl, q1698⟩⟩
theorem mok_X3_couldRule : MOk mX3_couldRule := ⟨rfl, by decide, by decide +kernel, Or.inl ⟨rfl, q1702⟩⟩
theorem mok_X3_look : MOk mX3_look := ⟨rfl, by decide, by decide +kernel, Or.inl ⟨rfl, q1706⟩⟩
theorem mok_X3_seed : MOk mX3_seed := ⟨rfl, by decide, by decide +kernel, Or.inl ⟨rfl, q1710⟩⟩
theorem mok_X3_rains : MOk mX3_rains := ⟨rfl, by decide, by decide +kernel, Or.inl ⟨rfl, q1714⟩⟩
theorem mok_X3_draws : MOk mX3_draws := ⟨rfl, by decide, by decide +kernel, Or.inl ⟨rfl, q1719⟩⟩
theorem mok_X3_count : MOk mX3_count := ⟨rfl, by decide, by decide +kernel, Or.inl ⟨rfl, q1727⟩⟩
theorem mok_X3_image : MOk mX3_image := ⟨rfl, by decide, by decide +kernel, Or.inl ⟨rfl, q1731⟩⟩
theorem mok_X3_back : MOk mX3_back := ⟨rfl, by decide, by decide +kernel, Or.inl ⟨rfl, q1735⟩⟩
theorem mok_X4_init : MOk mX4_init := ⟨rfl, by decide, by decide +kernel, Or.inl ⟨rfl, q442⟩⟩
theorem mok_X4_skyTold : MOk mX4_skyTold := ⟨rfl, by decide, by decide +kernel, Or.inl ⟨rfl, q469⟩⟩
theorem mok_X4_see : MOk mX4_see := ⟨rfl, by decide, by decide +kernel, Or.inl ⟨rfl, q484⟩⟩
theorem mok_X4_oneOf : MOk mX4_oneOf := ⟨rfl, by decide, by decide +kernel, Or.inl ⟨rfl, q488⟩⟩
theorem mok_X4_isWord : MOk mX4_isWord := ⟨rfl, by decide, by decide +kernel, Or.inl ⟨rfl, q492⟩⟩
theorem mok_X4_letters : MOk mX4_letters := ⟨rfl, by decide, by decide +kernel, Or.inl ⟨rfl, q496⟩⟩
theorem mok_X4_demand : MOk mX4_demand := ⟨rfl, by decide, by decide +kernel, Or.inl ⟨rfl, q548⟩⟩
theorem mok_X4_canBe : MOk mX4_canBe := ⟨rfl, by decide, by decide +kernel, Or.inl ⟨rfl, q552⟩⟩
theorem mok_X4_line : MOk mX4_line := ⟨rfl, by decide, by decide +kernel, Or.inl ⟨rfl, q556⟩⟩
theorem mok_X4_skyHere : MOk mX4_skyHere := ⟨rfl, by decide, by decide +kernel, Or.inl ⟨rfl, q560⟩⟩
theorem mok_X4_number : MOk mX4_number := ⟨rfl, by decide, by decide +kernel, Or.inl ⟨rfl, q564⟩⟩
theorem mok_X4_isDigit : MOk mX4_isDigit := ⟨rfl, by decide, by decide +kernel, Or.inl ⟨rfl, q568⟩⟩
theorem mok_X4_penHere : MOk mX4_penHere := ⟨rfl, by decide, by decide +kernel, Or.inl ⟨rfl, q575⟩⟩
theorem mok_X4_cellNumber : MOk mX4_cellNumber := ⟨rfl, by decide, by decide +kernel, Or.inl ⟨rfl, q579⟩⟩
theorem mok_X4_windHere : MOk mX4_windHere := ⟨rfl, by decide, by decide +kernel, Or.inl ⟨rfl, q587⟩⟩
theorem mok_X4_takesSign : MOk mX4_takesSign := ⟨rfl, by decide, by decide +kernel, Or.inl ⟨rfl, q591⟩⟩
theorem mok_X4_ends : MOk mX4_ends := ⟨rfl, by decide, by decide +kernel, Or.inl ⟨rfl, q595⟩⟩
theorem mok_X4_ruleTold : MOk mX4_ruleTold := ⟨rfl, by decide, by decide +kernel, Or.inl ⟨rfl, q616⟩⟩
theorem mok_X4_clauseHere : MOk mX4_clauseHere := ⟨rfl, by decide, by decide +kernel, Or.inl ⟨rfl, q637⟩⟩
theorem mok_X4_sum : MOk mX4_sum := ⟨rfl, by decide, by decide +kernel, Or.inl ⟨rfl, q656⟩⟩
theorem mok_X4_term : MOk mX4_term := ⟨rfl, by decide, by decide +kernel, Or.inl ⟨rfl, q660⟩⟩
theorem mok_X4_value : MOk mX4_value := ⟨rfl, by decide, by decide +kernel, Or.inl ⟨rfl, q664⟩⟩
theorem mok_X4_makes : MOk mX4_makes := ⟨rfl, by decide, by decide +kernel, Or.inl ⟨rfl, q669⟩⟩
theorem mok_X4_takesWord : MOk mX4_takesWord := ⟨rfl, by decide, by decide +kernel, Or.inl ⟨rfl, q713⟩⟩
theorem mok_X4_tested : MOk mX4_tested := ⟨rfl, by decide, by decide +kernel, Or.inl ⟨rfl, q717⟩⟩
theorem mok_X4_parted : MOk mX4_parted := ⟨rfl, by decide, by decide +kernel, Or.inl ⟨rfl, q721⟩⟩
theorem mok_X4_fact : MOk mX4_fact := ⟨rfl, by decide, by decide +kernel, Or.inl ⟨rfl, q725⟩⟩
theorem mok_X4_opens : MOk mX4_opens := ⟨rfl, by decide, by decide +kernel, Or.inl ⟨rfl, q730⟩⟩
theorem mok_X4_sign : MOk mX4_sign := ⟨rfl, by decide, by decide +kernel, Or.inl ⟨rfl, q747⟩⟩
theorem mok_X5_init : MOk mX5_init := ⟨rfl, by decide, by decide +kernel, Or.inl ⟨rfl, q621⟩⟩
theorem mok_X5_summed : MOk mX5_summed := ⟨rfl, by decide, by decide +kernel, Or.inl ⟨rfl, q858⟩⟩
theorem mok_X6_init : MOk mX6_init := ⟨rfl, by decide, by decide +kernel, Or.inl ⟨rfl, q642⟩⟩
theorem mok_X6_fits : MOk mX6_fits := ⟨rfl, by decide, by decide +kernel, Or.inl ⟨rfl, q862⟩⟩
theorem mok_X7_init : MOk mX7_init := ⟨rfl, by decide, by decide +kernel, Or.inl ⟨rfl, q677⟩⟩
theorem mok_X8_init : MOk mX8_init := ⟨rfl, by decide, by decide +kernel, Or.inl ⟨rfl, q674⟩⟩
theorem mok_X8_of : MOk mX8_of := ⟨rfl, by decide, by decide +kernel, Or.inl ⟨rfl, q877⟩⟩
theorem mok_X9_init : MOk mX9_init := ⟨rfl, by decide, by decide +kernel, Or.inl ⟨rfl, q687⟩⟩
theorem mok_X9_of : MOk mX9_of := ⟨rfl, by decide, by decide +kernel, Or.inl ⟨rfl, q883⟩⟩
/-- the name is an ordinary one, the arguments are n -/
abbrev NOk (y : MethodName) (n : Nat) : Prop := (y.cls ≠ "java/lang/invoke/MethodHandle" ∧ y.cls ≠ "java/lang/invoke/VarHandle" ∧ (parseMethodDescriptor y.desc).map (fun d => d.parameters.length) = some n)
def LOk (own : String) (idx : Nat) (y : MethodName) : Prop := Cond.methodLink own idx y ∈ lw_all ∨ ∃ host, (own, idx, y, host) ∈ nwM
/-- what a call stands on: by its kind -/
def GOk (own : String) (idx : Nat) (e : Tg) : Prop := match e.1 with
  | 0 => ∃ M : MR, e.2.2 = [(0, M)] ∧ MOk M ∧ M.hh = [] ∧ NOk M.y e.2.1 ∧ LOk own idx M.y ∧ Cond.static M.y ∈ lw_all ∧ Cond.initialized M.y.cls ∈ lw_all
  | 1 => ∃ M : MR, e.2.2 = [(0, M)] ∧ MOk M ∧ M.hh = [] ∧ M.ret = none ∧ M.y.name = "<init>" ∧ NOk M.y e.2.1 ∧ LOk own idx M.y ∧ Cond.instanceMethod M.y ∈ lw_all ∧ Cond.initialized M.y.cls ∈ lw_all
  | 2 => (∃ (ci : Nat) (M : MR) (C : String) (T : u_T), e.2.2 = [(ci, M)] ∧ ci < 14 ∧ clX[ci]? = some (C, T, fno ci) ∧ M.y.cls = C ∧ MOk M ∧ NOk M.y e.2.1 ∧ (LOk own idx M.y ∧ (M.hh ≠ [] → Cond.methodLink own idx M.y ∈ lw_all)) ∧ Cond.instanceMethod M.y ∈ lw_all ∧ Cond.selects C M.y M.y ∈ lw_all ∧ Cond.initialized C ∈ lw_all) ∨
    (∃ x : MethodName, Cond.methodLink own idx x ∈ lw_all ∧ Cond.sameMethod x.cls x.cls x.name x.desc ∈ lw_all ∧ (x = ⟨"SkySpire$Value", "of", "([J)J"⟩ ∨ x = ⟨"SkySpire$Test", "is", "([J)Z"⟩) ∧ NOk x e.2.1 ∧ ∀ p ∈ e.2.2, ∃ (C : String) (T : u_T), p.1 < 14 ∧ clX[p.1]? = some (C, T, fno p.1) ∧ MOk p.2 ∧ p.2.hh = [] ∧ Cond.selects C x p.2.y ∈ lw_all ∧ Cond.instanceMethod p.2.y ∈ lw_all ∧ Cond.initialized p.2.y.cls ∈ lw_all)
  | 3 => Cond.methodLink own idx Lib.objectInit ∈ lw_all
  | 4 => Cond.methodLink own idx arraycopyName ∈ lw_all
  | 6 => Cond.methodLink own idx Lib.Math.max.name ∈ lw_all
  | 5 => ∃ M : MR, e.2.2 = [(0, M)] ∧ MOk M ∧ M.hh = [] ∧ M.y.cls = "java/lang/String" ∧ NOk M.y e.2.1 ∧ Cond.methodLink own idx M.y ∈ lw_all ∧ Cond.instanceMethod M.y ∈ lw_all ∧ Cond.selects "java/lang/String" M.y M.y ∈ lw_all ∧ Cond.initialized "java/lang/String" ∈ lw_all
  | _ => False
theorem gok_X0_1 : GOk (cnm 0) 1 (3, 0, []) := q147
theorem gok_X0_9 : GOk (cnm 0) 9 (1, 0, [(0, mX1_init)]) := ⟨_, rfl, mok_X1_init, rfl, rfl, rfl, (by decide +kernel), Or.inr ⟨_, List.mem_of_getElem? (i := 0) rfl⟩, q153, q117⟩
theorem gok_X0_35 : GOk (cnm 0) 35 (1, 0, [(0, mX2_init)]) := ⟨_, rfl, mok_X2_init, rfl, rfl, rfl, (by decide +kernel), Or.inl q288, q289, q121⟩
theorem gok_X0_115 : GOk (cnm 0) 115 (2, 1, [(0, mX0_four)]) := Or.inl ⟨_, _, RX0, TX0, rfl, by decide, rfl, rfl, mok_X0_four, (by decide +kernel), ⟨Or.inl q426, (fun z => absurd rfl z)⟩, q428, qs1, q116⟩
theorem gok_X0_127 : GOk (cnm 0) 127 (1, 1, [(0, mX4_init)]) := ⟨_, rfl, mok_X4_init, rfl, rfl, rfl, (by decide +kernel), Or.inr ⟨_, List.mem_of_getElem? (i := 1) rfl⟩, q441, q123⟩
theorem gok_X0_130 : GOk (cnm 0) 130 (2, 0, [(4, mX4_skyTold)]) := Or.inl ⟨_, _, RX4, TX4, rfl, by decide, rfl, rfl, mok_X4_skyTold, (by decide +kernel), ⟨Or.inl q466, (fun z => absurd rfl z)⟩, q467, q468, q123⟩
theorem gok_X0_134 : GOk (cnm 0) 134 (2, 1, [(1, mX1_copies)]) := Or.inl ⟨_, _, RX1, TX1, rfl, by decide, rfl, rfl, mok_X1_copies, (by decide +kernel), ⟨Or.inl q604, (fun z => absurd rfl z)⟩, q471, q472, q117⟩
theorem gok_X0_143 : GOk (cnm 0) 143 (2, 0, [(0, mX0_faulted)]) := Or.inl ⟨_, _, RX0, TX0, rfl, by decide, rfl, rfl, mok_X0_faulted, (by decide +kernel), ⟨Or.inl q605, (fun z => absurd rfl z)⟩, q607, qs17, q116⟩
theorem gok_X0_150 : GOk (cnm 0) 150 (2, 0, [(4, mX4_ruleTold)]) := Or.inl ⟨_, _, RX4, TX4, rfl, by decide, rfl, rfl, mok_X4_ruleTold, (by decide +kernel), ⟨Or.inl q613, (fun z => absurd rfl z)⟩, q614, q615, q123⟩
theorem gok_X0_157 : GOk (cnm 0) 157 (2, 1, [(0, mX0_isPen)]) := Or.inl ⟨_, _, RX0, TX0, rfl, by decide, rfl, rfl, mok_X0_isPen, (by decide +kernel), ⟨Or.inl q790, (fun z => absurd rfl z)⟩, q792, qs29, q116⟩
theorem gok_X0_169 : GOk (cnm 0) 169 (2, 1, [(1, mX1_strokesOf)]) := Or.inl ⟨_, _, RX1, TX1, rfl, by decide, rfl, rfl, mok_X1_strokesOf, (by decide +kernel), ⟨Or.inl q794, (fun z => absurd rfl z)⟩, q795, q796, q117⟩
theorem gok_X0_173 : GOk (cnm 0) 173 (2, 1, [(0, mX0_isCell)]) := Or.inl ⟨_, _, RX0, TX0, rfl, by decide, rfl, rfl, mok_X0_isCell, (by decide +kernel), ⟨Or.inl q803, (fun z => absurd rfl z)⟩, q805, qs30, q116⟩
theorem gok_X0_154 : GOk (cnm 0) 154 (2, 0, [(1, mX1_cells)]) := Or.inl ⟨_, _, RX1, TX1, rfl, by decide, rfl, rfl, mok_X1_cells, (by decide +kernel), ⟨Or.inl q807, (fun z => absurd rfl z)⟩, q581, q582, q117⟩
theorem gok_X0_178 : GOk (cnm 0) 178 (0, 3, [(0, mX0_in)]) := ⟨_, rfl, mok_X0_in, rfl, (by decide +kernel), Or.inl q809, q570, q116⟩
theorem gok_X0_205 : GOk (cnm 0) 205 (2, 1, [(1, mX1_takes)]) := Or.inl ⟨_, _, RX1, TX1, rfl, by decide, rfl, rfl, mok_X1_takes, (by decide +kernel), ⟨Or.inl q814, (fun z => absurd rfl z)⟩, q815, q816, q117⟩
theorem gok_X0_211 : GOk (cnm 0) 211 (2, 0, [(0, mX0_keepsAct)]) := Or.inl ⟨_, _, RX0, TX0, rfl, by decide, rfl, rfl, mok_X0_keepsAct, (by decide +kernel), ⟨Or.inl q822, (fun z => absurd rfl z)⟩, q824, qs31, q116⟩
theorem gok_X0_196 : GOk (cnm 0) 196 (4, 5, []) := q826
theorem gok_X0_202 : GOk (cnm 0) 202 (2, 1, [(1, mX1_lays)]) := Or.inl ⟨_, _, RX1, TX1, rfl, by decide, rfl, rfl, mok_X1_lays, (by decide +kernel), ⟨Or.inl q827, (fun z => absurd rfl z)⟩, q828, q829, q117⟩
theorem gok_X0_214 : GOk (cnm 0) 214 (2, 0, [(0, mX0_law)]) := Or.inl ⟨_, _, RX0, TX0, rfl, by decide, rfl, rfl, mok_X0_law, (by decide +kernel), ⟨Or.inl q831, (fun z => absurd rfl z)⟩, q833, qs32, q116⟩
theorem gok_X0_217 : GOk (cnm 0) 217 (2, 1, [(1, mX1_passes)]) := Or.inl ⟨_, _, RX1, TX1, rfl, by decide, rfl, rfl, mok_X1_passes, (by decide +kernel), ⟨Or.inl q835, (fun z => absurd rfl z)⟩, q836, q837, q117⟩
theorem gok_X0_223 : GOk (cnm 0) 223 (2, 1, [(1, mX1_blots)]) := Or.inl ⟨_, _, RX1, TX1, rfl, by decide, rfl, rfl, mok_X1_blots, (by decide +kernel), ⟨Or.inl q924, (fun z => absurd rfl z)⟩, q601, q602, q117⟩
theorem gok_X0_230 : GOk (cnm 0) 230 (2, 2, [(1, mX1_goesOn)]) := Or.inl ⟨_, _, RX1, TX1, rfl, by decide, rfl, rfl, mok_X1_goesOn, (by decide +kernel), ⟨Or.inl q931, (fun z => absurd rfl z)⟩, q932, q933, q117⟩
theorem gok_X0_234 : GOk (cnm 0) 234 (2, 0, [(1, mX1_strokes)]) := Or.inl ⟨_, _, RX1, TX1, rfl, by decide, rfl, rfl, mok_X1_strokes, (by decide +kernel), ⟨Or.inl q936, (fun z => absurd rfl z)⟩, q937, q938, q117⟩
theorem gok_X0_237 : GOk (cnm 0) 237 (2, 0, [(1, mX1_like)]) := Or.inl ⟨_, _, RX1, TX1, rfl, by decide, rfl, rfl, mok_X1_like, (by decide +kernel), ⟨Or.inl q940, (fun z => absurd rfl z)⟩, q941, q942, q117⟩
theorem gok_X0_240 : GOk (cnm 0) 240 (2, 0, [(1, mX1_isSigned)]) := Or.inl ⟨_, _, RX1, TX1, rfl, by decide, rfl, rfl, mok_X1_isSigned, (by decide +kernel), ⟨Or.inl q948, (fun z => absurd rfl z)⟩, q949, q950, q117⟩
theorem gok_X0_246 : GOk (cnm 0) 246 (2, 1, [(1, mX1_standsAs)]) := Or.inl ⟨_, _, RX1, TX1, rfl, by decide, rfl, rfl, mok_X1_standsAs, (by decide +kernel), ⟨Or.inl q961, (fun z => absurd rfl z)⟩, q478, q479, q117⟩
theorem gok_X0_249 : GOk (cnm 0) 249 (0, 1, [(0, mJ7_bitCount)]) := ⟨_, rfl, mok_J7_bitCount, rfl, (by decide +kernel), Or.inl q962, q963, q139⟩
theorem gok_X0_258 : GOk (cnm 0) 258 (2, 3, [(0, mX0_writesAlone)]) := Or.inl ⟨_, _, RX0, TX0, rfl, by decide, rfl, rfl, mok_X0_writesAlone, (by decide +kernel), ⟨Or.inl q972, (fun z => absurd rfl z)⟩, q974, qs38, q116⟩
theorem gok_X0_254 : GOk (cnm 0) 254 (0, 2, [(0, mX0_has)]) := ⟨_, rfl, mok_X0_has, rfl, (by decide +kernel), Or.inl q976, q844, q116⟩
theorem gok_X0_265 : GOk (cnm 0) 265 (2, 2, [(1, mX1_swapsWinds)]) := Or.inl ⟨_, _, RX1, TX1, rfl, by decide, rfl, rfl, mok_X1_swapsWinds, (by decide +kernel), ⟨Or.inl q985, (fun z => absurd rfl z)⟩, q986, q987, q117⟩
theorem gok_X0_276 : GOk (cnm 0) 276 (2, 4, [(0, mX0_plays)]) := Or.inl ⟨_, _, RX0, TX0, rfl, by decide, rfl, rfl, mok_X0_plays, (by decide +kernel), ⟨Or.inl q994, (fun z => absurd rfl z)⟩, q996, qs39, q116⟩
theorem gok_X0_269 : GOk (cnm 0) 269 (2, 2, [(1, mX1_beside)]) := Or.inl ⟨_, _, RX1, TX1, rfl, by decide, rfl, rfl, mok_X1_beside, (by decide +kernel), ⟨Or.inl q998, (fun z => absurd rfl z)⟩, q896, q897, q117⟩
theorem gok_X0_273 : GOk (cnm 0) 273 (2, 2, [(1, mX1_draws)]) := Or.inl ⟨_, _, RX1, TX1, rfl, by decide, rfl, rfl, mok_X1_draws, (by decide +kernel), ⟨Or.inl q999, (fun z => absurd rfl z)⟩, q904, q905, q117⟩
theorem gok_X0_287 : GOk (cnm 0) 287 (2, 2, [(0, mX0_isRest)]) := Or.inl ⟨_, _, RX0, TX0, rfl, by decide, rfl, rfl, mok_X0_isRest, (by decide +kernel), ⟨Or.inl q1005, (fun z => absurd rfl z)⟩, q1007, qs40, q116⟩
theorem gok_X0_300 : GOk (cnm 0) 300 (2, 1, [(0, mX0_ruleOf)]) := Or.inl ⟨_, _, RX0, TX0, rfl, by decide, rfl, rfl, mok_X0_ruleOf, (by decide +kernel), ⟨Or.inl q1018, (fun z => absurd rfl z)⟩, q1020, qs41, q116⟩
theorem gok_X0_304 : GOk (cnm 0) 304 (2, 1, [(0, mX0_parts)]) := Or.inl ⟨_, _, RX0, TX0, rfl, by decide, rfl, rfl, mok_X0_parts, (by decide +kernel), ⟨Or.inl q1022, (fun z => absurd rfl z)⟩, q1024, qs42, q116⟩
theorem gok_X0_297 : GOk (cnm 0) 297 (2, 1, [(0, mX0_alikeOf)]) := Or.inl ⟨_, _, RX0, TX0, rfl, by decide, rfl, rfl, mok_X0_alikeOf, (by decide +kernel), ⟨Or.inl q1026, (fun z => absurd rfl z)⟩, q1028, qs43, q116⟩
theorem gok_X0_292 : GOk (cnm 0) 292 (6, 2, []) := q1030
theorem gok_X0_319 : GOk (cnm 0) 319 (2, 1, [(0, mX0_gathersRules)]) := Or.inl ⟨_, _, RX0, TX0, rfl, by decide, rfl, rfl, mok_X0_gathersRules, (by decide +kernel), ⟨Or.inl q1041, (fun z => absurd rfl z)⟩, q1043, qs44, q116⟩
theorem gok_X0_313 : GOk (cnm 0) 313 (2, 0, [(1, mX1_begins)]) := Or.inl ⟨_, _, RX1, TX1, rfl, by decide, rfl, rfl, mok_X1_begins, (by decide +kernel), ⟨Or.inl q1045, (fun z => absurd rfl z)⟩, q597, q598, q117⟩
theorem gok_X0_316 : GOk (cnm 0) 316 (2, 1, [(0, mX0_areNotesSo)]) := Or.inl ⟨_, _, RX0, TX0, rfl, by decide, rfl, rfl, mok_X0_areNotesSo, (by decide +kernel), ⟨Or.inl q1046, (fun z => absurd rfl z)⟩, q1048, qs45, q116⟩
theorem gok_X0_337 : GOk (cnm 0) 337 (2, 1, [(0, mX0_draw)]) := Or.inl ⟨_, _, RX0, TX0, rfl, by decide, rfl, rfl, mok_X0_draw, (by decide +kernel), ⟨Or.inl q1063, (fun z => absurd rfl z)⟩, q1065, qs46, q116⟩
theorem gok_X0_351 : GOk (cnm 0) 351 (1, 0, [(0, mX15_init)]) := ⟨_, rfl, mok_X15_init, rfl, rfl, rfl, (by decide +kernel), Or.inr ⟨_, List.mem_of_getElem? (i := 2) rfl⟩, q1082, q141⟩
theorem gok_X0 : ∀ p ∈ mt_X0, GOk (cnm 0) p.1 p.2 := List.forall_mem_cons.mpr ⟨gok_X0_1, List.forall_mem_cons.mpr ⟨gok_X0_9, List.forall_mem_cons.mpr ⟨gok_X0_35, List.forall_mem_cons.mpr ⟨gok_X0_115, List.forall_mem_cons.mpr ⟨gok_X0_127, List.forall_mem_cons.mpr ⟨gok_X0_130, List.forall_mem_cons.mpr ⟨gok_X0_134, List.forall_mem_cons.mpr ⟨gok_X0_143, List.forall_mem_cons.mpr ⟨gok_X0_150, List.forall_mem_cons.mpr ⟨gok_X0_157, List.forall_mem_cons.mpr ⟨gok_X0_169, List.forall_mem_cons.mpr ⟨gok_X0_173, List.forall_mem_cons.mpr ⟨gok_X0_154, List.forall_mem_cons.mpr ⟨gok_X0_178, List.forall_mem_cons.mpr ⟨gok_X0_205, List.forall_mem_cons.mpr ⟨gok_X0_211, List.forall_mem_cons.mpr ⟨gok_X0_196, List.forall_mem_cons.mpr ⟨gok_X0_202, List.forall_mem_cons.mpr ⟨gok_X0_214, List.forall_mem_cons.mpr ⟨gok_X0_217, List.forall_mem_cons.mpr ⟨gok_X0_223, List.forall_mem_cons.mpr ⟨gok_X0_230, List.forall_mem_cons.mpr ⟨gok_X0_234, List.forall_mem_cons.mpr ⟨gok_X0_237, List.forall_mem_cons.mpr ⟨gok_X0_240, List.forall_mem_cons.mpr ⟨gok_X0_246, List.forall_mem_cons.mpr ⟨gok_X0_249, List.forall_mem_cons.mpr ⟨gok_X0_258, List.forall_mem_cons.mpr ⟨gok_X0_254, List.forall_mem_cons.mpr ⟨gok_X0_265, List.forall_mem_cons.mpr ⟨gok_X0_276, List.forall_mem_cons.mpr ⟨gok_X0_269, List.forall_mem_cons.mpr ⟨gok_X0_273, List.forall_mem_cons.mpr ⟨gok_X0_287, List.forall_mem_cons.mpr ⟨gok_X0_300, List.forall_mem_cons.mpr ⟨gok_X0_304, List.forall_mem_cons.mpr ⟨gok_X0_297, List.forall_mem_cons.mpr ⟨gok_X0_292, List.forall_mem_cons.mpr ⟨gok_X0_319, List.forall_mem_cons.mpr ⟨gok_X0_313, List.forall_mem_cons.mpr ⟨gok_X0_316, List.forall_mem_cons.mpr ⟨gok_X0_337, List.forall_mem_cons.mpr ⟨gok_X0_351, (fun _ h => by cases h)⟩⟩⟩⟩⟩⟩⟩⟩⟩⟩⟩⟩⟩⟩⟩⟩⟩⟩⟩⟩⟩⟩⟩⟩⟩⟩⟩⟩⟩⟩⟩⟩⟩⟩⟩⟩⟩⟩⟩⟩⟩⟩⟩
theorem gok_X1_3 : GOk (cnm 1) 3 (3, 0, []) := q155
theorem gok_X1_69 : GOk (cnm 1) 69 (4, 5, []) := q474
theorem gok_X1_75 : GOk (cnm 1) 75 (2, 1, [(1, mX1_standsAs)]) := Or.inl ⟨_, _, RX1, TX1, rfl, by decide, rfl, rfl, mok_X1_standsAs, (by decide +kernel), ⟨Or.inl q477, (fun z => absurd rfl z)⟩, q478, q479, q117⟩
theorem gok_X1_88 : GOk (cnm 1) 88 (2, 1, [(1, mX1_blots)]) := Or.inl ⟨_, _, RX1, TX1, rfl, by decide, rfl, rfl, mok_X1_blots, (by decide +kernel), ⟨Or.inl q600, (fun z => absurd rfl z)⟩, q601, q602, q117⟩
theorem gok_X1_92 : GOk (cnm 1) 92 (2, 0, [(1, mX1_cells)]) := Or.inl ⟨_, _, RX1, TX1, rfl, by decide, rfl, rfl, mok_X1_cells, (by decide +kernel), ⟨Or.inl q798, (fun z => absurd rfl z)⟩, q581, q582, q117⟩
theorem gok_X1_124 : GOk (cnm 1) 124 (2, 2, [(1, mX1_writes)]) := Or.inl ⟨_, _, RX1, TX1, rfl, by decide, rfl, rfl, mok_X1_writes, (by decide +kernel), ⟨Or.inl q839, (fun z => absurd rfl z)⟩, q841, qs33, q117⟩
theorem gok_X1_96 : GOk (cnm 1) 96 (0, 2, [(0, mX0_has)]) := ⟨_, rfl, mok_X0_has, rfl, (by decide +kernel), Or.inr ⟨_, List.mem_of_getElem? (i := 3) rfl⟩, q844, q116⟩
theorem gok_X1_100 : GOk (cnm 1) 100 (2, 1, [(1, mX1_wayOn)]) := Or.inl ⟨_, _, RX1, TX1, rfl, by decide, rfl, rfl, mok_X1_wayOn, (by decide +kernel), ⟨Or.inl q846, (fun z => absurd rfl z)⟩, q848, qs34, q117⟩
theorem gok_X1_104 : GOk (cnm 1) 104 (2, 1, [(1, mX1_forceOn)]) := Or.inl ⟨_, _, RX1, TX1, rfl, by decide, rfl, rfl, mok_X1_forceOn, (by decide +kernel), ⟨Or.inl q850, (fun z => absurd rfl z)⟩, q852, qs35, q117⟩
theorem gok_X1_107 : GOk (cnm 1) 107 (2, 1, [(1, mX1_strokesOf)]) := Or.inl ⟨_, _, RX1, TX1, rfl, by decide, rfl, rfl, mok_X1_strokesOf, (by decide +kernel), ⟨Or.inl q854, (fun z => absurd rfl z)⟩, q795, q796, q117⟩
theorem gok_X1_110 : GOk (cnm 1) 110 (2, 1, [(5, mX5_summed)]) := Or.inl ⟨_, _, RX5, TX5, rfl, by decide, rfl, rfl, mok_X5_summed, (by decide +kernel), ⟨Or.inl q855, (fun z => absurd rfl z)⟩, q856, q857, q129⟩
theorem gok_X1_128 : GOk (cnm 1) 128 (2, 0, [(1, mX1_moves)]) := Or.inl ⟨_, _, RX1, TX1, rfl, by decide, rfl, rfl, mok_X1_moves, (by decide +kernel), ⟨Or.inl q891, (fun z => absurd rfl z)⟩, q893, qs36, q117⟩
theorem gok_X1_116 : GOk (cnm 1) 116 (2, 2, [(1, mX1_beside)]) := Or.inl ⟨_, _, RX1, TX1, rfl, by decide, rfl, rfl, mok_X1_beside, (by decide +kernel), ⟨Or.inl q895, (fun z => absurd rfl z)⟩, q896, q897, q117⟩
theorem gok_X1_131 : GOk (cnm 1) 131 (2, 2, [(1, mX1_falls)]) := Or.inl ⟨_, _, RX1, TX1, rfl, by decide, rfl, rfl, mok_X1_falls, (by decide +kernel), ⟨Or.inl q899, (fun z => absurd rfl z)⟩, q901, qs37, q117⟩
theorem gok_X1_120 : GOk (cnm 1) 120 (2, 2, [(1, mX1_draws)]) := Or.inl ⟨_, _, RX1, TX1, rfl, by decide, rfl, rfl, mok_X1_draws, (by decide +kernel), ⟨Or.inl q903, (fun z => absurd rfl z)⟩, q904, q905, q117⟩
theorem gok_X1_134 : GOk (cnm 1) 134 (2, 1, [(1, mX1_passes)]) := Or.inl ⟨_, _, RX1, TX1, rfl, by decide, rfl, rfl, mok_X1_passes, (by decide +kernel), ⟨Or.inl q935, (fun z => absurd rfl z)⟩, q836, q837, q117⟩
theorem gok_X1 : ∀ p ∈ mt_X1, GOk (cnm 1) p.1 p.2 := List.forall_mem_cons.mpr ⟨gok_X1_3, List.forall_mem_cons.mpr ⟨gok_X1_69, List.forall_mem_cons.mpr ⟨gok_X1_75, List.forall_mem_cons.mpr ⟨gok_X1_88, List.forall_mem_cons.mpr ⟨gok_X1_92, List.forall_mem_cons.mpr ⟨gok_X1_124, List.forall_mem_cons.mpr ⟨gok_X1_96, List.forall_mem_cons.mpr ⟨gok_X1_100, List.forall_mem_cons.mpr ⟨gok_X1_104, List.forall_mem_cons.mpr ⟨gok_X1_107, List.forall_mem_cons.mpr ⟨gok_X1_110, List.forall_mem_cons.mpr ⟨gok_X1_128, List.forall_mem_cons.mpr ⟨gok_X1_116, List.forall_mem_cons.mpr ⟨gok_X1_131, List.forall_mem_cons.mpr ⟨gok_X1_120, List.forall_mem_cons.mpr ⟨gok_X1_134, (fun _ h => by cases h)⟩⟩⟩⟩⟩⟩⟩⟩⟩⟩⟩⟩⟩⟩⟩⟩
theorem gok_X2_3 : GOk (cnm 2) 3 (1, 4, [(0, mJ2_init)]) := ⟨_, rfl, mok_J2_init, rfl, rfl, rfl, (by decide +kernel), Or.inl q292, q293, q120⟩
theorem gok_X2 : ∀ p ∈ mt_X2, GOk (cnm 2) p.1 p.2 := List.forall_mem_cons.mpr ⟨gok_X2_3, (fun _ h => by cases h)⟩
theorem gok_X3_3 : GOk (cnm 3) 3 (3, 0, []) := q1110
theorem gok_X3_145 : GOk (cnm 3) 145 (2, 1, [(3, mX3_put)]) := Or.inl ⟨_, _, RX3, TX3, rfl, by decide, rfl, rfl, mok_X3_put, (by decide +kernel), ⟨Or.inl q1277, (fun z => absurd rfl z)⟩, q1279, qs47, q122⟩
theorem gok_X3_299 : GOk (cnm 3) 299 (2, 0, [(3, mX3_readsAll)]) := Or.inl ⟨_, _, RX3, TX3, rfl, by decide, rfl, rfl, mok_X3_readsAll, (by decide +kernel), ⟨Or.inl q1289, (fun z => absurd rfl z)⟩, q1291, qs48, q122⟩
theorem gok_X3_286 : GOk (cnm 3) 286 (2, 0, [(3, mX3_starts)]) := Or.inl ⟨_, _, RX3, TX3, rfl, by decide, rfl, rfl, mok_X3_starts, (by decide +kernel), ⟨Or.inl q1293, (fun z => absurd rfl z)⟩, q1295, qs49, q122⟩
theorem gok_X3_289 : GOk (cnm 3) 289 (2, 1, [(3, mX3_skyClause)]) := Or.inl ⟨_, _, RX3, TX3, rfl, by decide, rfl, rfl, mok_X3_skyClause, (by decide +kernel), ⟨Or.inl q1297, (fun z => absurd rfl z)⟩, q1299, qs50, q122⟩
theorem gok_X3_193 : GOk (cnm 3) 193 (2, 0, [(3, mX3_blanks)]) := Or.inl ⟨_, _, RX3, TX3, rfl, by decide, rfl, rfl, mok_X3_blanks, (by decide +kernel), ⟨Or.inl q1301, (fun z => absurd rfl z)⟩, q1303, qs51, q122⟩
theorem gok_X3_177 : GOk (cnm 3) 177 (2, 0, [(3, mX3_byteHere)]) := Or.inl ⟨_, _, RX3, TX3, rfl, by decide, rfl, rfl, mok_X3_byteHere, (by decide +kernel), ⟨Or.inl q1305, (fun z => absurd rfl z)⟩, q1307, qs52, q122⟩
theorem gok_X3_276 : GOk (cnm 3) 276 (0, 1, [(0, mX3_skyWord)]) := ⟨_, rfl, mok_X3_skyWord, rfl, (by decide +kernel), Or.inl q1309, q1310, q122⟩
theorem gok_X3_196 : GOk (cnm 3) 196 (2, 1, [(3, mX3_stood)]) := Or.inl ⟨_, _, RX3, TX3, rfl, by decide, rfl, rfl, mok_X3_stood, (by decide +kernel), ⟨Or.inl q1316, (fun z => absurd rfl z)⟩, q1318, qs53, q122⟩
theorem gok_X3_184 : GOk (cnm 3) 184 (5, 0, [(0, mJ3_length)]) := ⟨_, rfl, mok_J3_length, rfl, rfl, (by decide +kernel), q1320, q498, q499, q125⟩
theorem gok_X3_189 : GOk (cnm 3) 189 (5, 1, [(0, mJ3_charAt)]) := ⟨_, rfl, mok_J3_charAt, rfl, rfl, (by decide +kernel), q1321, q508, q509, q125⟩
theorem gok_X3_209 : GOk (cnm 3) 209 (2, 2, [(3, mX3_fails)]) := Or.inl ⟨_, _, RX3, TX3, rfl, by decide, rfl, rfl, mok_X3_fails, (by decide +kernel), ⟨Or.inl q1322, (fun z => absurd rfl z)⟩, q1324, qs54, q122⟩
theorem gok_X3_279 : GOk (cnm 3) 279 (2, 2, [(3, mX3_isFull)]) := Or.inl ⟨_, _, RX3, TX3, rfl, by decide, rfl, rfl, mok_X3_isFull, (by decide +kernel), ⟨Or.inl q1326, (fun z => absurd rfl z)⟩, q1328, qs55, q122⟩
theorem gok_X3_283 : GOk (cnm 3) 283 (2, 1, [(3, mX3_skyPart)]) := Or.inl ⟨_, _, RX3, TX3, rfl, by decide, rfl, rfl, mok_X3_skyPart, (by decide +kernel), ⟨Or.inl q1330, (fun z => absurd rfl z)⟩, q1332, qs56, q122⟩
theorem gok_X3_272 : GOk (cnm 3) 272 (2, 2, [(3, mX3_amount)]) := Or.inl ⟨_, _, RX3, TX3, rfl, by decide, rfl, rfl, mok_X3_amount, (by decide +kernel), ⟨Or.inl q1334, (fun z => absurd rfl z)⟩, q1336, qs57, q122⟩
theorem gok_X3_218 : GOk (cnm 3) 218 (2, 1, [(3, mX3_digits)]) := Or.inl ⟨_, _, RX3, TX3, rfl, by decide, rfl, rfl, mok_X3_digits, (by decide +kernel), ⟨Or.inl q1339, (fun z => absurd rfl z)⟩, q1341, qs58, q122⟩
theorem gok_X3_213 : GOk (cnm 3) 213 (2, 0, [(3, mX3_isDigit)]) := Or.inl ⟨_, _, RX3, TX3, rfl, by decide, rfl, rfl, mok_X3_isDigit, (by decide +kernel), ⟨Or.inl q1343, (fun z => absurd rfl z)⟩, q1345, qs59, q122⟩
theorem gok_X3_138 : GOk (cnm 3) 138 (0, 3, [(0, mX3_in)]) := ⟨_, rfl, mok_X3_in, rfl, (by decide +kernel), Or.inl q1349, q1350, q122⟩
theorem gok_X3_292 : GOk (cnm 3) 292 (2, 0, [(3, mX3_goesOn)]) := Or.inl ⟨_, _, RX3, TX3, rfl, by decide, rfl, rfl, mok_X3_goesOn, (by decide +kernel), ⟨Or.inl q1352, (fun z => absurd rfl z)⟩, q1354, qs60, q122⟩
theorem gok_X3_295 : GOk (cnm 3) 295 (0, 2, [(0, mX3_copies)]) := ⟨_, rfl, mok_X3_copies, rfl, (by decide +kernel), Or.inl q1356, q1357, q122⟩
theorem gok_X3_302 : GOk (cnm 3) 302 (2, 0, [(3, mX3_begins)]) := Or.inl ⟨_, _, RX3, TX3, rfl, by decide, rfl, rfl, mok_X3_begins, (by decide +kernel), ⟨Or.inl q1359, (fun z => absurd rfl z)⟩, q1361, qs61, q122⟩
theorem gok_X3_321 : GOk (cnm 3) 321 (2, 1, [(3, mX3_ruleClause)]) := Or.inl ⟨_, _, RX3, TX3, rfl, by decide, rfl, rfl, mok_X3_ruleClause, (by decide +kernel), ⟨Or.inl q1367, (fun z => absurd rfl z)⟩, q1369, qs62, q122⟩
theorem gok_X3_238 : GOk (cnm 3) 238 (2, 0, [(3, mX3_sum)]) := Or.inl ⟨_, _, RX3, TX3, rfl, by decide, rfl, rfl, mok_X3_sum, (by decide +kernel), ⟨Or.inl q1372, (fun z => absurd rfl z)⟩, q1374, qs63, q122⟩
theorem gok_X3_235 : GOk (cnm 3) 235 (2, 0, [(3, mX3_term)]) := Or.inl ⟨_, _, RX3, TX3, rfl, by decide, rfl, rfl, mok_X3_term, (by decide +kernel), ⟨Or.inl q1376, (fun z => absurd rfl z)⟩, q1378, qs64, q122⟩
theorem gok_X3_232 : GOk (cnm 3) 232 (2, 0, [(3, mX3_value)]) := Or.inl ⟨_, _, RX3, TX3, rfl, by decide, rfl, rfl, mok_X3_value, (by decide +kernel), ⟨Or.inl q1380, (fun z => absurd rfl z)⟩, q1382, qs65, q122⟩
theorem gok_X3_222 : GOk (cnm 3) 222 (2, 1, [(3, mX3_isCounted)]) := Or.inl ⟨_, _, RX3, TX3, rfl, by decide, rfl, rfl, mok_X3_isCounted, (by decide +kernel), ⟨Or.inl q1384, (fun z => absurd rfl z)⟩, q1386, qs66, q122⟩
theorem gok_X3_225 : GOk (cnm 3) 225 (2, 2, [(3, mX3_entry)]) := Or.inl ⟨_, _, RX3, TX3, rfl, by decide, rfl, rfl, mok_X3_entry, (by decide +kernel), ⟨Or.inl q1388, (fun z => absurd rfl z)⟩, q1390, qs67, q122⟩
theorem gok_X3_228 : GOk (cnm 3) 228 (0, 1, [(0, mX3_wordOf)]) := ⟨_, rfl, mok_X3_wordOf, rfl, (by decide +kernel), Or.inl q1392, q1393, q122⟩
theorem gok_X3_312 : GOk (cnm 3) 312 (2, 1, [(3, mX3_takes)]) := Or.inl ⟨_, _, RX3, TX3, rfl, by decide, rfl, rfl, mok_X3_takes, (by decide +kernel), ⟨Or.inl q1406, (fun z => absurd rfl z)⟩, q1408, qs68, q122⟩
theorem gok_X3_315 : GOk (cnm 3) 315 (2, 0, [(3, mX3_test)]) := Or.inl ⟨_, _, RX3, TX3, rfl, by decide, rfl, rfl, mok_X3_test, (by decide +kernel), ⟨Or.inl q1410, (fun z => absurd rfl z)⟩, q1412, qs69, q122⟩
theorem gok_X3_258 : GOk (cnm 3) 258 (2, 0, [(3, mX3_fact)]) := Or.inl ⟨_, _, RX3, TX3, rfl, by decide, rfl, rfl, mok_X3_fact, (by decide +kernel), ⟨Or.inl q1414, (fun z => absurd rfl z)⟩, q1416, qs70, q122⟩
theorem gok_X3_252 : GOk (cnm 3) 252 (2, 1, [(3, mX3_opens)]) := Or.inl ⟨_, _, RX3, TX3, rfl, by decide, rfl, rfl, mok_X3_opens, (by decide +kernel), ⟨Or.inl q1419, (fun z => absurd rfl z)⟩, q1421, qs71, q122⟩
theorem gok_X3_255 : GOk (cnm 3) 255 (2, 0, [(3, mX3_compared)]) := Or.inl ⟨_, _, RX3, TX3, rfl, by decide, rfl, rfl, mok_X3_compared, (by decide +kernel), ⟨Or.inl q1423, (fun z => absurd rfl z)⟩, q1425, qs72, q122⟩
theorem gok_X3_261 : GOk (cnm 3) 261 (2, 1, [(3, mX3_answers)]) := Or.inl ⟨_, _, RX3, TX3, rfl, by decide, rfl, rfl, mok_X3_answers, (by decide +kernel), ⟨Or.inl q1427, (fun z => absurd rfl z)⟩, q1429, qs73, q122⟩
theorem gok_X3_247 : GOk (cnm 3) 247 (2, 0, [(3, mX3_top)]) := Or.inl ⟨_, _, RX3, TX3, rfl, by decide, rfl, rfl, mok_X3_top, (by decide +kernel), ⟨Or.inl q1431, (fun z => absurd rfl z)⟩, q1433, qs74, q122⟩
theorem gok_X3_341 : GOk (cnm 3) 341 (2, 1, [(3, mX3_isPen)]) := Or.inl ⟨_, _, RX3, TX3, rfl, by decide, rfl, rfl, mok_X3_isPen, (by decide +kernel), ⟨Or.inl q1446, (fun z => absurd rfl z)⟩, q1448, qs75, q122⟩
theorem gok_X3_338 : GOk (cnm 3) 338 (2, 1, [(3, mX3_strokesOf)]) := Or.inl ⟨_, _, RX3, TX3, rfl, by decide, rfl, rfl, mok_X3_strokesOf, (by decide +kernel), ⟨Or.inl q1450, (fun z => absurd rfl z)⟩, q1452, qs76, q122⟩
theorem gok_X3_134 : GOk (cnm 3) 134 (2, 0, [(3, mX3_cells)]) := Or.inl ⟨_, _, RX3, TX3, rfl, by decide, rfl, rfl, mok_X3_cells, (by decide +kernel), ⟨Or.inl q1454, (fun z => absurd rfl z)⟩, q1456, qs77, q122⟩
theorem gok_X3_345 : GOk (cnm 3) 345 (2, 1, [(3, mX3_isCell)]) := Or.inl ⟨_, _, RX3, TX3, rfl, by decide, rfl, rfl, mok_X3_isCell, (by decide +kernel), ⟨Or.inl q1462, (fun z => absurd rfl z)⟩, q1464, qs78, q122⟩
theorem gok_X3_398 : GOk (cnm 3) 398 (2, 2, [(3, mX3_movesAll)]) := Or.inl ⟨_, _, RX3, TX3, rfl, by decide, rfl, rfl, mok_X3_movesAll, (by decide +kernel), ⟨Or.inl q1471, (fun z => absurd rfl z)⟩, q1473, qs79, q122⟩
theorem gok_X3_391 : GOk (cnm 3) 391 (2, 1, [(3, mX3_moves)]) := Or.inl ⟨_, _, RX3, TX3, rfl, by decide, rfl, rfl, mok_X3_moves, (by decide +kernel), ⟨Or.inl q1475, (fun z => absurd rfl z)⟩, q1477, qs80, q122⟩
theorem gok_X3_394 : GOk (cnm 3) 394 (2, 1, [(3, mX3_movesRow)]) := Or.inl ⟨_, _, RX3, TX3, rfl, by decide, rfl, rfl, mok_X3_movesRow, (by decide +kernel), ⟨Or.inl q1479, (fun z => absurd rfl z)⟩, q1481, qs81, q122⟩
theorem gok_X3_402 : GOk (cnm 3) 402 (2, 0, [(3, mX3_isSky)]) := Or.inl ⟨_, _, RX3, TX3, rfl, by decide, rfl, rfl, mok_X3_isSky, (by decide +kernel), ⟨Or.inl q1487, (fun z => absurd rfl z)⟩, q1489, qs82, q122⟩
theorem gok_X3_405 : GOk (cnm 3) 405 (2, 0, [(3, mX3_keepsAct)]) := Or.inl ⟨_, _, RX3, TX3, rfl, by decide, rfl, rfl, mok_X3_keepsAct, (by decide +kernel), ⟨Or.inl q1491, (fun z => absurd rfl z)⟩, q1493, qs83, q122⟩
theorem gok_X3_381 : GOk (cnm 3) 381 (2, 0, [(3, mX3_goes)]) := Or.inl ⟨_, _, RX3, TX3, rfl, by decide, rfl, rfl, mok_X3_goes, (by decide +kernel), ⟨Or.inl q1495, (fun z => absurd rfl z)⟩, q1497, qs84, q122⟩
theorem gok_X3_369 : GOk (cnm 3) 369 (2, 1, [(3, mX3_writes)]) := Or.inl ⟨_, _, RX3, TX3, rfl, by decide, rfl, rfl, mok_X3_writes, (by decide +kernel), ⟨Or.inl q1499, (fun z => absurd rfl z)⟩, q1501, qs85, q122⟩
theorem gok_X3_350 : GOk (cnm 3) 350 (0, 2, [(0, mX3_has)]) := ⟨_, rfl, mok_X3_has, rfl, (by decide +kernel), Or.inl q1503, q1504, q122⟩
theorem gok_X3_353 : GOk (cnm 3) 353 (2, 1, [(3, mX3_wayOf)]) := Or.inl ⟨_, _, RX3, TX3, rfl, by decide, rfl, rfl, mok_X3_wayOf, (by decide +kernel), ⟨Or.inl q1506, (fun z => absurd rfl z)⟩, q1508, qs86, q122⟩
theorem gok_X3_356 : GOk (cnm 3) 356 (2, 1, [(3, mX3_forceOf)]) := Or.inl ⟨_, _, RX3, TX3, rfl, by decide, rfl, rfl, mok_X3_forceOf, (by decide +kernel), ⟨Or.inl q1510, (fun z => absurd rfl z)⟩, q1512, qs87, q122⟩
theorem gok_X3_359 : GOk (cnm 3) 359 (2, 0, [(3, mX3_wanted)]) := Or.inl ⟨_, _, RX3, TX3, rfl, by decide, rfl, rfl, mok_X3_wanted, (by decide +kernel), ⟨Or.inl q1514, (fun z => absurd rfl z)⟩, q1516, qs88, q122⟩
theorem gok_X3_326 : GOk (cnm 3) 326 (2, 3, [(3, mX3_answer)]) := Or.inl ⟨_, _, RX3, TX3, rfl, by decide, rfl, rfl, mok_X3_answer, (by decide +kernel), ⟨Or.inl q1518, (fun z => absurd rfl z)⟩, q1520, qs89, q122⟩
theorem gok_X3_334 : GOk (cnm 3) 334 (0, 3, [(0, mX3_both)]) := ⟨_, rfl, mok_X3_both, rfl, (by decide +kernel), Or.inl q1522, q1523, q122⟩
theorem gok_X3_330 : GOk (cnm 3) 330 (0, 1, [(0, mX3_truth)]) := ⟨_, rfl, mok_X3_truth, rfl, (by decide +kernel), Or.inl q1525, q1526, q122⟩
theorem gok_X3_372 : GOk (cnm 3) 372 (2, 0, [(3, mX3_drifts)]) := Or.inl ⟨_, _, RX3, TX3, rfl, by decide, rfl, rfl, mok_X3_drifts, (by decide +kernel), ⟨Or.inl q1528, (fun z => absurd rfl z)⟩, q1530, qs90, q122⟩
theorem gok_X3_363 : GOk (cnm 3) 363 (2, 2, [(3, mX3_beside)]) := Or.inl ⟨_, _, RX3, TX3, rfl, by decide, rfl, rfl, mok_X3_beside, (by decide +kernel), ⟨Or.inl q1532, (fun z => absurd rfl z)⟩, q1534, qs91, q122⟩
theorem gok_X3_375 : GOk (cnm 3) 375 (2, 1, [(3, mX3_strikes)]) := Or.inl ⟨_, _, RX3, TX3, rfl, by decide, rfl, rfl, mok_X3_strikes, (by decide +kernel), ⟨Or.inl q1536, (fun z => absurd rfl z)⟩, q1538, qs92, q122⟩
theorem gok_X3_366 : GOk (cnm 3) 366 (2, 2, [(3, mX3_lays)]) := Or.inl ⟨_, _, RX3, TX3, rfl, by decide, rfl, rfl, mok_X3_lays, (by decide +kernel), ⟨Or.inl q1540, (fun z => absurd rfl z)⟩, q1542, qs93, q122⟩
theorem gok_X3_378 : GOk (cnm 3) 378 (2, 0, [(3, mX3_fades)]) := Or.inl ⟨_, _, RX3, TX3, rfl, by decide, rfl, rfl, mok_X3_fades, (by decide +kernel), ⟨Or.inl q1544, (fun z => absurd rfl z)⟩, q1546, qs94, q122⟩
theorem gok_X3_426 : GOk (cnm 3) 426 (2, 0, [(3, mX3_keepsAll)]) := Or.inl ⟨_, _, RX3, TX3, rfl, by decide, rfl, rfl, mok_X3_keepsAll, (by decide +kernel), ⟨Or.inl q1571, (fun z => absurd rfl z)⟩, q1573, qs95, q122⟩
theorem gok_X3_410 : GOk (cnm 3) 410 (2, 2, [(3, mX3_carriesAll)]) := Or.inl ⟨_, _, RX3, TX3, rfl, by decide, rfl, rfl, mok_X3_carriesAll, (by decide +kernel), ⟨Or.inl q1575, (fun z => absurd rfl z)⟩, q1577, qs96, q122⟩
theorem gok_X3_504 : GOk (cnm 3) 504 (2, 1, [(3, mX3_carryRow)]) := Or.inl ⟨_, _, RX3, TX3, rfl, by decide, rfl, rfl, mok_X3_carryRow, (by decide +kernel), ⟨Or.inl q1579, (fun z => absurd rfl z)⟩, q1581, qs97, q122⟩
theorem gok_X3_413 : GOk (cnm 3) 413 (2, 1, [(3, mX3_goFor)]) := Or.inl ⟨_, _, RX3, TX3, rfl, by decide, rfl, rfl, mok_X3_goFor, (by decide +kernel), ⟨Or.inl q1583, (fun z => absurd rfl z)⟩, q1585, qs98, q122⟩
theorem gok_X3_429 : GOk (cnm 3) 429 (2, 0, [(3, mX3_allStrokes)]) := Or.inl ⟨_, _, RX3, TX3, rfl, by decide, rfl, rfl, mok_X3_allStrokes, (by decide +kernel), ⟨Or.inl q1587, (fun z => absurd rfl z)⟩, q1589, qs99, q122⟩
theorem gok_X3_416 : GOk (cnm 3) 416 (2, 0, [(3, mX3_like)]) := Or.inl ⟨_, _, RX3, TX3, rfl, by decide, rfl, rfl, mok_X3_like, (by decide +kernel), ⟨Or.inl q1591, (fun z => absurd rfl z)⟩, q1593, qs100, q122⟩
theorem gok_X3_419 : GOk (cnm 3) 419 (2, 0, [(3, mX3_laysBack)]) := Or.inl ⟨_, _, RX3, TX3, rfl, by decide, rfl, rfl, mok_X3_laysBack, (by decide +kernel), ⟨Or.inl q1595, (fun z => absurd rfl z)⟩, q1597, qs101, q122⟩
theorem gok_X3_436 : GOk (cnm 3) 436 (2, 1, [(3, mX3_signedAt)]) := Or.inl ⟨_, _, RX3, TX3, rfl, by decide, rfl, rfl, mok_X3_signedAt, (by decide +kernel), ⟨Or.inl q1603, (fun z => absurd rfl z)⟩, q1605, qs102, q122⟩
theorem gok_X3_432 : GOk (cnm 3) 432 (2, 1, [(3, mX3_isSigned)]) := Or.inl ⟨_, _, RX3, TX3, rfl, by decide, rfl, rfl, mok_X3_isSigned, (by decide +kernel), ⟨Or.inl q1607, (fun z => absurd rfl z)⟩, q1609, qs103, q122⟩
theorem gok_X3_442 : GOk (cnm 3) 442 (2, 1, [(3, mX3_likeIn)]) := Or.inl ⟨_, _, RX3, TX3, rfl, by decide, rfl, rfl, mok_X3_likeIn, (by decide +kernel), ⟨Or.inl q1620, (fun z => absurd rfl z)⟩, q1622, qs104, q122⟩
theorem gok_X3_445 : GOk (cnm 3) 445 (0, 1, [(0, mX3_bits)]) := ⟨_, rfl, mok_X3_bits, rfl, (by decide +kernel), Or.inl q1624, q1625, q122⟩
theorem gok_X3_448 : GOk (cnm 3) 448 (2, 3, [(3, mX3_leaves)]) := Or.inl ⟨_, _, RX3, TX3, rfl, by decide, rfl, rfl, mok_X3_leaves, (by decide +kernel), ⟨Or.inl q1631, (fun z => absurd rfl z)⟩, q1633, qs105, q122⟩
theorem gok_X3_452 : GOk (cnm 3) 452 (2, 2, [(3, mX3_swaps)]) := Or.inl ⟨_, _, RX3, TX3, rfl, by decide, rfl, rfl, mok_X3_swaps, (by decide +kernel), ⟨Or.inl q1643, (fun z => absurd rfl z)⟩, q1645, qs106, q122⟩
theorem gok_X3_458 : GOk (cnm 3) 458 (2, 5, [(3, mX3_playOf)]) := Or.inl ⟨_, _, RX3, TX3, rfl, by decide, rfl, rfl, mok_X3_playOf, (by decide +kernel), ⟨Or.inl q1652, (fun z => absurd rfl z)⟩, q1654, qs107, q122⟩
theorem gok_X3_462 : GOk (cnm 3) 462 (2, 2, [(3, mX3_bestAt)]) := Or.inl ⟨_, _, RX3, TX3, rfl, by decide, rfl, rfl, mok_X3_bestAt, (by decide +kernel), ⟨Or.inl q1657, (fun z => absurd rfl z)⟩, q1659, qs108, q122⟩
theorem gok_X3_468 : GOk (cnm 3) 468 (2, 3, [(3, mX3_laysStiffs)]) := Or.inl ⟨_, _, RX3, TX3, rfl, by decide, rfl, rfl, mok_X3_laysStiffs, (by decide +kernel), ⟨Or.inl q1666, (fun z => absurd rfl z)⟩, q1668, qs109, q122⟩
theorem gok_X3_472 : GOk (cnm 3) 472 (2, 1, [(3, mX3_isRest)]) := Or.inl ⟨_, _, RX3, TX3, rfl, by decide, rfl, rfl, mok_X3_isRest, (by decide +kernel), ⟨Or.inl q1670, (fun z => absurd rfl z)⟩, q1672, qs110, q122⟩
theorem gok_X3_480 : GOk (cnm 3) 480 (2, 1, [(3, mX3_parting)]) := Or.inl ⟨_, _, RX3, TX3, rfl, by decide, rfl, rfl, mok_X3_parting, (by decide +kernel), ⟨Or.inl q1683, (fun z => absurd rfl z)⟩, q1685, qs111, q122⟩
theorem gok_X3_477 : GOk (cnm 3) 477 (2, 2, [(3, mX3_mostAlike)]) := Or.inl ⟨_, _, RX3, TX3, rfl, by decide, rfl, rfl, mok_X3_mostAlike, (by decide +kernel), ⟨Or.inl q1687, (fun z => absurd rfl z)⟩, q1689, qs112, q122⟩
theorem gok_X3_483 : GOk (cnm 3) 483 (2, 1, [(3, mX3_couldRule)]) := Or.inl ⟨_, _, RX3, TX3, rfl, by decide, rfl, rfl, mok_X3_couldRule, (by decide +kernel), ⟨Or.inl q1699, (fun z => absurd rfl z)⟩, q1701, qs113, q122⟩
theorem gok_X3_495 : GOk (cnm 3) 495 (2, 1, [(3, mX3_draws)]) := Or.inl ⟨_, _, RX3, TX3, rfl, by decide, rfl, rfl, mok_X3_draws, (by decide +kernel), ⟨Or.inl q1716, (fun z => absurd rfl z)⟩, q1718, qs114, q122⟩
theorem gok_X3 : ∀ p ∈ mt_X3, GOk (cnm 3) p.1 p.2 := List.forall_mem_cons.mpr ⟨gok_X3_3, List.forall_mem_cons.mpr ⟨gok_X3_145, List.forall_mem_cons.mpr ⟨gok_X3_299, List.forall_mem_cons.mpr ⟨gok_X3_286, List.forall_mem_cons.mpr ⟨gok_X3_289, List.forall_mem_cons.mpr ⟨gok_X3_193, List.forall_mem_cons.mpr ⟨gok_X3_177, List.forall_mem_cons.mpr ⟨gok_X3_276, List.forall_mem_cons.mpr ⟨gok_X3_196, List.forall_mem_cons.mpr ⟨gok_X3_184, List.forall_mem_cons.mpr ⟨gok_X3_189, List.forall_mem_cons.mpr ⟨gok_X3_209, List.forall_mem_cons.mpr ⟨gok_X3_279, List.forall_mem_cons.mpr ⟨gok_X3_283, List.forall_mem_cons.mpr ⟨gok_X3_272, List.forall_mem_cons.mpr ⟨gok_X3_218, List.forall_mem_cons.mpr ⟨gok_X3_213, List.forall_mem_cons.mpr ⟨gok_X3_138, List.forall_mem_cons.mpr ⟨gok_X3_292, List.forall_mem_cons.mpr ⟨gok_X3_295, List.forall_mem_cons.mpr ⟨gok_X3_302, List.forall_mem_cons.mpr ⟨gok_X3_321, List.forall_mem_cons.mpr ⟨gok_X3_238, List.forall_mem_cons.mpr ⟨gok_X3_235, List.forall_mem_cons.mpr ⟨gok_X3_232, List.forall_mem_cons.mpr ⟨gok_X3_222, List.forall_mem_cons.mpr ⟨gok_X3_225, List.forall_mem_cons.mpr ⟨gok_X3_228, List.forall_mem_cons.mpr ⟨gok_X3_312, List.forall_mem_cons.mpr ⟨gok_X3_315, List.forall_mem_cons.mpr ⟨gok_X3_258, List.forall_mem_cons.mpr ⟨gok_X3_252, List.forall_mem_cons.mpr ⟨gok_X3_255, List.forall_mem_cons.mpr ⟨gok_X3_261, List.forall_mem_cons.mpr ⟨gok_X3_247, List.forall_mem_cons.mpr ⟨gok_X3_341, List.forall_mem_cons.mpr ⟨gok_X3_338, List.forall_mem_cons.mpr ⟨gok_X3_134, List.forall_mem_cons.mpr ⟨gok_X3_345, List.forall_mem_cons.mpr ⟨gok_X3_398, List.forall_mem_cons.mpr ⟨gok_X3_391, List.forall_mem_cons.mpr ⟨gok_X3_394, List.forall_mem_cons.mpr ⟨gok_X3_402, List.forall_mem_cons.mpr ⟨gok_X3_405, List.forall_mem_cons.mpr ⟨gok_X3_381, List.forall_mem_cons.mpr ⟨gok_X3_369, List.forall_mem_cons.mpr ⟨gok_X3_350, List.forall_mem_cons.mpr ⟨gok_X3_353, List.forall_mem_cons.mpr ⟨gok_X3_356, List.forall_mem_cons.mpr ⟨gok_X3_359, List.forall_mem_cons.mpr ⟨gok_X3_326, List.forall_mem_cons.mpr ⟨gok_X3_334, List.forall_mem_cons.mpr ⟨gok_X3_330, List.forall_mem_cons.mpr ⟨gok_X3_372, List.forall_mem_cons.mpr ⟨gok_X3_363, List.forall_mem_cons.mpr ⟨gok_X3_375, List.forall_mem_cons.mpr ⟨gok_X3_366, List.forall_mem_cons.mpr ⟨gok_X3_378, List.forall_mem_cons.mpr ⟨gok_X3_426, List.forall_mem_cons.mpr ⟨gok_X3_410, List.forall_mem_cons.mpr ⟨gok_X3_504, List.forall_mem_cons.mpr ⟨gok_X3_413, List.forall_mem_cons.mpr ⟨gok_X3_429, List.forall_mem_cons.mpr ⟨gok_X3_416, List.forall_mem_cons.mpr ⟨gok_X3_419, List.forall_mem_cons.mpr ⟨gok_X3_436, List.forall_mem_cons.mpr ⟨gok_X3_432, List.forall_mem_cons.mpr ⟨gok_X3_442, List.forall_mem_cons.mpr ⟨gok_X3_445, List.forall_mem_cons.mpr ⟨gok_X3_448, List.forall_mem_cons.mpr ⟨gok_X3_452, List.forall_mem_cons.mpr ⟨gok_X3_458, List.forall_mem_cons.mpr ⟨gok_X3_462, List.forall_mem_cons.mpr ⟨gok_X3_468, List.forall_mem_cons.mpr ⟨gok_X3_472, List.forall_mem_cons.mpr ⟨gok_X3_480, List.forall_mem_cons.mpr ⟨gok_X3_477, List.forall_mem_cons.mpr ⟨gok_X3_483, List.forall_mem_cons.mpr ⟨gok_X3_495, (fun _ h => by cases h)⟩⟩⟩⟩⟩⟩⟩⟩⟩⟩⟩⟩⟩⟩⟩⟩⟩⟩⟩⟩⟩⟩⟩⟩⟩⟩⟩⟩⟩⟩⟩⟩⟩⟩⟩⟩⟩⟩⟩⟩⟩⟩⟩⟩⟩⟩⟩⟩⟩⟩⟩⟩⟩⟩⟩⟩⟩⟩⟩⟩⟩⟩⟩⟩⟩⟩⟩⟩⟩⟩⟩⟩⟩⟩⟩⟩⟩⟩⟩
theorem gok_X4_9 : GOk (cnm 4) 9 (3, 0, []) := q443
theorem gok_X4_146 : GOk (cnm 4) 146 (2, 1, [(1, mX1_copies)]) := Or.inl ⟨_, _, RX1, TX1, rfl, by decide, rfl, rfl, mok_X1_copies, (by decide +kernel), ⟨Or.inl q470, (fun z => absurd rfl z)⟩, q471, q472, q117⟩
theorem gok_X4_52 : GOk (cnm 4) 52 (2, 0, [(4, mX4_see)]) := Or.inl ⟨_, _, RX4, TX4, rfl, by decide, rfl, rfl, mok_X4_see, (by decide +kernel), ⟨Or.inl q481, (fun z => absurd rfl z)⟩, q483, qs2, q123⟩
theorem gok_X4_153 : GOk (cnm 4) 153 (2, 1, [(4, mX4_oneOf)]) := Or.inl ⟨_, _, RX4, TX4, rfl, by decide, rfl, rfl, mok_X4_oneOf, (by decide +kernel), ⟨Or.inl q485, (fun z => absurd rfl z)⟩, q487, qs3, q123⟩
theorem gok_X4_68 : GOk (cnm 4) 68 (2, 1, [(4, mX4_isWord)]) := Or.inl ⟨_, _, RX4, TX4, rfl, by decide, rfl, rfl, mok_X4_isWord, (by decide +kernel), ⟨Or.inl q489, (fun z => absurd rfl z)⟩, q491, qs4, q123⟩
theorem gok_X4_56 : GOk (cnm 4) 56 (2, 0, [(4, mX4_letters)]) := Or.inl ⟨_, _, RX4, TX4, rfl, by decide, rfl, rfl, mok_X4_letters, (by decide +kernel), ⟨Or.inl q493, (fun z => absurd rfl z)⟩, q495, qs5, q123⟩
theorem gok_X4_59 : GOk (cnm 4) 59 (5, 0, [(0, mJ3_length)]) := ⟨_, rfl, mok_J3_length, rfl, rfl, (by decide +kernel), q497, q498, q499, q125⟩
theorem gok_X4_64 : GOk (cnm 4) 64 (5, 1, [(0, mJ3_charAt)]) := ⟨_, rfl, mok_J3_charAt, rfl, rfl, (by decide +kernel), q507, q508, q509, q125⟩
theorem gok_X4_76 : GOk (cnm 4) 76 (2, 3, [(4, mX4_demand)]) := Or.inl ⟨_, _, RX4, TX4, rfl, by decide, rfl, rfl, mok_X4_demand, (by decide +kernel), ⟨Or.inl q545, (fun z => absurd rfl z)⟩, q547, qs6, q123⟩
theorem gok_X4_157 : GOk (cnm 4) 157 (2, 1, [(4, mX4_canBe)]) := Or.inl ⟨_, _, RX4, TX4, rfl, by decide, rfl, rfl, mok_X4_canBe, (by decide +kernel), ⟨Or.inl q549, (fun z => absurd rfl z)⟩, q551, qs7, q123⟩
theorem gok_X4_160 : GOk (cnm 4) 160 (2, 1, [(4, mX4_line)]) := Or.inl ⟨_, _, RX4, TX4, rfl, by decide, rfl, rfl, mok_X4_line, (by decide +kernel), ⟨Or.inl q553, (fun z => absurd rfl z)⟩, q555, qs8, q123⟩
theorem gok_X4_130 : GOk (cnm 4) 130 (2, 0, [(4, mX4_skyHere)]) := Or.inl ⟨_, _, RX4, TX4, rfl, by decide, rfl, rfl, mok_X4_skyHere, (by decide +kernel), ⟨Or.inl q557, (fun z => absurd rfl z)⟩, q559, qs9, q123⟩
theorem gok_X4_107 : GOk (cnm 4) 107 (2, 2, [(4, mX4_number)]) := Or.inl ⟨_, _, RX4, TX4, rfl, by decide, rfl, rfl, mok_X4_number, (by decide +kernel), ⟨Or.inl q561, (fun z => absurd rfl z)⟩, q563, qs10, q123⟩
theorem gok_X4_72 : GOk (cnm 4) 72 (2, 1, [(4, mX4_isDigit)]) := Or.inl ⟨_, _, RX4, TX4, rfl, by decide, rfl, rfl, mok_X4_isDigit, (by decide +kernel), ⟨Or.inl q565, (fun z => absurd rfl z)⟩, q567, qs11, q123⟩
theorem gok_X4_80 : GOk (cnm 4) 80 (0, 3, [(0, mX0_in)]) := ⟨_, rfl, mok_X0_in, rfl, (by decide +kernel), Or.inr ⟨_, List.mem_of_getElem? (i := 4) rfl⟩, q570, q116⟩
theorem gok_X4_133 : GOk (cnm 4) 133 (2, 0, [(4, mX4_penHere)]) := Or.inl ⟨_, _, RX4, TX4, rfl, by decide, rfl, rfl, mok_X4_penHere, (by decide +kernel), ⟨Or.inl q572, (fun z => absurd rfl z)⟩, q574, qs12, q123⟩
theorem gok_X4_121 : GOk (cnm 4) 121 (2, 0, [(4, mX4_cellNumber)]) := Or.inl ⟨_, _, RX4, TX4, rfl, by decide, rfl, rfl, mok_X4_cellNumber, (by decide +kernel), ⟨Or.inl q576, (fun z => absurd rfl z)⟩, q578, qs13, q123⟩
theorem gok_X4_104 : GOk (cnm 4) 104 (2, 0, [(1, mX1_cells)]) := Or.inl ⟨_, _, RX1, TX1, rfl, by decide, rfl, rfl, mok_X1_cells, (by decide +kernel), ⟨Or.inl q580, (fun z => absurd rfl z)⟩, q581, q582, q117⟩
theorem gok_X4_136 : GOk (cnm 4) 136 (2, 0, [(4, mX4_windHere)]) := Or.inl ⟨_, _, RX4, TX4, rfl, by decide, rfl, rfl, mok_X4_windHere, (by decide +kernel), ⟨Or.inl q584, (fun z => absurd rfl z)⟩, q586, qs14, q123⟩
theorem gok_X4_164 : GOk (cnm 4) 164 (2, 1, [(4, mX4_takesSign)]) := Or.inl ⟨_, _, RX4, TX4, rfl, by decide, rfl, rfl, mok_X4_takesSign, (by decide +kernel), ⟨Or.inl q588, (fun z => absurd rfl z)⟩, q590, qs15, q123⟩
theorem gok_X4_167 : GOk (cnm 4) 167 (2, 0, [(4, mX4_ends)]) := Or.inl ⟨_, _, RX4, TX4, rfl, by decide, rfl, rfl, mok_X4_ends, (by decide +kernel), ⟨Or.inl q592, (fun z => absurd rfl z)⟩, q594, qs16, q123⟩
theorem gok_X4_170 : GOk (cnm 4) 170 (2, 0, [(1, mX1_begins)]) := Or.inl ⟨_, _, RX1, TX1, rfl, by decide, rfl, rfl, mok_X1_begins, (by decide +kernel), ⟨Or.inl q596, (fun z => absurd rfl z)⟩, q597, q598, q117⟩
theorem gok_X4_198 : GOk (cnm 4) 198 (1, 0, [(0, mX5_init)]) := ⟨_, rfl, mok_X5_init, rfl, rfl, rfl, (by decide +kernel), Or.inr ⟨_, List.mem_of_getElem? (i := 5) rfl⟩, q620, q129⟩
theorem gok_X4_207 : GOk (cnm 4) 207 (2, 0, [(4, mX4_clauseHere)]) := Or.inl ⟨_, _, RX4, TX4, rfl, by decide, rfl, rfl, mok_X4_clauseHere, (by decide +kernel), ⟨Or.inl q634, (fun z => absurd rfl z)⟩, q636, qs18, q123⟩
theorem gok_X4_175 : GOk (cnm 4) 175 (1, 0, [(0, mX6_init)]) := ⟨_, rfl, mok_X6_init, rfl, rfl, rfl, (by decide +kernel), Or.inr ⟨_, List.mem_of_getElem? (i := 6) rfl⟩, q641, q130⟩
theorem gok_X4_176 : GOk (cnm 4) 176 (2, 0, [(4, mX4_sum)]) := Or.inl ⟨_, _, RX4, TX4, rfl, by decide, rfl, rfl, mok_X4_sum, (by decide +kernel), ⟨Or.inl q653, (fun z => absurd rfl z)⟩, q655, qs19, q123⟩
theorem gok_X4_247 : GOk (cnm 4) 247 (2, 0, [(4, mX4_term)]) := Or.inl ⟨_, _, RX4, TX4, rfl, by decide, rfl, rfl, mok_X4_term, (by decide +kernel), ⟨Or.inl q657, (fun z => absurd rfl z)⟩, q659, qs20, q123⟩
theorem gok_X4_253 : GOk (cnm 4) 253 (2, 0, [(4, mX4_value)]) := Or.inl ⟨_, _, RX4, TX4, rfl, by decide, rfl, rfl, mok_X4_value, (by decide +kernel), ⟨Or.inl q661, (fun z => absurd rfl z)⟩, q663, qs21, q123⟩
theorem gok_X4_239 : GOk (cnm 4) 239 (2, 1, [(4, mX4_makes)]) := Or.inl ⟨_, _, RX4, TX4, rfl, by decide, rfl, rfl, mok_X4_makes, (by decide +kernel), ⟨Or.inl q666, (fun z => absurd rfl z)⟩, q668, qs22, q123⟩
theorem gok_X4_259 : GOk (cnm 4) 259 (1, 1, [(0, mX8_init)]) := ⟨_, rfl, mok_X8_init, rfl, rfl, rfl, (by decide +kernel), Or.inl q672, q673, q132⟩
theorem gok_X4_264 : GOk (cnm 4) 264 (1, 1, [(0, mX9_init)]) := ⟨_, rfl, mok_X9_init, rfl, rfl, rfl, (by decide +kernel), Or.inl q685, q686, q133⟩
theorem gok_X4_252 : GOk (cnm 4) 252 (1, 3, [(0, mX10_init)]) := ⟨_, rfl, mok_X10_init, rfl, rfl, rfl, (by decide +kernel), Or.inl q695, q696, q134⟩
theorem gok_X4_185 : GOk (cnm 4) 185 (2, 1, [(4, mX4_takesWord)]) := Or.inl ⟨_, _, RX4, TX4, rfl, by decide, rfl, rfl, mok_X4_takesWord, (by decide +kernel), ⟨Or.inl q710, (fun z => absurd rfl z)⟩, q712, qs23, q123⟩
theorem gok_X4_188 : GOk (cnm 4) 188 (2, 0, [(4, mX4_tested)]) := Or.inl ⟨_, _, RX4, TX4, rfl, by decide, rfl, rfl, mok_X4_tested, (by decide +kernel), ⟨Or.inl q714, (fun z => absurd rfl z)⟩, q716, qs24, q123⟩
theorem gok_X4_211 : GOk (cnm 4) 211 (2, 0, [(4, mX4_parted)]) := Or.inl ⟨_, _, RX4, TX4, rfl, by decide, rfl, rfl, mok_X4_parted, (by decide +kernel), ⟨Or.inl q718, (fun z => absurd rfl z)⟩, q720, qs25, q123⟩
theorem gok_X4_221 : GOk (cnm 4) 221 (2, 0, [(4, mX4_fact)]) := Or.inl ⟨_, _, RX4, TX4, rfl, by decide, rfl, rfl, mok_X4_fact, (by decide +kernel), ⟨Or.inl q722, (fun z => absurd rfl z)⟩, q724, qs26, q123⟩
theorem gok_X4_228 : GOk (cnm 4) 228 (2, 1, [(4, mX4_opens)]) := Or.inl ⟨_, _, RX4, TX4, rfl, by decide, rfl, rfl, mok_X4_opens, (by decide +kernel), ⟨Or.inl q727, (fun z => absurd rfl z)⟩, q729, qs27, q123⟩
theorem gok_X4_233 : GOk (cnm 4) 233 (1, 1, [(0, mX12_init)]) := ⟨_, rfl, mok_X12_init, rfl, rfl, rfl, (by decide +kernel), Or.inl q733, q734, q136⟩
theorem gok_X4_236 : GOk (cnm 4) 236 (2, 0, [(4, mX4_sign)]) := Or.inl ⟨_, _, RX4, TX4, rfl, by decide, rfl, rfl, mok_X4_sign, (by decide +kernel), ⟨Or.inl q744, (fun z => absurd rfl z)⟩, q746, qs28, q123⟩
theorem gok_X4_244 : GOk (cnm 4) 244 (1, 3, [(0, mX13_init)]) := ⟨_, rfl, mok_X13_init, rfl, rfl, rfl, (by decide +kernel), Or.inl q750, q751, q137⟩
theorem gok_X4_218 : GOk (cnm 4) 218 (1, 3, [(0, mX14_init)]) := ⟨_, rfl, mok_X14_init, rfl, rfl, rfl, (by decide +kernel), Or.inl q767, q768, q138⟩
theorem gok_X4 : ∀ p ∈ mt_X4, GOk (cnm 4) p.1 p.2 := List.forall_mem_cons.mpr ⟨gok_X4_9, List.forall_mem_cons.mpr ⟨gok_X4_146, List.forall_mem_cons.mpr ⟨gok_X4_52, List.forall_mem_cons.mpr ⟨gok_X4_153, List.forall_mem_cons.mpr ⟨gok_X4_68, List.forall_mem_cons.mpr ⟨gok_X4_56, List.forall_mem_cons.mpr ⟨gok_X4_59, List.forall_mem_cons.mpr ⟨gok_X4_64, List.forall_mem_cons.mpr ⟨gok_X4_76, List.forall_mem_cons.mpr ⟨gok_X4_157, List.forall_mem_cons.mpr ⟨gok_X4_160, List.forall_mem_cons.mpr ⟨gok_X4_130, List.forall_mem_cons.mpr ⟨gok_X4_107, List.forall_mem_cons.mpr ⟨gok_X4_72, List.forall_mem_cons.mpr ⟨gok_X4_80, List.forall_mem_cons.mpr ⟨gok_X4_133, List.forall_mem_cons.mpr ⟨gok_X4_121, List.forall_mem_cons.mpr ⟨gok_X4_104, List.forall_mem_cons.mpr ⟨gok_X4_136, List.forall_mem_cons.mpr ⟨gok_X4_164, List.forall_mem_cons.mpr ⟨gok_X4_167, List.forall_mem_cons.mpr ⟨gok_X4_170, List.forall_mem_cons.mpr ⟨gok_X4_198, List.forall_mem_cons.mpr ⟨gok_X4_207, List.forall_mem_cons.mpr ⟨gok_X4_175, List.forall_mem_cons.mpr ⟨gok_X4_176, List.forall_mem_cons.mpr ⟨gok_X4_247, List.forall_mem_cons.mpr ⟨gok_X4_253, List.forall_mem_cons.mpr ⟨gok_X4_239, List.forall_mem_cons.mpr ⟨gok_X4_259, List.forall_mem_cons.mpr ⟨gok_X4_264, List.forall_mem_cons.mpr ⟨gok_X4_252, List.forall_mem_cons.mpr ⟨gok_X4_185, List.forall_mem_cons.mpr ⟨gok_X4_188, List.forall_mem_cons.mpr ⟨gok_X4_211, List.forall_mem_cons.mpr ⟨gok_X4_221, List.forall_mem_cons.mpr ⟨gok_X4_228, List.forall_mem_cons.mpr ⟨gok_X4_233, List.forall_mem_cons.mpr ⟨gok_X4_236, List.forall_mem_cons.mpr ⟨gok_X4_244, List.forall_mem_cons.mpr ⟨gok_X4_218, (fun _ h => by cases h)⟩⟩⟩⟩⟩⟩⟩⟩⟩⟩⟩⟩⟩⟩⟩⟩⟩⟩⟩⟩⟩⟩⟩⟩⟩⟩⟩⟩⟩⟩⟩⟩⟩⟩⟩⟩⟩⟩⟩⟩⟩
theorem gok_X5_3 : GOk (cnm 5) 3 (3, 0, []) := q622
theorem gok_X5_21 : GOk (cnm 5) 21 (2, 1, [(6, mX6_fits)]) := Or.inl ⟨_, _, RX6, TX6, rfl, by decide, rfl, rfl, mok_X6_fits, (by decide +kernel), ⟨Or.inl q859, (fun z => absurd rfl z)⟩, q860, q861, q130⟩
theorem gok_X5_29 : GOk (cnm 5) 29 (2, 1, [(7, mX8_of), (8, mX9_of), (9, mX10_of)]) := Or.inr ⟨_, q890, q874, Or.inl rfl, (by decide +kernel), List.forall_mem_cons.mpr ⟨⟨RX8, TX8, by decide, rfl, mok_X8_of, rfl, q875, q876, q132⟩, List.forall_mem_cons.mpr ⟨⟨RX9, TX9, by decide, rfl, mok_X9_of, rfl, q884, q882, q133⟩, List.forall_mem_cons.mpr ⟨⟨RX10, TX10, by decide, rfl, mok_X10_of, rfl, q878, q879, q134⟩, (fun _ h => by cases h)⟩⟩⟩⟩
theorem gok_X5 : ∀ p ∈ mt_X5, GOk (cnm 5) p.1 p.2 := List.forall_mem_cons.mpr ⟨gok_X5_3, List.forall_mem_cons.mpr ⟨gok_X5_21, List.forall_mem_cons.mpr ⟨gok_X5_29, (fun _ h => by cases h)⟩⟩⟩
theorem gok_X6_1 : GOk (cnm 6) 1 (3, 0, []) := q643
theorem gok_X6_13 : GOk (cnm 6) 13 (2, 1, [(10, mX12_is), (11, mX13_is), (12, mX14_is)]) := Or.inr ⟨_, q863, q865, Or.inr rfl, (by decide +kernel), List.forall_mem_cons.mpr ⟨⟨RX12, TX12, by decide, rfl, mok_X12_is, rfl, q889, q885, q136⟩, List.forall_mem_cons.mpr ⟨⟨RX13, TX13, by decide, rfl, mok_X13_is, rfl, q888, q870, q137⟩, List.forall_mem_cons.mpr ⟨⟨RX14, TX14, by decide, rfl, mok_X14_is, rfl, q866, q867, q138⟩, (fun _ h => by cases h)⟩⟩⟩⟩
theorem gok_X6 : ∀ p ∈ mt_X6, GOk (cnm 6) p.1 p.2 := List.forall_mem_cons.mpr ⟨gok_X6_1, List.forall_mem_cons.mpr ⟨gok_X6_13, (fun _ h => by cases h)⟩⟩
theorem gok_X7_1 : GOk (cnm 7) 1 (3, 0, []) := q678
theorem gok_X7 : ∀ p ∈ mt_X7, GOk (cnm 7) p.1 p.2 := List.forall_mem_cons.mpr ⟨gok_X7_1, (fun _ h => by cases h)⟩
theorem gok_X8_1 : GOk (cnm 8) 1 (1, 0, [(0, mX7_init)]) := ⟨_, rfl, mok_X7_init, rfl, rfl, rfl, (by decide +kernel), Or.inr ⟨_, List.mem_of_getElem? (i := 7) rfl⟩, q676, q131⟩
theorem gok_X8 : ∀ p ∈ mt_X8, GOk (cnm 8) p.1 p.2 := List.forall_mem_cons.mpr ⟨gok_X8_1, (fun _ h => by cases h)⟩
theorem gok_X9_1 : GOk (cnm 9) 1 (1, 0, [(0, mX7_init)]) := ⟨_, rfl, mok_X7_init, rfl, rfl, rfl, (by decide +kernel), Or.inr ⟨_, List.mem_of_getElem? (i := 8) rfl⟩, q676, q131⟩
theorem gok_X9 : ∀ p ∈ mt_X9, GOk (cnm 9) p.1 p.2 := List.forall_mem_cons.mpr ⟨gok_X9_1, (fun _ h => by cases h)⟩
theorem gok_X10_1 : GOk (cnm 10) 1 (1, 0, [(0, mX7_init)]) := ⟨_, rfl, mok_X7_init, rfl, rfl, rfl, (by decide +kernel), Or.inr ⟨_, List.mem_of_getElem? (i := 9) rfl⟩, q676, q131⟩
theorem gok_X10_20 : GOk (cnm 10) 20 (2, 1, [(7, mX8_of), (8, mX9_of), (9, mX10_of)]) := Or.inr ⟨_, q881, q874, Or.inl rfl, (by decide +kernel), List.forall_mem_cons.mpr ⟨⟨RX8, TX8, by decide, rfl, mok_X8_of, rfl, q875, q876, q132⟩, List.forall_mem_cons.mpr ⟨⟨RX9, TX9, by decide, rfl, mok_X9_of, rfl, q884, q882, q133⟩, List.forall_mem_cons.mpr ⟨⟨RX10, TX10, by decide, rfl, mok_X10_of, rfl, q878, q879, q134⟩, (fun _ h => by cases h)⟩⟩⟩⟩
theorem gok_X10 : ∀ p ∈ mt_X10, GOk (cnm 10) p.1 p.2 := List.forall_mem_cons.mpr ⟨gok_X10_1, List.forall_mem_cons.mpr ⟨gok_X10_20, (fun _ h => by cases h)⟩⟩
theorem gok_X11_1 : GOk (cnm 11) 1 (3, 0, []) := q739
theorem gok_X11 : ∀ p ∈ mt_X11, GOk (cnm 11) p.1 p.2 := List.forall_mem_cons.mpr ⟨gok_X11_1, (fun _ h => by cases h)⟩
theorem gok_X12_1 : GOk (cnm 12) 1 (1, 0, [(0, mX11_init)]) := ⟨_, rfl, mok_X11_init, rfl, rfl, rfl, (by decide +kernel), Or.inr ⟨_, List.mem_of_getElem? (i := 10) rfl⟩, q737, q135⟩
theorem gok_X12_13 : GOk (cnm 12) 13 (2, 1, [(10, mX12_is), (11, mX13_is), (12, mX14_is)]) := Or.inr ⟨_, q887, q865, Or.inr rfl, (by decide +kernel), List.forall_mem_cons.mpr ⟨⟨RX12, TX12, by decide, rfl, mok_X12_is, rfl, q889, q885, q136⟩, List.forall_mem_cons.mpr ⟨⟨RX13, TX13, by decide, rfl, mok_X13_is, rfl, q888, q870, q137⟩, List.forall_mem_cons.mpr ⟨⟨RX14, TX14, by decide, rfl, mok_X14_is, rfl, q866, q867, q138⟩, (fun _ h => by cases h)⟩⟩⟩⟩
theorem gok_X12 : ∀ p ∈ mt_X12, GOk (cnm 12) p.1 p.2 := List.forall_mem_cons.mpr ⟨gok_X12_1, List.forall_mem_cons.mpr ⟨gok_X12_13, (fun _ h => by cases h)⟩⟩
theorem gok_X13_1 : GOk (cnm 13) 1 (1, 0, [(0, mX11_init)]) := ⟨_, rfl, mok_X11_init, rfl, rfl, rfl, (by decide +kernel), Or.inr ⟨_, List.mem_of_getElem? (i := 11) rfl⟩, q737, q135⟩
theorem gok_X13_20 : GOk (cnm 13) 20 (2, 1, [(7, mX8_of), (8, mX9_of), (9, mX10_of)]) := Or.inr ⟨_, q872, q874, Or.inl rfl, (by decide +kernel), List.forall_mem_cons.mpr ⟨⟨RX8, TX8, by decide, rfl, mok_X8_of, rfl, q875, q876, q132⟩, List.forall_mem_cons.mpr ⟨⟨RX9, TX9, by decide, rfl, mok_X9_of, rfl, q884, q882, q133⟩, List.forall_mem_cons.mpr ⟨⟨RX10, TX10, by decide, rfl, mok_X10_of, rfl, q878, q879, q134⟩, (fun _ h => by cases h)⟩⟩⟩⟩
theorem gok_X13 : ∀ p ∈ mt_X13, GOk (cnm 13) p.1 p.2 := List.forall_mem_cons.mpr ⟨gok_X13_1, List.forall_mem_cons.mpr ⟨gok_X13_20, (fun _ h => by cases h)⟩⟩
theorem gok_X14_1 : GOk (cnm 14) 1 (1, 0, [(0, mX11_init)]) := ⟨_, rfl, mok_X11_init, rfl, rfl, rfl, (by decide +kernel), Or.inr ⟨_, List.mem_of_getElem? (i := 12) rfl⟩, q737, q135⟩
theorem gok_X14_20 : GOk (cnm 14) 20 (2, 1, [(10, mX12_is), (11, mX13_is), (12, mX14_is)]) := Or.inr ⟨_, q869, q865, Or.inr rfl, (by decide +kernel), List.forall_mem_cons.mpr ⟨⟨RX12, TX12, by decide, rfl, mok_X12_is, rfl, q889, q885, q136⟩, List.forall_mem_cons.mpr ⟨⟨RX13, TX13, by decide, rfl, mok_X13_is, rfl, q888, q870, q137⟩, List.forall_mem_cons.mpr ⟨⟨RX14, TX14, by decide, rfl, mok_X14_is, rfl, q866, q867, q138⟩, (fun _ h => by cases h)⟩⟩⟩⟩
theorem gok_X14 : ∀ p ∈ mt_X14, GOk (cnm 14) p.1 p.2 := List.forall_mem_cons.mpr ⟨gok_X14_1, List.forall_mem_cons.mpr ⟨gok_X14_20, (fun _ h => by cases h)⟩⟩
theorem gok_X15_1 : GOk (cnm 15) 1 (3, 0, []) := q1084
theorem gok_X15_9 : GOk (cnm 15) 9 (1, 0, [(0, mX1_init)]) := ⟨_, rfl, mok_X1_init, rfl, rfl, rfl, (by decide +kernel), Or.inr ⟨_, List.mem_of_getElem? (i := 13) rfl⟩, q153, q117⟩
theorem gok_X15 : ∀ p ∈ mt_X15, GOk (cnm 15) p.1 p.2 := List.forall_mem_cons.mpr ⟨gok_X15_1, List.forall_mem_cons.mpr ⟨gok_X15_9, (fun _ h => by cases h)⟩⟩
theorem gok_J0_1 : GOk (cnm 16) 1 (3, 0, []) := q274
theorem gok_J0 : ∀ p ∈ mt_J0, GOk (cnm 16) p.1 p.2 := List.forall_mem_cons.mpr ⟨gok_J0_1, (fun _ h => by cases h)⟩
theorem gok_J1_16 : GOk (cnm 17) 16 (1, 4, [(0, mJ0_init_2)]) := ⟨_, rfl, mok_J0_init_2, rfl, rfl, rfl, (by decide +kernel), Or.inl q298, q299, q118⟩
theorem gok_J1 : ∀ p ∈ mt_J1, GOk (cnm 17) p.1 p.2 := List.forall_mem_cons.mpr ⟨gok_J1_16, (fun _ h => by cases h)⟩
theorem gok_J2_16 : GOk (cnm 18) 16 (1, 4, [(0, mJ1_init)]) := ⟨_, rfl, mok_J1_init, rfl, rfl, rfl, (by decide +kernel), Or.inl q295, q296, q119⟩
theorem gok_J2 : ∀ p ∈ mt_J2, GOk (cnm 18) p.1 p.2 := List.forall_mem_cons.mpr ⟨gok_J2_16, (fun _ h => by cases h)⟩
theorem gok_J3_335 : GOk (cnm 19) 335 (5, 0, [(0, mJ3_coder)]) := ⟨_, rfl, mok_J3_coder, rfl, rfl, (by decide +kernel), q501, q502, q503, q125⟩
theorem gok_J3_492 : GOk (cnm 19) 492 (5, 0, [(0, mJ3_isLatin1)]) := ⟨_, rfl, mok_J3_isLatin1, rfl, rfl, (by decide +kernel), q511, q512, q513, q125⟩
theorem gok_J3_495 : GOk (cnm 19) 495 (0, 2, [(0, mJ4_charAt)]) := ⟨_, rfl, mok_J4_charAt, rfl, (by decide +kernel), Or.inl q515, q516, q126⟩
theorem gok_J3_1059 : GOk (cnm 19) 1059 (0, 3, [(0, mJ5_checkIndex)]) := ⟨_, rfl, mok_J5_checkIndex, rfl, (by decide +kernel), Or.inl q523, q524, q127⟩
theorem gok_J3_498 : GOk (cnm 19) 498 (0, 2, [(0, mJ6_charAt)]) := ⟨_, rfl, mok_J6_charAt, rfl, (by decide +kernel), Or.inl q526, q527, q128⟩
theorem gok_J3 : ∀ p ∈ mt_J3, GOk (cnm 19) p.1 p.2 := List.forall_mem_cons.mpr ⟨gok_J3_335, List.forall_mem_cons.mpr ⟨gok_J3_492, List.forall_mem_cons.mpr ⟨gok_J3_495, List.forall_mem_cons.mpr ⟨gok_J3_1059, List.forall_mem_cons.mpr ⟨gok_J3_498, (fun _ h => by cases h)⟩⟩⟩⟩⟩
theorem gok_J4_9 : GOk (cnm 20) 9 (0, 2, [(0, mJ3_checkIndex)]) := ⟨_, rfl, mok_J3_checkIndex, rfl, (by decide +kernel), Or.inl q518, q519, q125⟩
theorem gok_J4 : ∀ p ∈ mt_J4, GOk (cnm 20) p.1 p.2 := List.forall_mem_cons.mpr ⟨gok_J4_9, (fun _ h => by cases h)⟩
theorem gok_J5 : ∀ p ∈ mt_J5, GOk (cnm 21) p.1 p.2 := (fun _ h => by cases h)
theorem gok_J6_67 : GOk (cnm 22) 67 (0, 2, [(0, mJ6_checkIndex)]) := ⟨_, rfl, mok_J6_checkIndex, rfl, (by decide +kernel), Or.inl q529, q530, q128⟩
theorem gok_J6_48 : GOk (cnm 22) 48 (0, 1, [(0, mJ6_length)]) := ⟨_, rfl, mok_J6_length, rfl, (by decide +kernel), Or.inl q532, q533, q128⟩
theorem gok_J6_414 : GOk (cnm 22) 414 (0, 2, [(0, mJ3_checkIndex)]) := ⟨_, rfl, mok_J3_checkIndex, rfl, (by decide +kernel), Or.inl q535, q519, q125⟩
theorem gok_J6_71 : GOk (cnm 22) 71 (0, 2, [(0, mJ6_getChar)]) := ⟨_, rfl, mok_J6_getChar, rfl, (by decide +kernel), Or.inl q536, q537, q128⟩
theorem gok_J6 : ∀ p ∈ mt_J6, GOk (cnm 22) p.1 p.2 := List.forall_mem_cons.mpr ⟨gok_J6_67, List.forall_mem_cons.mpr ⟨gok_J6_48, List.forall_mem_cons.mpr ⟨gok_J6_414, List.forall_mem_cons.mpr ⟨gok_J6_71, (fun _ h => by cases h)⟩⟩⟩⟩
theorem gok_J7 : ∀ p ∈ mt_J7, GOk (cnm 23) p.1 p.2 := (fun _ h => by cases h)
theorem gok_J8 : ∀ p ∈ mt_J8, GOk (cnm 24) p.1 p.2 := (fun _ h => by cases h)
theorem gok_J9 : ∀ p ∈ mt_J9, GOk (cnm 25) p.1 p.2 := (fun _ h => by cases h)
theorem gok_L_9 : GOk (cnm 26) 9 (1, 0, [(0, mX0_init)]) := ⟨_, rfl, mok_X0_init, rfl, rfl, rfl, (by decide +kernel), Or.inl q144, q145, q116⟩
theorem gok_L_13 : GOk (cnm 26) 13 (2, 5, [(0, mX0_feed)]) := Or.inl ⟨_, _, RX0, TX0, rfl, by decide, rfl, rfl, mok_X0_feed, (by decide +kernel), ⟨Or.inl q422, (fun z => absurd rfl z)⟩, q423, q424, q116⟩
theorem gok_L_18 : GOk (cnm 26) 18 (2, 1, [(0, mX0_end)]) := Or.inl ⟨_, _, RX0, TX0, rfl, by decide, rfl, rfl, mok_X0_end, (by decide +kernel), ⟨Or.inl q430, (fun z => absurd rfl z)⟩, q431, q432, q116⟩
theorem gok_L_23 : GOk (cnm 26) 23 (2, 0, [(0, mX0_sky)]) := Or.inl ⟨_, _, RX0, TX0, rfl, by decide, rfl, rfl, mok_X0_sky, (by decide +kernel), ⟨Or.inl q434, (fun _ => q434)⟩, q435, q436, q116⟩
theorem gok_L_28 : GOk (cnm 26) 28 (2, 0, [(0, mX0_rule)]) := Or.inl ⟨_, _, RX0, TX0, rfl, by decide, rfl, rfl, mok_X0_rule, (by decide +kernel), ⟨Or.inl q609, (fun _ => q609)⟩, q610, q611, q116⟩
theorem gok_L_32 : GOk (cnm 26) 32 (2, 1, [(0, mX0_force)]) := Or.inl ⟨_, _, RX0, TX0, rfl, by decide, rfl, rfl, mok_X0_force, (by decide +kernel), ⟨Or.inl q782, (fun z => absurd rfl z)⟩, q783, q784, q116⟩
theorem gok_L_36 : GOk (cnm 26) 36 (2, 2, [(0, mX0_pen)]) := Or.inl ⟨_, _, RX0, TX0, rfl, by decide, rfl, rfl, mok_X0_pen, (by decide +kernel), ⟨Or.inl q786, (fun z => absurd rfl z)⟩, q787, q788, q116⟩
theorem gok_L_41 : GOk (cnm 26) 41 (2, 2, [(0, mX0_cell)]) := Or.inl ⟨_, _, RX0, TX0, rfl, by decide, rfl, rfl, mok_X0_cell, (by decide +kernel), ⟨Or.inl q799, (fun z => absurd rfl z)⟩, q800, q801, q116⟩
theorem gok_L_65 : GOk (cnm 26) 65 (2, 0, [(0, mX0_undo)]) := Or.inl ⟨_, _, RX0, TX0, rfl, by decide, rfl, rfl, mok_X0_undo, (by decide +kernel), ⟨Or.inl q810, (fun z => absurd rfl z)⟩, q811, q812, q116⟩
theorem gok_L_45 : GOk (cnm 26) 45 (2, 0, [(0, mX0_day)]) := Or.inl ⟨_, _, RX0, TX0, rfl, by decide, rfl, rfl, mok_X0_day, (by decide +kernel), ⟨Or.inl q818, (fun z => absurd rfl z)⟩, q819, q820, q116⟩
theorem gok_L_49 : GOk (cnm 26) 49 (2, 1, [(0, mX0_stay)]) := Or.inl ⟨_, _, RX0, TX0, rfl, by decide, rfl, rfl, mok_X0_stay, (by decide +kernel), ⟨Or.inl q907, (fun z => absurd rfl z)⟩, q908, q909, q116⟩
theorem gok_L_53 : GOk (cnm 26) 53 (2, 2, [(0, mX0_set)]) := Or.inl ⟨_, _, RX0, TX0, rfl, by decide, rfl, rfl, mok_X0_set, (by decide +kernel), ⟨Or.inl q911, (fun z => absurd rfl z)⟩, q912, q913, q116⟩
theorem gok_L_57 : GOk (cnm 26) 57 (2, 2, [(0, mX0_bend)]) := Or.inl ⟨_, _, RX0, TX0, rfl, by decide, rfl, rfl, mok_X0_bend, (by decide +kernel), ⟨Or.inl q915, (fun z => absurd rfl z)⟩, q916, q917, q116⟩
theorem gok_L_61 : GOk (cnm 26) 61 (2, 1, [(0, mX0_blot)]) := Or.inl ⟨_, _, RX0, TX0, rfl, by decide, rfl, rfl, mok_X0_blot, (by decide +kernel), ⟨Or.inl q920, (fun z => absurd rfl z)⟩, q921, q922, q116⟩
theorem gok_L_69 : GOk (cnm 26) 69 (2, 3, [(0, mX0_ahead)]) := Or.inl ⟨_, _, RX0, TX0, rfl, by decide, rfl, rfl, mok_X0_ahead, (by decide +kernel), ⟨Or.inl q925, (fun z => absurd rfl z)⟩, q926, q927, q116⟩
theorem gok_L_74 : GOk (cnm 26) 74 (2, 0, [(0, mX0_sign)]) := Or.inl ⟨_, _, RX0, TX0, rfl, by decide, rfl, rfl, mok_X0_sign, (by decide +kernel), ⟨Or.inl q944, (fun z => absurd rfl z)⟩, q945, q946, q116⟩
theorem gok_L_78 : GOk (cnm 26) 78 (2, 0, [(0, mX0_clean)]) := Or.inl ⟨_, _, RX0, TX0, rfl, by decide, rfl, rfl, mok_X0_clean, (by decide +kernel), ⟨Or.inl q952, (fun z => absurd rfl z)⟩, q953, q954, q116⟩
theorem gok_L_82 : GOk (cnm 26) 82 (2, 2, [(0, mX0_hold)]) := Or.inl ⟨_, _, RX0, TX0, rfl, by decide, rfl, rfl, mok_X0_hold, (by decide +kernel), ⟨Or.inl q956, (fun z => absurd rfl z)⟩, q957, q958, q116⟩
theorem gok_L_86 : GOk (cnm 26) 86 (2, 2, [(0, mX0_wrote)]) := Or.inl ⟨_, _, RX0, TX0, rfl, by decide, rfl, rfl, mok_X0_wrote, (by decide +kernel), ⟨Or.inl q968, (fun z => absurd rfl z)⟩, q969, q970, q116⟩
theorem gok_L_90 : GOk (cnm 26) 90 (2, 4, [(0, mX0_came)]) := Or.inl ⟨_, _, RX0, TX0, rfl, by decide, rfl, rfl, mok_X0_came, (by decide +kernel), ⟨Or.inl q977, (fun z => absurd rfl z)⟩, q978, q979, q116⟩
theorem gok_L_95 : GOk (cnm 26) 95 (2, 2, [(0, mX0_change)]) := Or.inl ⟨_, _, RX0, TX0, rfl, by decide, rfl, rfl, mok_X0_change, (by decide +kernel), ⟨Or.inl q981, (fun z => absurd rfl z)⟩, q982, q983, q116⟩
theorem gok_L_99 : GOk (cnm 26) 99 (2, 4, [(0, mX0_game)]) := Or.inl ⟨_, _, RX0, TX0, rfl, by decide, rfl, rfl, mok_X0_game, (by decide +kernel), ⟨Or.inl q989, (fun z => absurd rfl z)⟩, q990, q991, q116⟩
theorem gok_L_103 : GOk (cnm 26) 103 (2, 4, [(0, mX0_rests)]) := Or.inl ⟨_, _, RX0, TX0, rfl, by decide, rfl, rfl, mok_X0_rests, (by decide +kernel), ⟨Or.inl q1000, (fun z => absurd rfl z)⟩, q1001, q1002, q116⟩
theorem gok_L_107 : GOk (cnm 26) 107 (2, 2, [(0, mX0_pence)]) := Or.inl ⟨_, _, RX0, TX0, rfl, by decide, rfl, rfl, mok_X0_pence, (by decide +kernel), ⟨Or.inl q1009, (fun z => absurd rfl z)⟩, q1010, q1011, q116⟩
theorem gok_L_111 : GOk (cnm 26) 111 (2, 2, [(0, mX0_read)]) := Or.inl ⟨_, _, RX0, TX0, rfl, by decide, rfl, rfl, mok_X0_read, (by decide +kernel), ⟨Or.inl q1014, (fun z => absurd rfl z)⟩, q1015, q1016, q116⟩
theorem gok_L_115 : GOk (cnm 26) 115 (2, 3, [(0, mX0_note)]) := Or.inl ⟨_, _, RX0, TX0, rfl, by decide, rfl, rfl, mok_X0_note, (by decide +kernel), ⟨Or.inl q1033, (fun z => absurd rfl z)⟩, q1034, q1035, q116⟩
theorem gok_L_119 : GOk (cnm 26) 119 (2, 1, [(0, mX0_ruled)]) := Or.inl ⟨_, _, RX0, TX0, rfl, by decide, rfl, rfl, mok_X0_ruled, (by decide +kernel), ⟨Or.inl q1037, (fun z => absurd rfl z)⟩, q1038, q1039, q116⟩
theorem gok_L_123 : GOk (cnm 26) 123 (2, 2, [(0, mX0_look)]) := Or.inl ⟨_, _, RX0, TX0, rfl, by decide, rfl, rfl, mok_X0_look, (by decide +kernel), ⟨Or.inl q1050, (fun z => absurd rfl z)⟩, q1051, q1052, q116⟩
theorem gok_L_127 : GOk (cnm 26) 127 (2, 1, [(0, mX0_seed)]) := Or.inl ⟨_, _, RX0, TX0, rfl, by decide, rfl, rfl, mok_X0_seed, (by decide +kernel), ⟨Or.inl q1054, (fun z => absurd rfl z)⟩, q1055, q1056, q116⟩
theorem gok_L_131 : GOk (cnm 26) 131 (2, 4, [(0, mX0_rains)]) := Or.inl ⟨_, _, RX0, TX0, rfl, by decide, rfl, rfl, mok_X0_rains, (by decide +kernel), ⟨Or.inl q1058, (fun z => absurd rfl z)⟩, q1059, q1060, q116⟩
theorem gok_L_135 : GOk (cnm 26) 135 (2, 1, [(0, mX0_count)]) := Or.inl ⟨_, _, RX0, TX0, rfl, by decide, rfl, rfl, mok_X0_count, (by decide +kernel), ⟨Or.inl q1071, (fun z => absurd rfl z)⟩, q1072, q1073, q116⟩
theorem gok_L_139 : GOk (cnm 26) 139 (2, 1, [(0, mX0_image)]) := Or.inl ⟨_, _, RX0, TX0, rfl, by decide, rfl, rfl, mok_X0_image, (by decide +kernel), ⟨Or.inl q1076, (fun z => absurd rfl z)⟩, q1077, q1078, q116⟩
theorem gok_L_143 : GOk (cnm 26) 143 (2, 1, [(0, mX0_back)]) := Or.inl ⟨_, _, RX0, TX0, rfl, by decide, rfl, rfl, mok_X0_back, (by decide +kernel), ⟨Or.inl q1101, (fun z => absurd rfl z)⟩, q1102, q1103, q116⟩
theorem gok_L_12 : GOk (cnm 26) 12 (1, 0, [(0, mX3_init)]) := ⟨_, rfl, mok_X3_init, rfl, rfl, rfl, (by decide +kernel), Or.inl q1107, q1108, q122⟩
theorem gok_L_17 : GOk (cnm 26) 17 (2, 5, [(3, mX3_feed)]) := Or.inl ⟨_, _, RX3, TX3, rfl, by decide, rfl, rfl, mok_X3_feed, (by decide +kernel), ⟨Or.inl q1273, (fun z => absurd rfl z)⟩, q1274, q1275, q122⟩
theorem gok_L_22 : GOk (cnm 26) 22 (2, 1, [(3, mX3_end)]) := Or.inl ⟨_, _, RX3, TX3, rfl, by decide, rfl, rfl, mok_X3_end, (by decide +kernel), ⟨Or.inl q1281, (fun z => absurd rfl z)⟩, q1282, q1283, q122⟩
theorem gok_L_27 : GOk (cnm 26) 27 (2, 0, [(3, mX3_sky)]) := Or.inl ⟨_, _, RX3, TX3, rfl, by decide, rfl, rfl, mok_X3_sky, (by decide +kernel), ⟨Or.inl q1285, (fun z => absurd rfl z)⟩, q1286, q1287, q122⟩
theorem gok_L_31 : GOk (cnm 26) 31 (2, 0, [(3, mX3_rule)]) := Or.inl ⟨_, _, RX3, TX3, rfl, by decide, rfl, rfl, mok_X3_rule, (by decide +kernel), ⟨Or.inl q1363, (fun z => absurd rfl z)⟩, q1364, q1365, q122⟩
theorem gok_L_35 : GOk (cnm 26) 35 (2, 1, [(3, mX3_force)]) := Or.inl ⟨_, _, RX3, TX3, rfl, by decide, rfl, rfl, mok_X3_force, (by decide +kernel), ⟨Or.inl q1437, (fun z => absurd rfl z)⟩, q1438, q1439, q122⟩
theorem gok_L_40 : GOk (cnm 26) 40 (2, 2, [(3, mX3_pen)]) := Or.inl ⟨_, _, RX3, TX3, rfl, by decide, rfl, rfl, mok_X3_pen, (by decide +kernel), ⟨Or.inl q1442, (fun z => absurd rfl z)⟩, q1443, q1444, q122⟩
theorem gok_L_44 : GOk (cnm 26) 44 (2, 2, [(3, mX3_cell)]) := Or.inl ⟨_, _, RX3, TX3, rfl, by decide, rfl, rfl, mok_X3_cell, (by decide +kernel), ⟨Or.inl q1458, (fun z => absurd rfl z)⟩, q1459, q1460, q122⟩
theorem gok_L_68 : GOk (cnm 26) 68 (2, 0, [(3, mX3_undo)]) := Or.inl ⟨_, _, RX3, TX3, rfl, by decide, rfl, rfl, mok_X3_undo, (by decide +kernel), ⟨Or.inl q1467, (fun z => absurd rfl z)⟩, q1468, q1469, q122⟩
theorem gok_L_48 : GOk (cnm 26) 48 (2, 0, [(3, mX3_day)]) := Or.inl ⟨_, _, RX3, TX3, rfl, by decide, rfl, rfl, mok_X3_day, (by decide +kernel), ⟨Or.inl q1483, (fun z => absurd rfl z)⟩, q1484, q1485, q122⟩
theorem gok_L_52 : GOk (cnm 26) 52 (2, 1, [(3, mX3_stay)]) := Or.inl ⟨_, _, RX3, TX3, rfl, by decide, rfl, rfl, mok_X3_stay, (by decide +kernel), ⟨Or.inl q1548, (fun z => absurd rfl z)⟩, q1549, q1550, q122⟩
theorem gok_L_56 : GOk (cnm 26) 56 (2, 2, [(3, mX3_set)]) := Or.inl ⟨_, _, RX3, TX3, rfl, by decide, rfl, rfl, mok_X3_set, (by decide +kernel), ⟨Or.inl q1552, (fun z => absurd rfl z)⟩, q1553, q1554, q122⟩
theorem gok_L_60 : GOk (cnm 26) 60 (2, 2, [(3, mX3_bend)]) := Or.inl ⟨_, _, RX3, TX3, rfl, by decide, rfl, rfl, mok_X3_bend, (by decide +kernel), ⟨Or.inl q1556, (fun z => absurd rfl z)⟩, q1557, q1558, q122⟩
theorem gok_L_64 : GOk (cnm 26) 64 (2, 1, [(3, mX3_blot)]) := Or.inl ⟨_, _, RX3, TX3, rfl, by decide, rfl, rfl, mok_X3_blot, (by decide +kernel), ⟨Or.inl q1561, (fun z => absurd rfl z)⟩, q1562, q1563, q122⟩
theorem gok_L_73 : GOk (cnm 26) 73 (2, 3, [(3, mX3_ahead)]) := Or.inl ⟨_, _, RX3, TX3, rfl, by decide, rfl, rfl, mok_X3_ahead, (by decide +kernel), ⟨Or.inl q1565, (fun z => absurd rfl z)⟩, q1566, q1567, q122⟩
theorem gok_L_77 : GOk (cnm 26) 77 (2, 0, [(3, mX3_sign)]) := Or.inl ⟨_, _, RX3, TX3, rfl, by decide, rfl, rfl, mok_X3_sign, (by decide +kernel), ⟨Or.inl q1599, (fun z => absurd rfl z)⟩, q1600, q1601, q122⟩
theorem gok_L_81 : GOk (cnm 26) 81 (2, 0, [(3, mX3_clean)]) := Or.inl ⟨_, _, RX3, TX3, rfl, by decide, rfl, rfl, mok_X3_clean, (by decide +kernel), ⟨Or.inl q1611, (fun z => absurd rfl z)⟩, q1612, q1613, q122⟩
theorem gok_L_85 : GOk (cnm 26) 85 (2, 2, [(3, mX3_hold)]) := Or.inl ⟨_, _, RX3, TX3, rfl, by decide, rfl, rfl, mok_X3_hold, (by decide +kernel), ⟨Or.inl q1615, (fun z => absurd rfl z)⟩, q1616, q1617, q122⟩
theorem gok_L_89 : GOk (cnm 26) 89 (2, 2, [(3, mX3_wrote)]) := Or.inl ⟨_, _, RX3, TX3, rfl, by decide, rfl, rfl, mok_X3_wrote, (by decide +kernel), ⟨Or.inl q1627, (fun z => absurd rfl z)⟩, q1628, q1629, q122⟩
theorem gok_L_94 : GOk (cnm 26) 94 (2, 4, [(3, mX3_came)]) := Or.inl ⟨_, _, RX3, TX3, rfl, by decide, rfl, rfl, mok_X3_came, (by decide +kernel), ⟨Or.inl q1635, (fun z => absurd rfl z)⟩, q1636, q1637, q122⟩
theorem gok_L_98 : GOk (cnm 26) 98 (2, 2, [(3, mX3_change)]) := Or.inl ⟨_, _, RX3, TX3, rfl, by decide, rfl, rfl, mok_X3_change, (by decide +kernel), ⟨Or.inl q1639, (fun z => absurd rfl z)⟩, q1640, q1641, q122⟩
theorem gok_L_102 : GOk (cnm 26) 102 (2, 4, [(3, mX3_game)]) := Or.inl ⟨_, _, RX3, TX3, rfl, by decide, rfl, rfl, mok_X3_game, (by decide +kernel), ⟨Or.inl q1647, (fun z => absurd rfl z)⟩, q1648, q1649, q122⟩
theorem gok_L_106 : GOk (cnm 26) 106 (2, 4, [(3, mX3_rests)]) := Or.inl ⟨_, _, RX3, TX3, rfl, by decide, rfl, rfl, mok_X3_rests, (by decide +kernel), ⟨Or.inl q1661, (fun z => absurd rfl z)⟩, q1662, q1663, q122⟩
theorem gok_L_110 : GOk (cnm 26) 110 (2, 2, [(3, mX3_pence)]) := Or.inl ⟨_, _, RX3, TX3, rfl, by decide, rfl, rfl, mok_X3_pence, (by decide +kernel), ⟨Or.inl q1674, (fun z => absurd rfl z)⟩, q1675, q1676, q122⟩
theorem gok_L_114 : GOk (cnm 26) 114 (2, 2, [(3, mX3_read)]) := Or.inl ⟨_, _, RX3, TX3, rfl, by decide, rfl, rfl, mok_X3_read, (by decide +kernel), ⟨Or.inl q1679, (fun z => absurd rfl z)⟩, q1680, q1681, q122⟩
theorem gok_L_118 : GOk (cnm 26) 118 (2, 3, [(3, mX3_note)]) := Or.inl ⟨_, _, RX3, TX3, rfl, by decide, rfl, rfl, mok_X3_note, (by decide +kernel), ⟨Or.inl q1691, (fun z => absurd rfl z)⟩, q1692, q1693, q122⟩
theorem gok_L_122 : GOk (cnm 26) 122 (2, 1, [(3, mX3_ruled)]) := Or.inl ⟨_, _, RX3, TX3, rfl, by decide, rfl, rfl, mok_X3_ruled, (by decide +kernel), ⟨Or.inl q1695, (fun z => absurd rfl z)⟩, q1696, q1697, q122⟩
theorem gok_L_126 : GOk (cnm 26) 126 (2, 2, [(3, mX3_look)]) := Or.inl ⟨_, _, RX3, TX3, rfl, by decide, rfl, rfl, mok_X3_look, (by decide +kernel), ⟨Or.inl q1703, (fun z => absurd rfl z)⟩, q1704, q1705, q122⟩
theorem gok_L_130 : GOk (cnm 26) 130 (2, 1, [(3, mX3_seed)]) := Or.inl ⟨_, _, RX3, TX3, rfl, by decide, rfl, rfl, mok_X3_seed, (by decide +kernel), ⟨Or.inl q1707, (fun z => absurd rfl z)⟩, q1708, q1709, q122⟩
theorem gok_L_134 : GOk (cnm 26) 134 (2, 4, [(3, mX3_rains)]) := Or.inl ⟨_, _, RX3, TX3, rfl, by decide, rfl, rfl, mok_X3_rains, (by decide +kernel), ⟨Or.inl q1711, (fun z => absurd rfl z)⟩, q1712, q1713, q122⟩
theorem gok_L_138 : GOk (cnm 26) 138 (2, 1, [(3, mX3_count)]) := Or.inl ⟨_, _, RX3, TX3, rfl, by decide, rfl, rfl, mok_X3_count, (by decide +kernel), ⟨Or.inl q1724, (fun z => absurd rfl z)⟩, q1725, q1726, q122⟩
theorem gok_L_142 : GOk (cnm 26) 142 (2, 1, [(3, mX3_image)]) := Or.inl ⟨_, _, RX3, TX3, rfl, by decide, rfl, rfl, mok_X3_image, (by decide +kernel), ⟨Or.inl q1728, (fun z => absurd rfl z)⟩, q1729, q1730, q122⟩
theorem gok_L_146 : GOk (cnm 26) 146 (2, 1, [(3, mX3_back)]) := Or.inl ⟨_, _, RX3, TX3, rfl, by decide, rfl, rfl, mok_X3_back, (by decide +kernel), ⟨Or.inl q1732, (fun z => absurd rfl z)⟩, q1733, q1734, q122⟩
theorem gok_L : ∀ p ∈ mt_L, GOk (cnm 26) p.1 p.2 := List.forall_mem_cons.mpr ⟨gok_L_9, List.forall_mem_cons.mpr ⟨gok_L_13, List.forall_mem_cons.mpr ⟨gok_L_18, List.forall_mem_cons.mpr ⟨gok_L_23, List.forall_mem_cons.mpr ⟨gok_L_28, List.forall_mem_cons.mpr ⟨gok_L_32, List.forall_mem_cons.mpr ⟨gok_L_36, List.forall_mem_cons.mpr ⟨gok_L_41, List.forall_mem_cons.mpr ⟨gok_L_65, List.forall_mem_cons.mpr ⟨gok_L_45, List.forall_mem_cons.mpr ⟨gok_L_49, List.forall_mem_cons.mpr ⟨gok_L_53, List.forall_mem_cons.mpr ⟨gok_L_57, List.forall_mem_cons.mpr ⟨gok_L_61, List.forall_mem_cons.mpr ⟨gok_L_69, List.forall_mem_cons.mpr ⟨gok_L_74, List.forall_mem_cons.mpr ⟨gok_L_78, List.forall_mem_cons.mpr ⟨gok_L_82, List.forall_mem_cons.mpr ⟨gok_L_86, List.forall_mem_cons.mpr ⟨gok_L_90, List.forall_mem_cons.mpr ⟨gok_L_95, List.forall_mem_cons.mpr ⟨gok_L_99, List.forall_mem_cons.mpr ⟨gok_L_103, List.forall_mem_cons.mpr ⟨gok_L_107, List.forall_mem_cons.mpr ⟨gok_L_111, List.forall_mem_cons.mpr ⟨gok_L_115, List.forall_mem_cons.mpr ⟨gok_L_119, List.forall_mem_cons.mpr ⟨gok_L_123, List.forall_mem_cons.mpr ⟨gok_L_127, List.forall_mem_cons.mpr ⟨gok_L_131, List.forall_mem_cons.mpr ⟨gok_L_135, List.forall_mem_cons.mpr ⟨gok_L_139, List.forall_mem_cons.mpr ⟨gok_L_143, List.forall_mem_cons.mpr ⟨gok_L_12, List.forall_mem_cons.mpr ⟨gok_L_17, List.forall_mem_cons.mpr ⟨gok_L_22, List.forall_mem_cons.mpr ⟨gok_L_27, List.forall_mem_cons.mpr ⟨gok_L_31, List.forall_mem_cons.mpr ⟨gok_L_35, List.forall_mem_cons.mpr ⟨gok_L_40, List.forall_mem_cons.mpr ⟨gok_L_44, List.forall_mem_cons.mpr ⟨gok_L_68, List.forall_mem_cons.mpr ⟨gok_L_48, List.forall_mem_cons.mpr ⟨gok_L_52, List.forall_mem_cons.mpr ⟨gok_L_56, List.forall_mem_cons.mpr ⟨gok_L_60, List.forall_mem_cons.mpr ⟨gok_L_64, List.forall_mem_cons.mpr ⟨gok_L_73, List.forall_mem_cons.mpr ⟨gok_L_77, List.forall_mem_cons.mpr ⟨gok_L_81, List.forall_mem_cons.mpr ⟨gok_L_85, List.forall_mem_cons.mpr ⟨gok_L_89, List.forall_mem_cons.mpr ⟨gok_L_94, List.forall_mem_cons.mpr ⟨gok_L_98, List.forall_mem_cons.mpr ⟨gok_L_102, List.forall_mem_cons.mpr ⟨gok_L_106, List.forall_mem_cons.mpr ⟨gok_L_110, List.forall_mem_cons.mpr ⟨gok_L_114, List.forall_mem_cons.mpr ⟨gok_L_118, List.forall_mem_cons.mpr ⟨gok_L_122, List.forall_mem_cons.mpr ⟨gok_L_126, List.forall_mem_cons.mpr ⟨gok_L_130, List.forall_mem_cons.mpr ⟨gok_L_134, List.forall_mem_cons.mpr ⟨gok_L_138, List.forall_mem_cons.mpr ⟨gok_L_142, List.forall_mem_cons.mpr ⟨gok_L_146, (fun _ h => by cases h)⟩⟩⟩⟩⟩⟩⟩⟩⟩⟩⟩⟩⟩⟩⟩⟩⟩⟩⟩⟩⟩⟩⟩⟩⟩⟩⟩⟩⟩⟩⟩⟩⟩⟩⟩⟩⟩⟩⟩⟩⟩⟩⟩⟩⟩⟩⟩⟩⟩⟩⟩⟩⟩⟩⟩⟩⟩⟩⟩⟩⟩⟩⟩⟩⟩⟩
theorem gok_all_L : ∀ q ∈ mtabL, ∀ p ∈ q.2, GOk (cnm q.1) p.1 p.2 := List.forall_mem_cons.mpr ⟨gok_X0, List.forall_mem_cons.mpr ⟨gok_X1, List.forall_mem_cons.mpr ⟨gok_X2, List.forall_mem_cons.mpr ⟨gok_X3, List.forall_mem_cons.mpr ⟨gok_X4, List.forall_mem_cons.mpr ⟨gok_X5, List.forall_mem_cons.mpr ⟨gok_X6, List.forall_mem_cons.mpr ⟨gok_X7, List.forall_mem_cons.mpr ⟨gok_X8, List.forall_mem_cons.mpr ⟨gok_X9, List.forall_mem_cons.mpr ⟨gok_X10, List.forall_mem_cons.mpr ⟨gok_X11, List.forall_mem_cons.mpr ⟨gok_X12, List.forall_mem_cons.mpr ⟨gok_X13, List.forall_mem_cons.mpr ⟨gok_X14, List.forall_mem_cons.mpr ⟨gok_X15, List.forall_mem_cons.mpr ⟨gok_J0, List.forall_mem_cons.mpr ⟨gok_J1, List.forall_mem_cons.mpr ⟨gok_J2, List.forall_mem_cons.mpr ⟨gok_J3, List.forall_mem_cons.mpr ⟨gok_J4, List.forall_mem_cons.mpr ⟨gok_J5, List.forall_mem_cons.mpr ⟨gok_J6, List.forall_mem_cons.mpr ⟨gok_J7, List.forall_mem_cons.mpr ⟨gok_J8, List.forall_mem_cons.mpr ⟨gok_J9, List.forall_mem_cons.mpr ⟨gok_L, (fun _ h => by cases h)⟩⟩⟩⟩⟩⟩⟩⟩⟩⟩⟩⟩⟩⟩⟩⟩⟩⟩⟩⟩⟩⟩⟩⟩⟩⟩⟩
theorem gok_all (cn : Nat) : ∀ p ∈ mtab cn, GOk (cnm cn) p.1 p.2 := fun p h => by
  obtain ⟨l, h1, h2⟩ := lk_getD h
  exact gok_all_L _ h1 p h2
theorem oi_inst : Cond.instanceMethod Lib.objectInit ∈ lw_all := q148
theorem oi_code : Cond.code Lib.objectInit ⟨#[0xb1]⟩ 1 none ∈ lw_all := q149
theorem mm_stat : Cond.static Lib.Math.max.name ∈ lw_all := q1031
theorem mm_ini : Cond.initialized "java/lang/Math" ∈ lw_all := q140
theorem mm_code : Cond.code Lib.Math.max.name Lib.Math.max.code 2 (some .int) ∈ lw_all := q1032
theorem ac_nat : Cond.native arraycopyName ∈ lw_all := q476
theorem ac_stat : Cond.static arraycopyName ∈ lw_all := q475
theorem ac_ini : Cond.initialized "java/lang/System" ∈ lw_all := q124
