set_option maxRecDepth 100000
/-! THE COMPONENT'S WORLD: the sheet's fixed objects as a function of the state, the cells and the rows' arrays by their addresses, all over a heap hp of what never changes -/
abbrev cAr : Type := (Nat → Int32) ⊕ (Nat → Int64) ⊕ (Nat → UInt32) ⊕ (Nat → UInt64) ⊕ (Nat → Option Nat)
/-- a sight: int arrays, double arrays by field, its stamp -/
abbrev cG : Type := (Nat → Nat → Int32) × (Nat → Nat → UInt64) × Int32
/-- what telling leaves alone: int arrays, double arrays, reference arrays of the sheet, BitSets, the deque, rows, the cells' formulas, the rows' contents -/
abbrev cX : Type := (Nat → Nat → Int32) × (Nat → Nat → UInt64) × (Nat → Nat → Option Nat) × (Nat → (Nat → Int64) × Int32) × ((Nat → Option Nat) × Int32 × Int32) × (Nat → Option Nat) × (Nat → Option Nat) × (Nat → cAr)
/-- the state: the sheet's ints by field, the table at hand, the sights, what the cells own, the rest -/
abbrev cS : Type := (Nat → Int32) × Option Nat × (Nat → cG) × (Nat → UInt64) × cX
/-- places: the cells' addresses, their classes, the rows' arrays (address, kind, length) -/
abbrev cP : Type := (Nat → Nat) × (Nat → Nat) × (Nat → Option (Nat × Nat × Nat))
def cwL : List (Nat × Nat × Nat × Nat × Nat) := [(0, 0, 0, 0, 0), (3, 0, 0, 7, 24), (3, 1, 0, 8, 6), (4, 5, 0, 9, 6), (5, 6, 0, 0, 0), (7, 6, 8, 1, 8), (7, 6, 9, 1, 8), (6, 6, 10, 2, 8), (6, 6, 11, 2, 8), (7, 6, 1, 1, 24), (6, 6, 3, 0, 24), (6, 6, 4, 2, 24), (6, 6, 5, 2, 24), (7, 6, 2, 1, 1), (6, 6, 6, 2, 1), (6, 6, 7, 2, 1), (4, 11, 0, 10, 24), (4, 12, 0, 10, 24), (1, 13, 0, 0, 24), (1, 14, 0, 0, 24), (1, 15, 0, 0, 6), (8, 48, 0, 0, 0), (9, 48, 0, 4, 1), (1, 17, 0, 0, 30), (10, 0, 0, 0, 0), (11, 0, 0, 13, 33), (1, 19, 0, 2, 96), (2, 21, 0, 1, 8), (1, 22, 0, 2, 8), (2, 23, 0, 1, 24), (1, 24, 0, 0, 24), (2, 25, 0, 1, 24), (3, 26, 0, 11, 24), (3, 27, 0, 8, 6), (4, 29, 0, 12, 4), (13, 0, 0, 0, 0), (8, 0, 0, 0, 0), (9, 0, 0, 4, 1), (8, 24, 0, 0, 0), (9, 24, 0, 4, 1), (13, 1, 0, 0, 0), (8, 1, 0, 0, 0), (9, 1, 0, 4, 1), (8, 25, 0, 0, 0), (9, 25, 0, 4, 1), (13, 2, 0, 0, 0), (8, 2, 0, 0, 0), (9, 2, 0, 4, 1), (8, 26, 0, 0, 0), (9, 26, 0, 4, 1), (13, 3, 0, 0, 0), (8, 3, 0, 0, 0), (9, 3, 0, 4, 1), (8, 27, 0, 0, 0), (9, 27, 0, 4, 1), (13, 4, 0, 0, 0), (8, 4, 0, 0, 0), (9, 4, 0, 4, 1), (8, 28, 0, 0, 0), (9, 28, 0, 4, 1), (13, 5, 0, 0, 0), (8, 5, 0, 0, 0), (9, 5, 0, 4, 1), (8, 29, 0, 0, 0), (9, 29, 0, 4, 1), (13, 6, 0, 0, 0), (8, 6, 0, 0, 0), (9, 6, 0, 4, 1), (8, 30, 0, 0, 0), (9, 30, 0, 4, 1), (13, 7, 0, 0, 0), (8, 7, 0, 0, 0), (9, 7, 0, 4, 1), (8, 31, 0, 0, 0), (9, 31, 0, 4, 1), (13, 8, 0, 0, 0), (8, 8, 0, 0, 0), (9, 8, 0, 4, 1), (8, 32, 0, 0, 0), (9, 32, 0, 4, 1), (13, 9, 0, 0, 0), (8, 9, 0, 0, 0), (9, 9, 0, 4, 1), (8, 33, 0, 0, 0), (9, 33, 0, 4, 1), (13, 10, 0, 0, 0), (8, 10, 0, 0, 0), (9, 10, 0, 4, 1), (8, 34, 0, 0, 0), (9, 34, 0, 4, 1), (13, 11, 0, 0, 0), (8, 11, 0, 0, 0), (9, 11, 0, 4, 1), (8, 35, 0, 0, 0), (9, 35, 0, 4, 1), (13, 12, 0, 0, 0), (8, 12, 0, 0, 0), (9, 12, 0, 4, 1), (8, 36, 0, 0, 0), (9, 36, 0, 4, 1), (13, 13, 0, 0, 0), (8, 13, 0, 0, 0), (9, 13, 0, 4, 1), (8, 37, 0, 0, 0), (9, 37, 0, 4, 1), (13, 14, 0, 0, 0), (8, 14, 0, 0, 0), (9, 14, 0, 4, 1), (8, 38, 0, 0, 0), (9, 38, 0, 4, 1), (13, 15, 0, 0, 0), (8, 15, 0, 0, 0), (9, 15, 0, 4, 1), (8, 39, 0, 0, 0), (9, 39, 0, 4, 1), (13, 16, 0, 0, 0), (8, 16, 0, 0, 0), (9, 16, 0, 4, 1), (8, 40, 0, 0, 0), (9, 40, 0, 4, 1), (13, 17, 0, 0, 0), (8, 17, 0, 0, 0), (9, 17, 0, 4, 1), (8, 41, 0, 0, 0), (9, 41, 0, 4, 1), (13, 18, 0, 0, 0), (8, 18, 0, 0, 0), (9, 18, 0, 4, 1), (8, 42, 0, 0, 0), (9, 42, 0, 4, 1), (13, 19, 0, 0, 0), (8, 19, 0, 0, 0), (9, 19, 0, 4, 1), (8, 43, 0, 0, 0), (9, 43, 0, 4, 1), (13, 20, 0, 0, 0), (8, 20, 0, 0, 0), (9, 20, 0, 4, 1), (8, 44, 0, 0, 0), (9, 44, 0, 4, 1), (13, 21, 0, 0, 0), (8, 21, 0, 0, 0), (9, 21, 0, 4, 1), (8, 45, 0, 0, 0), (9, 45, 0, 4, 1), (13, 22, 0, 0, 0), (8, 22, 0, 0, 0), (9, 22, 0, 4, 1), (8, 46, 0, 0, 0), (9, 46, 0, 4, 1), (13, 23, 0, 0, 0), (8, 23, 0, 0, 0), (9, 23, 0, 4, 1), (8, 47, 0, 0, 0), (9, 47, 0, 4, 1), (5, 0, 0, 0, 0), (7, 0, 8, 1, 8), (7, 0, 9, 1, 8), (6, 0, 10, 2, 8), (6, 0, 11, 2, 8), (7, 0, 1, 1, 1536), (6, 0, 3, 0, 1536), (6, 0, 4, 2, 1536), (6, 0, 5, 2, 1536), (7, 0, 2, 1, 64), (6, 0, 6, 2, 64), (6, 0, 7, 2, 64), (5, 1, 0, 0, 0), (7, 1, 8, 1, 8), (7, 1, 9, 1, 8), (6, 1, 10, 2, 8), (6, 1, 11, 2, 8), (7, 1, 1, 1, 1536), (6, 1, 3, 0, 1536), (6, 1, 4, 2, 1536), (6, 1, 5, 2, 1536), (7, 1, 2, 1, 64), (6, 1, 6, 2, 64), (6, 1, 7, 2, 64), (5, 2, 0, 0, 0), (7, 2, 8, 1, 8), (7, 2, 9, 1, 8), (6, 2, 10, 2, 8), (6, 2, 11, 2, 8), (7, 2, 1, 1, 1536), (6, 2, 3, 0, 1536), (6, 2, 4, 2, 1536), (6, 2, 5, 2, 1536), (7, 2, 2, 1, 64), (6, 2, 6, 2, 64), (6, 2, 7, 2, 64), (5, 3, 0, 0, 0), (7, 3, 8, 1, 8), (7, 3, 9, 1, 8), (6, 3, 10, 2, 8), (6, 3, 11, 2, 8), (7, 3, 1, 1, 1536), (6, 3, 3, 0, 1536), (6, 3, 4, 2, 1536), (6, 3, 5, 2, 1536), (7, 3, 2, 1, 64), (6, 3, 6, 2, 64), (6, 3, 7, 2, 64), (5, 4, 0, 0, 0), (7, 4, 8, 1, 8), (7, 4, 9, 1, 8), (6, 4, 10, 2, 8), (6, 4, 11, 2, 8), (7, 4, 1, 1, 1536), (6, 4, 3, 0, 1536), (6, 4, 4, 2, 1536), (6, 4, 5, 2, 1536), (7, 4, 2, 1, 64), (6, 4, 6, 2, 64), (6, 4, 7, 2, 64), (5, 5, 0, 0, 0), (7, 5, 8, 1, 8), (7, 5, 9, 1, 8), (6, 5, 10, 2, 8), (6, 5, 11, 2, 8), (7, 5, 1, 1, 1536), (6, 5, 3, 0, 1536), (6, 5, 4, 2, 1536), (6, 5, 5, 2, 1536), (7, 5, 2, 1, 64), (6, 5, 6, 2, 64), (6, 5, 7, 2, 64), (12, 0, 0, 0, 0), (12, 1, 0, 0, 0), (12, 2, 0, 0, 0), (12, 3, 0, 0, 0)]
def cSA (s : Nat) : Nat := if s < 6 then 155 + 12 * s else 4
def cBA (b : Nat) : Nat := if b < 24 then 36 + 5 * b else if b < 48 then 38 + 5 * (b - 24) else 21
def cWd (s : Nat) : Nat := if s < 6 then 64 else 1
def csh (x0 : Nat) (σ : cS) : List Value := [.ref (x0 + 1), .ref (x0 + 2), .int (σ.1 2), .int (σ.1 3), .int (σ.1 4), .ref (x0 + 3), .ref (x0 + 4), va_rf σ.2.1, .int (σ.1 8), .int (σ.1 9), .int (σ.1 10), .ref (x0 + 16), .ref (x0 + 17), .ref (x0 + 18), .ref (x0 + 19), .ref (x0 + 20), .ref (x0 + 21), .ref (x0 + 23), .ref (x0 + 24), .ref (x0 + 26), .int (σ.1 20), .ref (x0 + 27), .ref (x0 + 28), .ref (x0 + 29), .ref (x0 + 30), .ref (x0 + 31), .ref (x0 + 32), .ref (x0 + 33), .int (σ.1 28), .ref (x0 + 34)]
def csg (x0 : Nat) (σ : cS) (s : Nat) : List Value := [.int (nI (cWd s)), .ref (x0 + (cSA s + 5)), .ref (x0 + (cSA s + 9)), .ref (x0 + (cSA s + 6)), .ref (x0 + (cSA s + 7)), .ref (x0 + (cSA s + 8)), .ref (x0 + (cSA s + 10)), .ref (x0 + (cSA s + 11)), .ref (x0 + (cSA s + 1)), .ref (x0 + (cSA s + 2)), .ref (x0 + (cSA s + 3)), .ref (x0 + (cSA s + 4)), .int (σ.2.2.1 s).2.2]
def ccr (x0 i : Nat) (j : Nat) : Option Nat := if i = 5 then some (x0 + cSA j) else if i = 11 then some (x0 + cBA j) else if i = 12 then some (x0 + cBA (24 + j)) else some (x0 + (227 + j))
def cwR (g : zG) (x0 : Nat) (σ : cS) (c : Nat × Nat × Nat × Nat × Nat) : va_E :=
  if c.1 = 0 then .inr (0, csh x0 σ)
  else if c.1 = 1 then .inl (g.2.1 c.2.2.2.1, c.2.2.2.2, .inl (σ.2.2.2.2.1 c.2.1))
  else if c.1 = 2 then .inl (g.2.1 1, c.2.2.2.2, .inr (.inr (.inr (.inl (σ.2.2.2.2.2.1 c.2.1)))))
  else if c.1 = 3 then .inl (g.2.1 c.2.2.2.1, c.2.2.2.2, .inr (.inr (.inr (.inr (σ.2.2.2.2.2.2.1 c.2.1)))))
  else if c.1 = 4 then .inl (g.2.1 c.2.2.2.1, c.2.2.2.2, .inr (.inr (.inr (.inr (ccr x0 c.2.1)))))
  else if c.1 = 5 then .inr (1, csg x0 σ c.2.1)
  else if c.1 = 6 then .inl (g.2.1 c.2.2.2.1, c.2.2.2.2, .inl ((σ.2.2.1 c.2.1).1 c.2.2.1))
  else if c.1 = 7 then .inl (g.2.1 1, c.2.2.2.2, .inr (.inr (.inr (.inl ((σ.2.2.1 c.2.1).2.1 c.2.2.1)))))
  else if c.1 = 8 then .inr (34, [.ref (x0 + (cBA c.2.1 + 1)), .int (σ.2.2.2.2.2.2.2.1 c.2.1).2, .int 1])
  else if c.1 = 9 then .inl (g.2.1 4, 1, .inr (.inl (σ.2.2.2.2.2.2.2.1 c.2.1).1))
  else if c.1 = 10 then .inr (35, [.ref (x0 + 25), .int σ.2.2.2.2.2.2.2.2.1.2.1, .int σ.2.2.2.2.2.2.2.2.1.2.2])
  else if c.1 = 11 then .inl (g.2.1 13, 33, .inr (.inr (.inr (.inr σ.2.2.2.2.2.2.2.2.1.1))))
  else .inr (3, [va_rf (σ.2.2.2.2.2.2.2.2.2.1 c.2.1)])
/-- the place of an object is told by its code -/
def cPos (c : Nat × Nat × Nat × Nat × Nat) : Nat :=
  if c.1 = 0 then 0
  else if c.1 = 5 then cSA c.2.1
  else if c.1 = 6 ∨ c.1 = 7 then cSA c.2.1 + [0, 5, 9, 6, 7, 8, 10, 11, 1, 2, 3, 4].getD c.2.2.1 0
  else if c.1 = 8 then cBA c.2.1
  else if c.1 = 9 then cBA c.2.1 + 1
  else if c.1 = 10 then 24
  else if c.1 = 11 then 25
  else if c.1 = 12 then 227 + c.2.1
  else if c.1 = 13 then 35 + 5 * c.2.1
  else [1, 2, 0, 0, 0, 3, 0, 0, 0, 0, 0, 16, 17, 18, 19, 20, 0, 23, 0, 26, 0, 27, 28, 29, 30, 31, 32, 33, 0, 34].getD c.2.1 0
theorem cwL_pos : ((List.range 231).all fun q => cPos (cwL.getD q (0, 0, 0, 0, 0)) == q) = true := by decide +kernel
theorem cwL_kd : ((List.range 231).all fun q => ((cwL.getD q (0, 0, 0, 0, 0)).1 == 13) == (decide (35 ≤ q) && decide (q < 155) && (q % 5 == 0)) && decide ((cwL.getD q (0, 0, 0, 0, 0)).1 < 14)) = true := by decide +kernel
theorem cwL_len : cwL.length = 231 := by decide +kernel
theorem cwL_lt {q : Nat} {c : Nat × Nat × Nat × Nat × Nat} (h : cwL[q]? = some c) : q < 231 := by
  rw [← cwL_len]; exact (List.getElem?_eq_some_iff.mp h).1
theorem cwL_gd {q : Nat} {c : Nat × Nat × Nat × Nat × Nat} (h : cwL[q]? = some c) : cwL.getD q (0, 0, 0, 0, 0) = c := by rw [List.getD_eq_getElem?_getD, h]; rfl
theorem cwL_p {q : Nat} {c : Nat × Nat × Nat × Nat × Nat} (h : cwL[q]? = some c) : cPos c = q := by
  have a := List.all_eq_true.mp cwL_pos q (List.mem_range.mpr (cwL_lt h))
  rw [beq_iff_eq, cwL_gd h] at a
  exact a
/-- offsets of the fixed objects -/
def cFX (q : Nat) : Prop := q < 231 ∧ ¬ (35 ≤ q ∧ q < 155 ∧ q % 5 = 0)
theorem cwL_fx {q : Nat} {c : Nat × Nat × Nat × Nat × Nat} (h : cwL[q]? = some c) : c.1 ≠ 13 ↔ cFX q := by
  have a := List.all_eq_true.mp cwL_kd q (List.mem_range.mpr (cwL_lt h))
  rw [cwL_gd h, Bool.and_eq_true, beq_iff_eq] at a
  have hq := cwL_lt h
  have b := a.1
  unfold cFX
  by_cases e : c.1 = 13
  · rw [beq_iff_eq.mpr e] at b
    have b := b.symm
    rw [Bool.and_eq_true, Bool.and_eq_true, decide_eq_true_eq, decide_eq_true_eq, beq_iff_eq] at b
    exact ⟨fun q => absurd e q, fun q => absurd ⟨b.1.1, b.1.2, b.2⟩ q.2⟩
  · have e2 : (c.1 == 13) = false := by rw [beq_eq_false_iff_ne]; exact e
    rw [e2] at b
    refine ⟨fun _ => ⟨hq, fun ⟨h1, h2, h3⟩ => ?_⟩, fun _ => e⟩
    rw [decide_eq_true h1, decide_eq_true h2, beq_iff_eq.mpr h3] at b
    exact absurd b (by decide)
theorem cwL_13 {y : Nat} {c : Nat × Nat × Nat × Nat × Nat} (h : cwL[y]? = some c) : c.1 < 14 := by
  have a := List.all_eq_true.mp cwL_kd y (List.mem_range.mpr (cwL_lt h))
  rw [cwL_gd h, Bool.and_eq_true, decide_eq_true_eq] at a
  exact a.2
def cIn (x0 q : Nat) : Prop := x0 ≤ q ∧ cFX (q - x0)
/-- a cell's object; a row's array -/
def cpl (P : cP) (σ : cS) (c : Nat) : va_E := .inr (P.2.1 c, [.int (nI c), va_rf (σ.2.2.2.2.2.2.2.2.2.2.1 c), .double (σ.2.2.2.1 c)])
noncomputable def cPlH (P : cP) (σ : cS) (hp : zHp) (q : Nat) : Option va_E := s_if (∃ c, c < 24 ∧ P.1 c = q) (some (cpl P σ (Classical.epsilon fun c => c < 24 ∧ P.1 c = q))) (hp q)
noncomputable def cRoH (g : zG) (P : cP) (σ : cS) (hp : zHp) (q : Nat) : Option va_E := s_if (∃ r t n, r < 4 ∧ P.2.2 r = some (q, t, n)) (match P.2.2 (Classical.epsilon fun r => ∃ t n, r < 4 ∧ P.2.2 r = some (q, t, n)) with | some (_, t, n) => some (.inl (g.2.1 t, n, σ.2.2.2.2.2.2.2.2.2.2.2 (Classical.epsilon fun r => ∃ t n, r < 4 ∧ P.2.2 r = some (q, t, n)))) | none => none) (cPlH P σ hp q)
noncomputable def cput (g : zG) (x0 : Nat) (P : cP) (σ : cS) (hp : zHp) : zHp := fun q => s_if (cIn x0 q) ((cwL[q - x0]?).map (cwR g x0 σ)) (cRoH g P σ hp q)
/-- places are apart -/
def cW (g : zG) (x0 : Nat) (P : cP) (hp : zHp) : Prop := zB g ≤ x0 ∧ (∀ q, cIn x0 q → hp q = none) ∧ (∀ c, c < 24 → ¬ cIn x0 (P.1 c) ∧ hp (P.1 c) = none ∧ zB g ≤ P.1 c ∧ P.2.1 c ∈ [2, 6, 7, 8, 9, 10]) ∧ (∀ c e, c < 24 → e < 24 → P.1 c = P.1 e → c = e) ∧ (∀ r a t n, r < 4 → P.2.2 r = some (a, t, n) → ¬ cIn x0 a ∧ hp a = none ∧ zB g ≤ a ∧ ∀ c, c < 24 → P.1 c ≠ a) ∧ (∀ r r' a t n t' n', r < 4 → r' < 4 → P.2.2 r = some (a, t, n) → P.2.2 r' = some (a, t', n') → r = r')
section CW
variable {g : zG} {x0 : Nat} {P : cP} {σ σ' : cS} {hp : zHp}
theorem cput_x {q : Nat} {c : Nat × Nat × Nat × Nat × Nat} (h : cwL[q]? = some c) (hc : c.1 ≠ 13) : cput g x0 P σ hp (x0 + q) = some (cwR g x0 σ c) := by
  have hf := (cwL_fx h).mp hc
  unfold cput
  rw [s_if_p ⟨by omega, by rw [show x0 + q - x0 = q by omega]; exact hf⟩, show x0 + q - x0 = q by omega, h]
  rfl
theorem cput_c (hW : cW g x0 P hp) {c : Nat} (hc : c < 24) : cput g x0 P σ hp (P.1 c) = some (cpl P σ c) := by
  obtain ⟨-, -, h1, h2, h3, -⟩ := hW
  unfold cput
  rw [s_if_n (h1 c hc).1]
  unfold cRoH
  rw [s_if_n (by rintro ⟨r, t, n, hr, e⟩; exact (h3 r _ t n hr e).2.2.2 c hc rfl)]
  unfold cPlH
  have hx : ∃ e, e < 24 ∧ P.1 e = P.1 c := ⟨c, hc, rfl⟩
  rw [s_if_p hx]
  have he := Classical.epsilon_spec hx
  rw [h2 _ c he.1 hc he.2]
theorem cput_r (hW : cW g x0 P hp) {r a t n : Nat} (hr : r < 4) (e : P.2.2 r = some (a, t, n)) : cput g x0 P σ hp a = some (.inl (g.2.1 t, n, σ.2.2.2.2.2.2.2.2.2.2.2 r)) := by
  obtain ⟨-, -, -, -, h3, h4⟩ := hW
  unfold cput
  rw [s_if_n (h3 r a t n hr e).1]
  unfold cRoH
  have hx : ∃ r t n, r < 4 ∧ P.2.2 r = some (a, t, n) := ⟨r, t, n, hr, e⟩
  rw [s_if_p hx]
  have hx2 : ∃ r, ∃ t n, r < 4 ∧ P.2.2 r = some (a, t, n) := hx
  have he := Classical.epsilon_spec hx2
  obtain ⟨t', n', hr', e'⟩ := he
  have := h4 _ r a t' n' t n hr' hr e' e
  rw [this, e]
theorem cput_h (hW : cW g x0 P hp) {a : Nat} {e : va_E} (h : hp a = some e) : cput g x0 P σ hp a = some e := by
  obtain ⟨-, h0, h1, h2, h3, h4⟩ := hW
  unfold cput
  rw [s_if_n (fun q => by rw [h0 a q] at h; cases h)]
  unfold cRoH
  rw [s_if_n (by rintro ⟨r, t, n, hr, e⟩; rw [(h3 r a t n hr e).2.1] at h; cases h)]
  unfold cPlH
  rw [s_if_n (by rintro ⟨c, hc, rfl⟩; rw [(h1 c hc).2.1] at h; cases h)]
  exact h
/-- a fixed object changes -/
theorem cput_up {q : Nat} {c : Nat × Nat × Nat × Nat × Nat} {e : va_E} (h : cwL[q]? = some c) (hc : c.1 ≠ 13) (he : cwR g x0 σ' c = e) (ho : ∀ y c', cwL[y]? = some c' → c'.1 < 13 → y ≠ q → cwR g x0 σ' c' = cwR g x0 σ c') (hP : σ'.2.2.2.2.2.2.2.2.2.2.1 = σ.2.2.2.2.2.2.2.2.2.2.1) (hO : σ'.2.2.2.1 = σ.2.2.2.1) (hR : σ'.2.2.2.2.2.2.2.2.2.2.2 = σ.2.2.2.2.2.2.2.2.2.2.2) : va_up (cput g x0 P σ hp) (x0 + q) (some e) = cput g x0 P σ' hp := by
  funext y
  by_cases hy : y = x0 + q
  · subst hy
    simp only [va_up, if_true]
    rw [cput_x h hc, he]
  · simp only [va_up, if_neg hy]
    unfold cput
    by_cases hi : cIn x0 y
    · rw [s_if_p hi, s_if_p hi]
      have hl : y - x0 < cwL.length := by rw [cwL_len]; exact hi.2.1
      have := hi.1
      rw [List.getElem?_eq_getElem hl]
      simp only [Option.map_some]
      have h1 := (cwL_fx (List.getElem?_eq_getElem hl)).mpr hi.2
      have h2 := cwL_13 (List.getElem?_eq_getElem hl)
      rw [ho (y - x0) _ (List.getElem?_eq_getElem hl) (by omega) (by omega)]
    · rw [s_if_n hi, s_if_n hi]
      unfold cRoH cPlH cpl
      rw [hP, hO, hR]
theorem cput_upc (hW : cW g x0 P hp) {c : Nat} (hc : c < 24) {e : va_E} (he : cpl P σ' c = e) (ho : ∀ y, y < 24 → y ≠ c → cpl P σ' y = cpl P σ y) (hF : ∀ k, cwR g x0 σ' k = cwR g x0 σ k) (hR : σ'.2.2.2.2.2.2.2.2.2.2.2 = σ.2.2.2.2.2.2.2.2.2.2.2) : va_up (cput g x0 P σ hp) (P.1 c) (some e) = cput g x0 P σ' hp := by
  funext y
  by_cases hy : y = P.1 c
  · subst hy
    simp only [va_up, if_true]
    rw [cput_c hW hc, he]
  · simp only [va_up, if_neg hy]
    by_cases hi : cIn x0 y
    · unfold cput
      rw [s_if_p hi, s_if_p hi, show cwR g x0 σ' = cwR g x0 σ from funext hF]
    · by_cases hx : ∃ e, e < 24 ∧ P.1 e = y
      · obtain ⟨e, h1, rfl⟩ := hx
        rw [cput_c hW h1, cput_c hW h1, ho e h1 (fun q => hy (by rw [q]))]
      · unfold cput
        rw [s_if_n hi, s_if_n hi]
        unfold cRoH cPlH
        rw [s_if_n hx, s_if_n hx, hR]
theorem cput_upr (hW : cW g x0 P hp) {r a t n : Nat} (hr : r < 4) (hp' : P.2.2 r = some (a, t, n)) {x : cAr} (he : σ'.2.2.2.2.2.2.2.2.2.2.2 = va_up σ.2.2.2.2.2.2.2.2.2.2.2 r x) (hF : ∀ k, cwR g x0 σ' k = cwR g x0 σ k) (hP : ∀ c, cpl P σ' c = cpl P σ c) : va_up (cput g x0 P σ hp) a (some (.inl (g.2.1 t, n, x))) = cput g x0 P σ' hp := by
  funext y
  by_cases hy : y = a
  · subst hy
    simp only [va_up, if_true]
    rw [cput_r hW hr hp', he, va_s]
  · simp only [va_up, if_neg hy]
    unfold cput
    rw [show cwR g x0 σ' = cwR g x0 σ from funext hF]
    by_cases hi : cIn x0 y
    · rw [s_if_p hi, s_if_p hi]
    · rw [s_if_n hi, s_if_n hi]
      unfold cRoH cPlH
      rw [show cpl P σ' = cpl P σ from funext hP]
      by_cases hx : ∃ r t n, r < 4 ∧ P.2.2 r = some (y, t, n)
      · rw [s_if_p hx, s_if_p hx]
        have hx2 : ∃ r, ∃ t n, r < 4 ∧ P.2.2 r = some (y, t, n) := hx
        obtain ⟨t', n', hr', e'⟩ := Classical.epsilon_spec hx2
        rw [e']
        simp only []
        rw [he, va_o]
        intro q
        rw [q, hp'] at e'
        cases e'
        exact hy rfl
      · rw [s_if_n hx, s_if_n hx]
end CW
