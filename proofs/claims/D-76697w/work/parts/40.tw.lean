set_option maxRecDepth 100000
/-! THE REFERENCE'S WORLD: all of its heap as a function of its state: numbers si, sd by field, arrays ai, ad by field, row, place -/
abbrev tS : Type := (Nat → Int32) × (Nat → UInt64) × (Nat → Nat → Nat → Int32) × (Nat → Nat → Nat → UInt64)
def twL : List (Nat × Nat × Nat × Nat) := [(999, 0, 99, 0), (0, 0, 0, 24), (1, 0, 3, 24), (2, 0, 1, 24), (3, 0, 0, 24), (4, 0, 14, 24), (4, 0, 0, 96), (4, 1, 0, 96), (4, 2, 0, 96), (4, 3, 0, 96), (4, 4, 0, 96), (4, 5, 0, 96), (4, 6, 0, 96), (4, 7, 0, 96), (4, 8, 0, 96), (4, 9, 0, 96), (4, 10, 0, 96), (4, 11, 0, 96), (4, 12, 0, 96), (4, 13, 0, 96), (4, 14, 0, 96), (4, 15, 0, 96), (4, 16, 0, 96), (4, 17, 0, 96), (4, 18, 0, 96), (4, 19, 0, 96), (4, 20, 0, 96), (4, 21, 0, 96), (4, 22, 0, 96), (4, 23, 0, 96), (5, 0, 15, 24), (5, 0, 1, 96), (5, 1, 1, 96), (5, 2, 1, 96), (5, 3, 1, 96), (5, 4, 1, 96), (5, 5, 1, 96), (5, 6, 1, 96), (5, 7, 1, 96), (5, 8, 1, 96), (5, 9, 1, 96), (5, 10, 1, 96), (5, 11, 1, 96), (5, 12, 1, 96), (5, 13, 1, 96), (5, 14, 1, 96), (5, 15, 1, 96), (5, 16, 1, 96), (5, 17, 1, 96), (5, 18, 1, 96), (5, 19, 1, 96), (5, 20, 1, 96), (5, 21, 1, 96), (5, 22, 1, 96), (5, 23, 1, 96), (6, 0, 3, 6), (7, 0, 0, 6), (8, 0, 0, 6), (9, 0, 0, 6), (10, 0, 0, 12), (11, 0, 15, 12), (11, 0, 1, 8), (11, 1, 1, 8), (11, 2, 1, 8), (11, 3, 1, 8), (11, 4, 1, 8), (11, 5, 1, 8), (11, 6, 1, 8), (11, 7, 1, 8), (11, 8, 1, 8), (11, 9, 1, 8), (11, 10, 1, 8), (11, 11, 1, 8), (12, 0, 0, 24), (13, 0, 14, 24), (13, 0, 0, 6), (13, 1, 0, 6), (13, 2, 0, 6), (13, 3, 0, 6), (13, 4, 0, 6), (13, 5, 0, 6), (13, 6, 0, 6), (13, 7, 0, 6), (13, 8, 0, 6), (13, 9, 0, 6), (13, 10, 0, 6), (13, 11, 0, 6), (13, 12, 0, 6), (13, 13, 0, 6), (13, 14, 0, 6), (13, 15, 0, 6), (13, 16, 0, 6), (13, 17, 0, 6), (13, 18, 0, 6), (13, 19, 0, 6), (13, 20, 0, 6), (13, 21, 0, 6), (13, 22, 0, 6), (13, 23, 0, 6), (14, 0, 3, 24), (15, 0, 0, 24), (16, 0, 3, 24), (17, 0, 0, 24), (19, 0, 16, 7), (19, 0, 3, 24), (19, 1, 3, 24), (19, 2, 3, 24), (19, 3, 3, 24), (19, 4, 3, 24), (19, 5, 3, 24), (19, 6, 3, 24), (20, 0, 15, 7), (20, 0, 1, 24), (20, 1, 1, 24), (20, 2, 1, 24), (20, 3, 1, 24), (20, 4, 1, 24), (20, 5, 1, 24), (20, 6, 1, 24), (21, 0, 14, 7), (21, 0, 0, 24), (21, 1, 0, 24), (21, 2, 0, 24), (21, 3, 0, 24), (21, 4, 0, 24), (21, 5, 0, 24), (21, 6, 0, 24), (22, 0, 14, 7), (22, 0, 0, 24), (22, 1, 0, 24), (22, 2, 0, 24), (22, 3, 0, 24), (22, 4, 0, 24), (22, 5, 0, 24), (22, 6, 0, 24), (23, 0, 16, 7), (23, 0, 3, 6), (23, 1, 3, 6), (23, 2, 3, 6), (23, 3, 3, 6), (23, 4, 3, 6), (23, 5, 3, 6), (23, 6, 3, 6), (24, 0, 15, 7), (24, 0, 1, 30), (24, 1, 1, 30), (24, 2, 1, 30), (24, 3, 1, 30), (24, 4, 1, 30), (24, 5, 1, 30), (24, 6, 1, 30), (25, 0, 14, 7), (25, 0, 0, 30), (25, 1, 0, 30), (25, 2, 0, 30), (25, 3, 0, 30), (25, 4, 0, 30), (25, 5, 0, 30), (25, 6, 0, 30), (27, 0, 1, 4800), (28, 0, 0, 4800), (29, 0, 0, 4800), (33, 0, 0, 96), (35, 0, 0, 96), (36, 0, 1, 96), (47, 0, 0, 96), (48, 0, 1, 96), (49, 0, 3, 6), (50, 0, 0, 6), (55, 0, 1, 24), (56, 0, 3, 24), (58, 0, 0, 24), (59, 0, 0, 24), (60, 0, 3, 24), (61, 0, 3, 6), (62, 0, 1, 24), (63, 0, 14, 24), (63, 0, 0, 96), (63, 1, 0, 96), (63, 2, 0, 96), (63, 3, 0, 96), (63, 4, 0, 96), (63, 5, 0, 96), (63, 6, 0, 96), (63, 7, 0, 96), (63, 8, 0, 96), (63, 9, 0, 96), (63, 10, 0, 96), (63, 11, 0, 96), (63, 12, 0, 96), (63, 13, 0, 96), (63, 14, 0, 96), (63, 15, 0, 96), (63, 16, 0, 96), (63, 17, 0, 96), (63, 18, 0, 96), (63, 19, 0, 96), (63, 20, 0, 96), (63, 21, 0, 96), (63, 22, 0, 96), (63, 23, 0, 96), (64, 0, 15, 24), (64, 0, 1, 96), (64, 1, 1, 96), (64, 2, 1, 96), (64, 3, 1, 96), (64, 4, 1, 96), (64, 5, 1, 96), (64, 6, 1, 96), (64, 7, 1, 96), (64, 8, 1, 96), (64, 9, 1, 96), (64, 10, 1, 96), (64, 11, 1, 96), (64, 12, 1, 96), (64, 13, 1, 96), (64, 14, 1, 96), (64, 15, 1, 96), (64, 16, 1, 96), (64, 17, 1, 96), (64, 18, 1, 96), (64, 19, 1, 96), (64, 20, 1, 96), (64, 21, 1, 96), (64, 22, 1, 96), (64, 23, 1, 96), (65, 0, 0, 6), (66, 0, 0, 6), (67, 0, 0, 6), (68, 0, 0, 12), (69, 0, 15, 12), (69, 0, 1, 8), (69, 1, 1, 8), (69, 2, 1, 8), (69, 3, 1, 8), (69, 4, 1, 8), (69, 5, 1, 8), (69, 6, 1, 8), (69, 7, 1, 8), (69, 8, 1, 8), (69, 9, 1, 8), (69, 10, 1, 8), (69, 11, 1, 8), (70, 0, 0, 4), (71, 0, 0, 4), (72, 0, 15, 4), (72, 0, 1, 64), (72, 1, 1, 64), (72, 2, 1, 64), (72, 3, 1, 64), (73, 0, 16, 4), (73, 0, 3, 64), (73, 1, 3, 64), (73, 2, 3, 64), (73, 3, 3, 64), (74, 0, 1, 64), (75, 0, 3, 64)]
def twO : List Nat := [1, 2, 3, 4, 5, 30, 55, 56, 57, 58, 59, 60, 73, 74, 99, 100, 101, 102, 0, 103, 111, 119, 127, 135, 143, 151, 0, 159, 160, 161, 0, 0, 0, 162, 0, 163, 164, 0, 0, 0, 0, 0, 0, 0, 0, 0, 0, 165, 166, 167, 168, 0, 0, 0, 0, 169, 170, 0, 171, 172, 173, 174, 175, 176, 201, 226, 227, 228, 229, 230, 243, 244, 245, 250, 255, 256]
def twD : List Nat := [0, 0, 0, 0, 24, 24, 0, 0, 0, 0, 0, 12, 0, 24, 0, 0, 0, 0, 0, 7, 7, 7, 7, 7, 7, 7, 0, 0, 0, 0, 0, 0, 0, 0, 0, 0, 0, 0, 0, 0, 0, 0, 0, 0, 0, 0, 0, 0, 0, 0, 0, 0, 0, 0, 0, 0, 0, 0, 0, 0, 0, 0, 0, 24, 24, 0, 0, 0, 0, 12, 0, 0, 4, 4, 0, 0]
def twF (m0 : Nat) (τ : tS) (k : Nat) : Value := if twO.getD k 0 = 0 then (if k = 30 ∨ k = 53 ∨ k = 54 then .double (τ.2.1 k) else .int (τ.1 k)) else .ref (m0 + twO.getD k 0)
def twR (g : zG) (m0 : Nat) (τ : tS) (q : Nat) (r : Nat × Nat × Nat × Nat) : va_E := if r.2.2.1 = 1 then .inl (g.2.1 1, r.2.2.2, .inr (.inr (.inr (.inl (τ.2.2.2 r.1 r.2.1))))) else if r.2.2.1 = 0 ∨ r.2.2.1 = 3 then .inl (g.2.1 r.2.2.1, r.2.2.2, .inl (τ.2.2.1 r.1 r.2.1)) else .inl (g.2.1 r.2.2.1, r.2.2.2, .inr (.inr (.inr (.inr (fun j => some (m0 + q + 1 + j))))))
def tput (g : zG) (m0 : Nat) (τ : tS) (hp : zHp) : zHp := fun q => if q < m0 then hp q else if q = m0 then some (.inr (5, (List.range 76).map (twF m0 τ))) else if q < m0 + 257 then (twL[q - m0]?).map (twR g m0 τ (q - m0)) else hp q
theorem tput_0 (g : zG) (m0 : Nat) (τ : tS) (hp : zHp) : tput g m0 τ hp m0 = some (.inr (5, (List.range 76).map (twF m0 τ))) := by simp [tput]
theorem tput_q (g : zG) (m0 : Nat) (τ : tS) (hp : zHp) {q : Nat} (h0 : 0 < q) (h : q < 257) : tput g m0 τ hp (m0 + q) = (twL[q]?).map (twR g m0 τ q) := by
  simp only [tput]
  rw [if_neg (by omega), if_neg (by omega), if_pos (by omega), show m0 + q - m0 = q by omega]
theorem tput_o (g : zG) (m0 : Nat) (τ : tS) (hp : zHp) {q : Nat} (h : q < m0 ∨ m0 + 257 ≤ q) : tput g m0 τ hp q = hp q := by
  simp only [tput]
  rcases h with h | h
  · rw [if_pos h]
  · rw [if_neg (by omega), if_neg (by omega), if_neg (by omega)]
theorem twF_get {m0 : Nat} {τ : tS} {k : Nat} (hk : k < 76) : ((List.range 76).map (twF m0 τ))[k]? = some (twF m0 τ k) := by
  rw [List.getElem?_map, List.getElem?_range hk]; rfl
def tsI (τ : tS) (k : Nat) (v : Int32) : tS := (va_up τ.1 k v, τ.2)
def tsD (τ : tS) (k : Nat) (v : UInt64) : tS := (τ.1, va_up τ.2.1 k v, τ.2.2)
def taI (τ : tS) (k i : Nat) (f : Nat → Int32) : tS := (τ.1, τ.2.1, va_up τ.2.2.1 k (va_up (τ.2.2.1 k) i f), τ.2.2.2)
def taD (τ : tS) (k i : Nat) (f : Nat → UInt64) : tS := (τ.1, τ.2.1, τ.2.2.1, va_up τ.2.2.2 k (va_up (τ.2.2.2 k) i f))
theorem tw_gI {g : zG} {m0 : Nat} {τ : tS} {hp : zHp} {K : Int32 → Prop} (k : Nat) (hk : k < 76) {x : Int32} (hx : twF m0 τ k = .int x) : zgI (tput g m0 τ hp) (some m0) [5] k K = K x := by
  unfold zgI zo
  simp only [tput_0, twF_get hk, hx, zvI, List.mem_singleton, true_and]
theorem tw_gD {g : zG} {m0 : Nat} {τ : tS} {hp : zHp} {K : UInt64 → Prop} (k : Nat) (hk : k < 76) {x : UInt64} (hx : twF m0 τ k = .double x) : zgD (tput g m0 τ hp) (some m0) [5] k K = K x := by
  unfold zgD zo
  simp only [tput_0, twF_get hk, hx, zvD, List.mem_singleton, true_and]
theorem tw_gR {g : zG} {m0 : Nat} {τ : tS} {hp : zHp} {K : Option Nat → Prop} (k : Nat) (hk : k < 76) {o : Nat} (hx : twF m0 τ k = .ref o) : zgR (tput g m0 τ hp) (some m0) [5] k K = K (some o) := by
  unfold zgR zo
  simp only [tput_0, twF_get hk, hx, zvR, List.mem_singleton, true_and]
theorem tput_sI {g : zG} {m0 : Nat} {τ : tS} {hp : zHp} (k : Nat) (hk : k < 76) (ho : twO.getD k 0 = 0) (hd : ¬ (k = 30 ∨ k = 53 ∨ k = 54)) (v : Int32) : va_up (tput g m0 τ hp) m0 (some (.inr (5, ((List.range 76).map (twF m0 τ)).set k (.int v)))) = tput g m0 (tsI τ k v) hp := by
  funext q
  by_cases hq : q = m0
  · subst hq
    simp only [va_up, if_true, tput_0]
    congr 3
    apply List.ext_getElem?
    intro j
    by_cases hj : j < 76
    · by_cases hjk : j = k
      · subst hjk
        rw [List.getElem?_set_self (by simpa using hj), twF_get hj]
        simp only [twF, if_pos ho, if_neg hd, tsI, va_up, if_true]
      · rw [List.getElem?_set_ne (Ne.symm hjk), twF_get hj, twF_get hj]
        simp [twF, tsI, va_up, hjk]
    · rw [List.getElem?_eq_none (by simp; omega), List.getElem?_eq_none (by simp; omega)]
  · simp only [va_up, if_neg hq]
    simp only [tput, if_neg hq]
    rfl
theorem tput_sD {g : zG} {m0 : Nat} {τ : tS} {hp : zHp} (k : Nat) (hk : k < 76) (ho : twO.getD k 0 = 0) (hd : k = 30 ∨ k = 53 ∨ k = 54) (v : UInt64) : va_up (tput g m0 τ hp) m0 (some (.inr (5, ((List.range 76).map (twF m0 τ)).set k (.double v)))) = tput g m0 (tsD τ k v) hp := by
  funext q
  by_cases hq : q = m0
  · subst hq
    simp only [va_up, if_true, tput_0]
    congr 3
    apply List.ext_getElem?
    intro j
    by_cases hj : j < 76
    · by_cases hjk : j = k
      · subst hjk
        rw [List.getElem?_set_self (by simpa using hj), twF_get hj]
        simp only [twF, if_pos ho, if_pos hd, tsD, va_up, if_true]
      · rw [List.getElem?_set_ne (Ne.symm hjk), twF_get hj, twF_get hj]
        simp [twF, tsD, va_up, hjk]
    · rw [List.getElem?_eq_none (by simp; omega), List.getElem?_eq_none (by simp; omega)]
  · simp only [va_up, if_neg hq]
    simp only [tput, if_neg hq]
    rfl
theorem tw_pI {g : zG} {m0 : Nat} {τ : tS} {hp : zHp} {K : zHp → Prop} (k : Nat) (hk : k < 76) (ho : twO.getD k 0 = 0) (hd : ¬ (k = 30 ∨ k = 53 ∨ k = 54)) (v : Int32) : zpt g (tput g m0 τ hp) (some m0) [5] k (.int v) K = (zB g ≤ m0 ∧ K (tput g m0 (tsI τ k v) hp)) := by
  unfold zpt zo
  simp only [tput_0, List.mem_singleton, true_and, tput_sI k hk ho hd]
  simp [hk]
theorem tw_pD {g : zG} {m0 : Nat} {τ : tS} {hp : zHp} {K : zHp → Prop} (k : Nat) (hk : k < 76) (ho : twO.getD k 0 = 0) (hd : k = 30 ∨ k = 53 ∨ k = 54) (v : UInt64) : zpt g (tput g m0 τ hp) (some m0) [5] k (.double v) K = (zB g ≤ m0 ∧ K (tput g m0 (tsD τ k v) hp)) := by
  unfold zpt zo
  simp only [tput_0, List.mem_singleton, true_and, tput_sD k hk ho hd]
  simp [hk]
theorem twL_pos : ((List.range 257).all fun q => !(decide ((twL.getD q (0,0,99,0)).2.2.1 < 10)) || q == twO.getD (twL.getD q (0,0,99,0)).1 0 + (if twD.getD (twL.getD q (0,0,99,0)).1 0 = 0 then 0 else 1 + (twL.getD q (0,0,99,0)).2.1)) = true := by decide +kernel
theorem twL_inj : ∀ q, q < 257 → ∀ q', q' < 257 → 0 < q → 0 < q' → (twL.getD q (0,0,99,0)).2.2.1 < 10 → (twL.getD q' (0,0,99,0)).2.2.1 < 10 → (twL.getD q (0,0,99,0)).1 = (twL.getD q' (0,0,99,0)).1 → (twL.getD q (0,0,99,0)).2.1 = (twL.getD q' (0,0,99,0)).2.1 → q = q' := by
  intro q h1 q' h2 _ _ h3 h4 h5 h6
  have a := List.all_eq_true.mp twL_pos q (List.mem_range.mpr h1)
  have b := List.all_eq_true.mp twL_pos q' (List.mem_range.mpr h2)
  rw [Bool.or_eq_true, beq_iff_eq] at a b
  have a := a.resolve_left (by rw [decide_eq_true h3]; decide)
  have b := b.resolve_left (by rw [decide_eq_true h4]; decide)
  rw [a, b, h5, h6]
theorem tw_aI {g : zG} {m0 : Nat} {τ : tS} {hp : zHp} {K : Nat → Nat → (Nat → Int32) → Prop} (q t : Nat) {k i ln : Nat} (hq : 0 < q) (hq2 : q < 257) (h : twL[q]? = some (k, i, t, ln)) (ht : t = 0 ∨ t = 3) : zaI (g.2.1 t) (tput g m0 τ hp) (some (m0 + q)) K = K (m0 + q) ln (τ.2.2.1 k i) := by
  unfold zaI
  have h1 : ¬ t = 1 := by omega
  simp only [tput_q g m0 τ hp hq hq2, h, Option.map_some, twR, if_neg h1, if_pos ht, true_and]
theorem tw_aD {g : zG} {m0 : Nat} {τ : tS} {hp : zHp} {K : Nat → Nat → (Nat → UInt64) → Prop} (q : Nat) {k i ln : Nat} (hq : 0 < q) (hq2 : q < 257) (h : twL[q]? = some (k, i, 1, ln)) : zaD (g.2.1 1) (tput g m0 τ hp) (some (m0 + q)) K = K (m0 + q) ln (τ.2.2.2 k i) := by
  unfold zaD
  simp only [tput_q g m0 τ hp hq hq2, h, Option.map_some, twR, if_true, true_and]
theorem tw_aR {g : zG} {m0 : Nat} {τ : tS} {hp : zHp} {K : Nat → Nat → (Nat → Option Nat) → Prop} (q t : Nat) {k i ln : Nat} (hq : 0 < q) (hq2 : q < 257) (h : twL[q]? = some (k, i, t, ln)) (ht : 3 < t) : zaR (g.2.1 t) (tput g m0 τ hp) (some (m0 + q)) K = K (m0 + q) ln (fun j => some (m0 + q + 1 + j)) := by
  unfold zaR
  have h1 : ¬ t = 1 := by omega
  have h2 : ¬ (t = 0 ∨ t = 3) := by omega
  simp only [tput_q g m0 τ hp hq hq2, h, Option.map_some, twR, if_neg h1, if_neg h2, true_and]
theorem tput_aI {g : zG} {m0 : Nat} {τ : tS} {hp : zHp} (q t : Nat) {k i ln : Nat} (hq : 0 < q) (hq2 : q < 257) (h : twL[q]? = some (k, i, t, ln)) (ht : t = 0 ∨ t = 3) (f : Nat → Int32) : va_up (tput g m0 τ hp) (m0 + q) (some (.inl (g.2.1 t, ln, .inl f))) = tput g m0 (taI τ k i f) hp := by
  have h1 : ¬ t = 1 := by omega
  funext x
  by_cases hx : x = m0 + q
  · subst hx
    simp only [va_up, if_true, tput_q g m0 _ hp hq hq2, h, Option.map_some, twR, if_neg h1, if_pos ht, taI]
  · simp only [va_up, if_neg hx]
    by_cases ho : x < m0 ∨ m0 + 257 ≤ x
    · rw [tput_o _ _ _ _ ho, tput_o _ _ _ _ ho]
    · by_cases h0 : x = m0
      · subst h0
        rw [tput_0, tput_0]
        rfl
      · obtain ⟨y, rfl⟩ : ∃ y, x = m0 + y := ⟨x - m0, by omega⟩
        rw [tput_q g m0 _ hp (by omega) (by omega), tput_q g m0 _ hp (by omega) (by omega)]
        have hy : y < twL.length := by show y < 257; omega
        rw [List.getElem?_eq_getElem hy]
        simp only [Option.map_some]
        congr 1
        generalize hr : twL[y] = r
        obtain ⟨k', i', t', l'⟩ := r
        simp only [twR, taI]
        split
        · rfl
        · split
          · next h2 h3 =>
            have hne : ¬ (k' = k ∧ i' = i) := by
              rintro ⟨rfl, rfl⟩
              have e1 : twL.getD q (0,0,99,0) = (k', i', t, ln) := by rw [List.getD_eq_getElem?_getD, h]; rfl
              have e2 : twL.getD y (0,0,99,0) = (k', i', t', l') := by rw [List.getD_eq_getElem?_getD, List.getElem?_eq_getElem hy, hr]; rfl
              exact hx (by rw [twL_inj y (by omega) q hq2 (by omega) hq (by rw [e2]; dsimp only; omega) (by rw [e1]; dsimp only; omega) (by rw [e1, e2]) (by rw [e1, e2])])
            by_cases hk : k' = k
            · subst hk
              have hi : ¬ i' = i := fun e => hne ⟨rfl, e⟩
              simp [va_up, hi]
            · simp [va_up, hk]
          · rfl
theorem tput_aD {g : zG} {m0 : Nat} {τ : tS} {hp : zHp} (q : Nat) {k i ln : Nat} (hq : 0 < q) (hq2 : q < 257) (h : twL[q]? = some (k, i, 1, ln)) (f : Nat → UInt64) : va_up (tput g m0 τ hp) (m0 + q) (some (.inl (g.2.1 1, ln, .inr (.inr (.inr (.inl f)))))) = tput g m0 (taD τ k i f) hp := by
  funext x
  by_cases hx : x = m0 + q
  · subst hx
    simp only [va_up, if_true, tput_q g m0 _ hp hq hq2, h, Option.map_some, twR, taD]
  · simp only [va_up, if_neg hx]
    by_cases ho : x < m0 ∨ m0 + 257 ≤ x
    · rw [tput_o _ _ _ _ ho, tput_o _ _ _ _ ho]
    · by_cases h0 : x = m0
      · subst h0
        rw [tput_0, tput_0]
        rfl
      · obtain ⟨y, rfl⟩ : ∃ y, x = m0 + y := ⟨x - m0, by omega⟩
        rw [tput_q g m0 _ hp (by omega) (by omega), tput_q g m0 _ hp (by omega) (by omega)]
        have hy : y < twL.length := by show y < 257; omega
        rw [List.getElem?_eq_getElem hy]
        simp only [Option.map_some]
        congr 1
        generalize hr : twL[y] = r
        obtain ⟨k', i', t', l'⟩ := r
        simp only [twR, taD]
        split
        · next h2 =>
          have hne : ¬ (k' = k ∧ i' = i) := by
            rintro ⟨rfl, rfl⟩
            have e1 : twL.getD q (0,0,99,0) = (k', i', 1, ln) := by rw [List.getD_eq_getElem?_getD, h]; rfl
            have e2 : twL.getD y (0,0,99,0) = (k', i', t', l') := by rw [List.getD_eq_getElem?_getD, List.getElem?_eq_getElem hy, hr]; rfl
            exact hx (by rw [twL_inj y (by omega) q hq2 (by omega) hq (by rw [e2]; dsimp only; omega) (by rw [e1]; dsimp only; omega) (by rw [e1, e2]) (by rw [e1, e2])])
          by_cases hk : k' = k
          · subst hk
            have hi : ¬ i' = i := fun e => hne ⟨rfl, e⟩
            simp [va_up, hi]
          · simp [va_up, hk]
        · rfl
theorem tg_kinds {g : zG} {m0 : Nat} {τ : tS} {hp : zHp} {K : Option Nat → Prop} : zgR (tput g m0 τ hp) (some m0) [5] 0 K = K (some (m0 + 1)) := tw_gR 0 (by decide) rfl
theorem ta_kinds {g : zG} {m0 : Nat} {τ : tS} {hp : zHp} {K : Nat → Nat → (Nat → Int32) → Prop} : zaI (g.2.1 0) (tput g m0 τ hp) (some (m0 + 1)) K = K (m0 + 1) 24 (τ.2.2.1 0 0) := tw_aI 1 0 (by decide) (by decide) rfl (by decide)
theorem tu_kinds {g : zG} {m0 : Nat} {τ : tS} {hp : zHp} (f : Nat → Int32) : va_up (tput g m0 τ hp) (m0 + 1) (some (.inl (g.2.1 0, 24, .inl f))) = tput g m0 (taI τ 0 0 f) hp := tput_aI 1 0 (by decide) (by decide) rfl (by decide) f
theorem tg_given {g : zG} {m0 : Nat} {τ : tS} {hp : zHp} {K : Option Nat → Prop} : zgR (tput g m0 τ hp) (some m0) [5] 1 K = K (some (m0 + 2)) := tw_gR 1 (by decide) rfl
theorem ta_given {g : zG} {m0 : Nat} {τ : tS} {hp : zHp} {K : Nat → Nat → (Nat → Int32) → Prop} : zaI (g.2.1 3) (tput g m0 τ hp) (some (m0 + 2)) K = K (m0 + 2) 24 (τ.2.2.1 1 0) := tw_aI 2 3 (by decide) (by decide) rfl (by decide)
theorem tu_given {g : zG} {m0 : Nat} {τ : tS} {hp : zHp} (f : Nat → Int32) : va_up (tput g m0 τ hp) (m0 + 2) (some (.inl (g.2.1 3, 24, .inl f))) = tput g m0 (taI τ 1 0 f) hp := tput_aI 2 3 (by decide) (by decide) rfl (by decide) f
theorem tg_numbers {g : zG} {m0 : Nat} {τ : tS} {hp : zHp} {K : Option Nat → Prop} : zgR (tput g m0 τ hp) (some m0) [5] 2 K = K (some (m0 + 3)) := tw_gR 2 (by decide) rfl
theorem ta_numbers {g : zG} {m0 : Nat} {τ : tS} {hp : zHp} {K : Nat → Nat → (Nat → UInt64) → Prop} : zaD (g.2.1 1) (tput g m0 τ hp) (some (m0 + 3)) K = K (m0 + 3) 24 (τ.2.2.2 2 0) := tw_aD 3 (by decide) (by decide) rfl
theorem tu_numbers {g : zG} {m0 : Nat} {τ : tS} {hp : zHp} (f : Nat → UInt64) : va_up (tput g m0 τ hp) (m0 + 3) (some (.inl (g.2.1 1, 24, .inr (.inr (.inr (.inl f)))))) = tput g m0 (taD τ 2 0 f) hp := tput_aD 3 (by decide) (by decide) rfl f
theorem tg_sizes {g : zG} {m0 : Nat} {τ : tS} {hp : zHp} {K : Option Nat → Prop} : zgR (tput g m0 τ hp) (some m0) [5] 3 K = K (some (m0 + 4)) := tw_gR 3 (by decide) rfl
theorem ta_sizes {g : zG} {m0 : Nat} {τ : tS} {hp : zHp} {K : Nat → Nat → (Nat → Int32) → Prop} : zaI (g.2.1 0) (tput g m0 τ hp) (some (m0 + 4)) K = K (m0 + 4) 24 (τ.2.2.1 3 0) := tw_aI 4 0 (by decide) (by decide) rfl (by decide)
theorem tu_sizes {g : zG} {m0 : Nat} {τ : tS} {hp : zHp} (f : Nat → Int32) : va_up (tput g m0 τ hp) (m0 + 4) (some (.inl (g.2.1 0, 24, .inl f))) = tput g m0 (taI τ 3 0 f) hp := tput_aI 4 0 (by decide) (by decide) rfl (by decide) f
theorem tg_marks {g : zG} {m0 : Nat} {τ : tS} {hp : zHp} {K : Option Nat → Prop} : zgR (tput g m0 τ hp) (some m0) [5] 4 K = K (some (m0 + 5)) := tw_gR 4 (by decide) rfl
theorem ta_marks {g : zG} {m0 : Nat} {τ : tS} {hp : zHp} {K : Nat → Nat → (Nat → Option Nat) → Prop} : zaR (g.2.1 14) (tput g m0 τ hp) (some (m0 + 5)) K = K (m0 + 5) 24 (fun j => some (m0 + 5 + 1 + j)) := tw_aR 5 14 (by decide) (by decide) rfl (by decide)
theorem tl_marks : ∀ i, i < 24 → twL[5 + 1 + i]? = some (4, i, 0, 96) := by decide +kernel
theorem tb_marks {g : zG} {m0 : Nat} {τ : tS} {hp : zHp} {K : Nat → Nat → (Nat → Int32) → Prop} {i : Nat} (hi : i < 24) : zaI (g.2.1 0) (tput g m0 τ hp) (some (m0 + 5 + 1 + i)) K = K (m0 + 5 + 1 + i) 96 (τ.2.2.1 4 i) := by
  rw [show m0 + 5 + 1 + i = m0 + (5 + 1 + i) by omega]
  exact tw_aI (5 + 1 + i) 0 (by omega) (by omega) (tl_marks i hi) (by decide)
theorem tv_marks {g : zG} {m0 : Nat} {τ : tS} {hp : zHp} {i : Nat} (hi : i < 24) (f : Nat → Int32) : va_up (tput g m0 τ hp) (m0 + 5 + 1 + i) (some (.inl (g.2.1 0, 96, .inl f))) = tput g m0 (taI τ 4 i f) hp := by
  rw [show m0 + 5 + 1 + i = m0 + (5 + 1 + i) by omega]
  exact tput_aI (5 + 1 + i) 0 (by omega) (by omega) (tl_marks i hi) (by decide) f
theorem tg_figures {g : zG} {m0 : Nat} {τ : tS} {hp : zHp} {K : Option Nat → Prop} : zgR (tput g m0 τ hp) (some m0) [5] 5 K = K (some (m0 + 30)) := tw_gR 5 (by decide) rfl
theorem ta_figures {g : zG} {m0 : Nat} {τ : tS} {hp : zHp} {K : Nat → Nat → (Nat → Option Nat) → Prop} : zaR (g.2.1 15) (tput g m0 τ hp) (some (m0 + 30)) K = K (m0 + 30) 24 (fun j => some (m0 + 30 + 1 + j)) := tw_aR 30 15 (by decide) (by decide) rfl (by decide)
theorem tl_figures : ∀ i, i < 24 → twL[30 + 1 + i]? = some (5, i, 1, 96) := by decide +kernel
theorem tb_figures {g : zG} {m0 : Nat} {τ : tS} {hp : zHp} {K : Nat → Nat → (Nat → UInt64) → Prop} {i : Nat} (hi : i < 24) : zaD (g.2.1 1) (tput g m0 τ hp) (some (m0 + 30 + 1 + i)) K = K (m0 + 30 + 1 + i) 96 (τ.2.2.2 5 i) := by
  rw [show m0 + 30 + 1 + i = m0 + (30 + 1 + i) by omega]
  exact tw_aD (30 + 1 + i) (by omega) (by omega) (tl_figures i hi)
theorem tv_figures {g : zG} {m0 : Nat} {τ : tS} {hp : zHp} {i : Nat} (hi : i < 24) (f : Nat → UInt64) : va_up (tput g m0 τ hp) (m0 + 30 + 1 + i) (some (.inl (g.2.1 1, 96, .inr (.inr (.inr (.inl f)))))) = tput g m0 (taD τ 5 i f) hp := by
  rw [show m0 + 30 + 1 + i = m0 + (30 + 1 + i) by omega]
  exact tput_aD (30 + 1 + i) (by omega) (by omega) (tl_figures i hi) f
theorem tg_laid {g : zG} {m0 : Nat} {τ : tS} {hp : zHp} {K : Option Nat → Prop} : zgR (tput g m0 τ hp) (some m0) [5] 6 K = K (some (m0 + 55)) := tw_gR 6 (by decide) rfl
theorem ta_laid {g : zG} {m0 : Nat} {τ : tS} {hp : zHp} {K : Nat → Nat → (Nat → Int32) → Prop} : zaI (g.2.1 3) (tput g m0 τ hp) (some (m0 + 55)) K = K (m0 + 55) 6 (τ.2.2.1 6 0) := tw_aI 55 3 (by decide) (by decide) rfl (by decide)
theorem tu_laid {g : zG} {m0 : Nat} {τ : tS} {hp : zHp} (f : Nat → Int32) : va_up (tput g m0 τ hp) (m0 + 55) (some (.inl (g.2.1 3, 6, .inl f))) = tput g m0 (taI τ 6 0 f) hp := tput_aI 55 3 (by decide) (by decide) rfl (by decide) f
theorem tg_outputs {g : zG} {m0 : Nat} {τ : tS} {hp : zHp} {K : Option Nat → Prop} : zgR (tput g m0 τ hp) (some m0) [5] 7 K = K (some (m0 + 56)) := tw_gR 7 (by decide) rfl
theorem ta_outputs {g : zG} {m0 : Nat} {τ : tS} {hp : zHp} {K : Nat → Nat → (Nat → Int32) → Prop} : zaI (g.2.1 0) (tput g m0 τ hp) (some (m0 + 56)) K = K (m0 + 56) 6 (τ.2.2.1 7 0) := tw_aI 56 0 (by decide) (by decide) rfl (by decide)
theorem tu_outputs {g : zG} {m0 : Nat} {τ : tS} {hp : zHp} (f : Nat → Int32) : va_up (tput g m0 τ hp) (m0 + 56) (some (.inl (g.2.1 0, 6, .inl f))) = tput g m0 (taI τ 7 0 f) hp := tput_aI 56 0 (by decide) (by decide) rfl (by decide) f
theorem tg_ones {g : zG} {m0 : Nat} {τ : tS} {hp : zHp} {K : Option Nat → Prop} : zgR (tput g m0 τ hp) (some m0) [5] 8 K = K (some (m0 + 57)) := tw_gR 8 (by decide) rfl
theorem ta_ones {g : zG} {m0 : Nat} {τ : tS} {hp : zHp} {K : Nat → Nat → (Nat → Int32) → Prop} : zaI (g.2.1 0) (tput g m0 τ hp) (some (m0 + 57)) K = K (m0 + 57) 6 (τ.2.2.1 8 0) := tw_aI 57 0 (by decide) (by decide) rfl (by decide)
theorem tu_ones {g : zG} {m0 : Nat} {τ : tS} {hp : zHp} (f : Nat → Int32) : va_up (tput g m0 τ hp) (m0 + 57) (some (.inl (g.2.1 0, 6, .inl f))) = tput g m0 (taI τ 8 0 f) hp := tput_aI 57 0 (by decide) (by decide) rfl (by decide) f
theorem tg_others {g : zG} {m0 : Nat} {τ : tS} {hp : zHp} {K : Option Nat → Prop} : zgR (tput g m0 τ hp) (some m0) [5] 9 K = K (some (m0 + 58)) := tw_gR 9 (by decide) rfl
theorem ta_others {g : zG} {m0 : Nat} {τ : tS} {hp : zHp} {K : Nat → Nat → (Nat → Int32) → Prop} : zaI (g.2.1 0) (tput g m0 τ hp) (some (m0 + 58)) K = K (m0 + 58) 6 (τ.2.2.1 9 0) := tw_aI 58 0 (by decide) (by decide) rfl (by decide)
theorem tu_others {g : zG} {m0 : Nat} {τ : tS} {hp : zHp} (f : Nat → Int32) : va_up (tput g m0 τ hp) (m0 + 58) (some (.inl (g.2.1 0, 6, .inl f))) = tput g m0 (taI τ 9 0 f) hp := tput_aI 58 0 (by decide) (by decide) rfl (by decide) f
theorem tg_axisSizes {g : zG} {m0 : Nat} {τ : tS} {hp : zHp} {K : Option Nat → Prop} : zgR (tput g m0 τ hp) (some m0) [5] 10 K = K (some (m0 + 59)) := tw_gR 10 (by decide) rfl
theorem ta_axisSizes {g : zG} {m0 : Nat} {τ : tS} {hp : zHp} {K : Nat → Nat → (Nat → Int32) → Prop} : zaI (g.2.1 0) (tput g m0 τ hp) (some (m0 + 59)) K = K (m0 + 59) 12 (τ.2.2.1 10 0) := tw_aI 59 0 (by decide) (by decide) rfl (by decide)
theorem tu_axisSizes {g : zG} {m0 : Nat} {τ : tS} {hp : zHp} (f : Nat → Int32) : va_up (tput g m0 τ hp) (m0 + 59) (some (.inl (g.2.1 0, 12, .inl f))) = tput g m0 (taI τ 10 0 f) hp := tput_aI 59 0 (by decide) (by decide) rfl (by decide) f
theorem tg_axes {g : zG} {m0 : Nat} {τ : tS} {hp : zHp} {K : Option Nat → Prop} : zgR (tput g m0 τ hp) (some m0) [5] 11 K = K (some (m0 + 60)) := tw_gR 11 (by decide) rfl
theorem ta_axes {g : zG} {m0 : Nat} {τ : tS} {hp : zHp} {K : Nat → Nat → (Nat → Option Nat) → Prop} : zaR (g.2.1 15) (tput g m0 τ hp) (some (m0 + 60)) K = K (m0 + 60) 12 (fun j => some (m0 + 60 + 1 + j)) := tw_aR 60 15 (by decide) (by decide) rfl (by decide)
theorem tl_axes : ∀ i, i < 12 → twL[60 + 1 + i]? = some (11, i, 1, 8) := by decide +kernel
theorem tb_axes {g : zG} {m0 : Nat} {τ : tS} {hp : zHp} {K : Nat → Nat → (Nat → UInt64) → Prop} {i : Nat} (hi : i < 12) : zaD (g.2.1 1) (tput g m0 τ hp) (some (m0 + 60 + 1 + i)) K = K (m0 + 60 + 1 + i) 8 (τ.2.2.2 11 i) := by
  rw [show m0 + 60 + 1 + i = m0 + (60 + 1 + i) by omega]
  exact tw_aD (60 + 1 + i) (by omega) (by omega) (tl_axes i hi)
theorem tv_axes {g : zG} {m0 : Nat} {τ : tS} {hp : zHp} {i : Nat} (hi : i < 12) (f : Nat → UInt64) : va_up (tput g m0 τ hp) (m0 + 60 + 1 + i) (some (.inl (g.2.1 1, 8, .inr (.inr (.inr (.inl f)))))) = tput g m0 (taD τ 11 i f) hp := by
  rw [show m0 + 60 + 1 + i = m0 + (60 + 1 + i) by omega]
  exact tput_aD (60 + 1 + i) (by omega) (by omega) (tl_axes i hi) f
theorem tg_cellNames {g : zG} {m0 : Nat} {τ : tS} {hp : zHp} {K : Option Nat → Prop} : zgR (tput g m0 τ hp) (some m0) [5] 12 K = K (some (m0 + 73)) := tw_gR 12 (by decide) rfl
theorem ta_cellNames {g : zG} {m0 : Nat} {τ : tS} {hp : zHp} {K : Nat → Nat → (Nat → Int32) → Prop} : zaI (g.2.1 0) (tput g m0 τ hp) (some (m0 + 73)) K = K (m0 + 73) 24 (τ.2.2.1 12 0) := tw_aI 73 0 (by decide) (by decide) rfl (by decide)
theorem tu_cellNames {g : zG} {m0 : Nat} {τ : tS} {hp : zHp} (f : Nat → Int32) : va_up (tput g m0 τ hp) (m0 + 73) (some (.inl (g.2.1 0, 24, .inl f))) = tput g m0 (taI τ 12 0 f) hp := tput_aI 73 0 (by decide) (by decide) rfl (by decide) f
theorem tg_tableTimes {g : zG} {m0 : Nat} {τ : tS} {hp : zHp} {K : Option Nat → Prop} : zgR (tput g m0 τ hp) (some m0) [5] 13 K = K (some (m0 + 74)) := tw_gR 13 (by decide) rfl
theorem ta_tableTimes {g : zG} {m0 : Nat} {τ : tS} {hp : zHp} {K : Nat → Nat → (Nat → Option Nat) → Prop} : zaR (g.2.1 14) (tput g m0 τ hp) (some (m0 + 74)) K = K (m0 + 74) 24 (fun j => some (m0 + 74 + 1 + j)) := tw_aR 74 14 (by decide) (by decide) rfl (by decide)
theorem tl_tableTimes : ∀ i, i < 24 → twL[74 + 1 + i]? = some (13, i, 0, 6) := by decide +kernel
theorem tb_tableTimes {g : zG} {m0 : Nat} {τ : tS} {hp : zHp} {K : Nat → Nat → (Nat → Int32) → Prop} {i : Nat} (hi : i < 24) : zaI (g.2.1 0) (tput g m0 τ hp) (some (m0 + 74 + 1 + i)) K = K (m0 + 74 + 1 + i) 6 (τ.2.2.1 13 i) := by
  rw [show m0 + 74 + 1 + i = m0 + (74 + 1 + i) by omega]
  exact tw_aI (74 + 1 + i) 0 (by omega) (by omega) (tl_tableTimes i hi) (by decide)
theorem tv_tableTimes {g : zG} {m0 : Nat} {τ : tS} {hp : zHp} {i : Nat} (hi : i < 24) (f : Nat → Int32) : va_up (tput g m0 τ hp) (m0 + 74 + 1 + i) (some (.inl (g.2.1 0, 6, .inl f))) = tput g m0 (taI τ 13 i f) hp := by
  rw [show m0 + 74 + 1 + i = m0 + (74 + 1 + i) by omega]
  exact tput_aI (74 + 1 + i) 0 (by omega) (by omega) (tl_tableTimes i hi) (by decide) f
theorem tg_hasRead {g : zG} {m0 : Nat} {τ : tS} {hp : zHp} {K : Option Nat → Prop} : zgR (tput g m0 τ hp) (some m0) [5] 14 K = K (some (m0 + 99)) := tw_gR 14 (by decide) rfl
theorem ta_hasRead {g : zG} {m0 : Nat} {τ : tS} {hp : zHp} {K : Nat → Nat → (Nat → Int32) → Prop} : zaI (g.2.1 3) (tput g m0 τ hp) (some (m0 + 99)) K = K (m0 + 99) 24 (τ.2.2.1 14 0) := tw_aI 99 3 (by decide) (by decide) rfl (by decide)
theorem tu_hasRead {g : zG} {m0 : Nat} {τ : tS} {hp : zHp} (f : Nat → Int32) : va_up (tput g m0 τ hp) (m0 + 99) (some (.inl (g.2.1 3, 24, .inl f))) = tput g m0 (taI τ 14 0 f) hp := tput_aI 99 3 (by decide) (by decide) rfl (by decide) f
theorem tg_read {g : zG} {m0 : Nat} {τ : tS} {hp : zHp} {K : Option Nat → Prop} : zgR (tput g m0 τ hp) (some m0) [5] 15 K = K (some (m0 + 100)) := tw_gR 15 (by decide) rfl
theorem ta_read {g : zG} {m0 : Nat} {τ : tS} {hp : zHp} {K : Nat → Nat → (Nat → Int32) → Prop} : zaI (g.2.1 0) (tput g m0 τ hp) (some (m0 + 100)) K = K (m0 + 100) 24 (τ.2.2.1 15 0) := tw_aI 100 0 (by decide) (by decide) rfl (by decide)
theorem tu_read {g : zG} {m0 : Nat} {τ : tS} {hp : zHp} (f : Nat → Int32) : va_up (tput g m0 τ hp) (m0 + 100) (some (.inl (g.2.1 0, 24, .inl f))) = tput g m0 (taI τ 15 0 f) hp := tput_aI 100 0 (by decide) (by decide) rfl (by decide) f
theorem tg_hasBurden {g : zG} {m0 : Nat} {τ : tS} {hp : zHp} {K : Option Nat → Prop} : zgR (tput g m0 τ hp) (some m0) [5] 16 K = K (some (m0 + 101)) := tw_gR 16 (by decide) rfl
theorem ta_hasBurden {g : zG} {m0 : Nat} {τ : tS} {hp : zHp} {K : Nat → Nat → (Nat → Int32) → Prop} : zaI (g.2.1 3) (tput g m0 τ hp) (some (m0 + 101)) K = K (m0 + 101) 24 (τ.2.2.1 16 0) := tw_aI 101 3 (by decide) (by decide) rfl (by decide)
theorem tu_hasBurden {g : zG} {m0 : Nat} {τ : tS} {hp : zHp} (f : Nat → Int32) : va_up (tput g m0 τ hp) (m0 + 101) (some (.inl (g.2.1 3, 24, .inl f))) = tput g m0 (taI τ 16 0 f) hp := tput_aI 101 3 (by decide) (by decide) rfl (by decide) f
theorem tg_burden {g : zG} {m0 : Nat} {τ : tS} {hp : zHp} {K : Option Nat → Prop} : zgR (tput g m0 τ hp) (some m0) [5] 17 K = K (some (m0 + 102)) := tw_gR 17 (by decide) rfl
theorem ta_burden {g : zG} {m0 : Nat} {τ : tS} {hp : zHp} {K : Nat → Nat → (Nat → Int32) → Prop} : zaI (g.2.1 0) (tput g m0 τ hp) (some (m0 + 102)) K = K (m0 + 102) 24 (τ.2.2.1 17 0) := tw_aI 102 0 (by decide) (by decide) rfl (by decide)
theorem tu_burden {g : zG} {m0 : Nat} {τ : tS} {hp : zHp} (f : Nat → Int32) : va_up (tput g m0 τ hp) (m0 + 102) (some (.inl (g.2.1 0, 24, .inl f))) = tput g m0 (taI τ 17 0 f) hp := tput_aI 102 0 (by decide) (by decide) rfl (by decide) f
theorem tg_deep {g : zG} {m0 : Nat} {τ : tS} {hp : zHp} {K : Int32 → Prop} : zgI (tput g m0 τ hp) (some m0) [5] 18 K = K (τ.1 18) := tw_gI 18 (by decide) rfl
theorem tp_deep {g : zG} {m0 : Nat} {τ : tS} {hp : zHp} {K : zHp → Prop} (v : Int32) : zpt g (tput g m0 τ hp) (some m0) [5] 18 (.int v) K = (zB g ≤ m0 ∧ K (tput g m0 (tsI τ 18 v) hp)) := tw_pI 18 (by decide) rfl (by decide) v
theorem tg_told {g : zG} {m0 : Nat} {τ : tS} {hp : zHp} {K : Option Nat → Prop} : zgR (tput g m0 τ hp) (some m0) [5] 19 K = K (some (m0 + 103)) := tw_gR 19 (by decide) rfl
theorem ta_told {g : zG} {m0 : Nat} {τ : tS} {hp : zHp} {K : Nat → Nat → (Nat → Option Nat) → Prop} : zaR (g.2.1 16) (tput g m0 τ hp) (some (m0 + 103)) K = K (m0 + 103) 7 (fun j => some (m0 + 103 + 1 + j)) := tw_aR 103 16 (by decide) (by decide) rfl (by decide)
theorem tl_told : ∀ i, i < 7 → twL[103 + 1 + i]? = some (19, i, 3, 24) := by decide +kernel
theorem tb_told {g : zG} {m0 : Nat} {τ : tS} {hp : zHp} {K : Nat → Nat → (Nat → Int32) → Prop} {i : Nat} (hi : i < 7) : zaI (g.2.1 3) (tput g m0 τ hp) (some (m0 + 103 + 1 + i)) K = K (m0 + 103 + 1 + i) 24 (τ.2.2.1 19 i) := by
  rw [show m0 + 103 + 1 + i = m0 + (103 + 1 + i) by omega]
  exact tw_aI (103 + 1 + i) 3 (by omega) (by omega) (tl_told i hi) (by decide)
theorem tv_told {g : zG} {m0 : Nat} {τ : tS} {hp : zHp} {i : Nat} (hi : i < 7) (f : Nat → Int32) : va_up (tput g m0 τ hp) (m0 + 103 + 1 + i) (some (.inl (g.2.1 3, 24, .inl f))) = tput g m0 (taI τ 19 i f) hp := by
  rw [show m0 + 103 + 1 + i = m0 + (103 + 1 + i) by omega]
  exact tput_aI (103 + 1 + i) 3 (by omega) (by omega) (tl_told i hi) (by decide) f
theorem tg_values {g : zG} {m0 : Nat} {τ : tS} {hp : zHp} {K : Option Nat → Prop} : zgR (tput g m0 τ hp) (some m0) [5] 20 K = K (some (m0 + 111)) := tw_gR 20 (by decide) rfl
theorem ta_values {g : zG} {m0 : Nat} {τ : tS} {hp : zHp} {K : Nat → Nat → (Nat → Option Nat) → Prop} : zaR (g.2.1 15) (tput g m0 τ hp) (some (m0 + 111)) K = K (m0 + 111) 7 (fun j => some (m0 + 111 + 1 + j)) := tw_aR 111 15 (by decide) (by decide) rfl (by decide)
theorem tl_values : ∀ i, i < 7 → twL[111 + 1 + i]? = some (20, i, 1, 24) := by decide +kernel
theorem tb_values {g : zG} {m0 : Nat} {τ : tS} {hp : zHp} {K : Nat → Nat → (Nat → UInt64) → Prop} {i : Nat} (hi : i < 7) : zaD (g.2.1 1) (tput g m0 τ hp) (some (m0 + 111 + 1 + i)) K = K (m0 + 111 + 1 + i) 24 (τ.2.2.2 20 i) := by
  rw [show m0 + 111 + 1 + i = m0 + (111 + 1 + i) by omega]
  exact tw_aD (111 + 1 + i) (by omega) (by omega) (tl_values i hi)
theorem tv_values {g : zG} {m0 : Nat} {τ : tS} {hp : zHp} {i : Nat} (hi : i < 7) (f : Nat → UInt64) : va_up (tput g m0 τ hp) (m0 + 111 + 1 + i) (some (.inl (g.2.1 1, 24, .inr (.inr (.inr (.inl f)))))) = tput g m0 (taD τ 20 i f) hp := by
  rw [show m0 + 111 + 1 + i = m0 + (111 + 1 + i) by omega]
  exact tput_aD (111 + 1 + i) (by omega) (by omega) (tl_values i hi) f
theorem tg_errors {g : zG} {m0 : Nat} {τ : tS} {hp : zHp} {K : Option Nat → Prop} : zgR (tput g m0 τ hp) (some m0) [5] 21 K = K (some (m0 + 119)) := tw_gR 21 (by decide) rfl
theorem ta_errors {g : zG} {m0 : Nat} {τ : tS} {hp : zHp} {K : Nat → Nat → (Nat → Option Nat) → Prop} : zaR (g.2.1 14) (tput g m0 τ hp) (some (m0 + 119)) K = K (m0 + 119) 7 (fun j => some (m0 + 119 + 1 + j)) := tw_aR 119 14 (by decide) (by decide) rfl (by decide)
theorem tl_errors : ∀ i, i < 7 → twL[119 + 1 + i]? = some (21, i, 0, 24) := by decide +kernel
theorem tb_errors {g : zG} {m0 : Nat} {τ : tS} {hp : zHp} {K : Nat → Nat → (Nat → Int32) → Prop} {i : Nat} (hi : i < 7) : zaI (g.2.1 0) (tput g m0 τ hp) (some (m0 + 119 + 1 + i)) K = K (m0 + 119 + 1 + i) 24 (τ.2.2.1 21 i) := by
  rw [show m0 + 119 + 1 + i = m0 + (119 + 1 + i) by omega]
  exact tw_aI (119 + 1 + i) 0 (by omega) (by omega) (tl_errors i hi) (by decide)
theorem tv_errors {g : zG} {m0 : Nat} {τ : tS} {hp : zHp} {i : Nat} (hi : i < 7) (f : Nat → Int32) : va_up (tput g m0 τ hp) (m0 + 119 + 1 + i) (some (.inl (g.2.1 0, 24, .inl f))) = tput g m0 (taI τ 21 i f) hp := by
  rw [show m0 + 119 + 1 + i = m0 + (119 + 1 + i) by omega]
  exact tput_aI (119 + 1 + i) 0 (by omega) (by omega) (tl_errors i hi) (by decide) f
theorem tg_blames {g : zG} {m0 : Nat} {τ : tS} {hp : zHp} {K : Option Nat → Prop} : zgR (tput g m0 τ hp) (some m0) [5] 22 K = K (some (m0 + 127)) := tw_gR 22 (by decide) rfl
theorem ta_blames {g : zG} {m0 : Nat} {τ : tS} {hp : zHp} {K : Nat → Nat → (Nat → Option Nat) → Prop} : zaR (g.2.1 14) (tput g m0 τ hp) (some (m0 + 127)) K = K (m0 + 127) 7 (fun j => some (m0 + 127 + 1 + j)) := tw_aR 127 14 (by decide) (by decide) rfl (by decide)
theorem tl_blames : ∀ i, i < 7 → twL[127 + 1 + i]? = some (22, i, 0, 24) := by decide +kernel
theorem tb_blames {g : zG} {m0 : Nat} {τ : tS} {hp : zHp} {K : Nat → Nat → (Nat → Int32) → Prop} {i : Nat} (hi : i < 7) : zaI (g.2.1 0) (tput g m0 τ hp) (some (m0 + 127 + 1 + i)) K = K (m0 + 127 + 1 + i) 24 (τ.2.2.1 22 i) := by
  rw [show m0 + 127 + 1 + i = m0 + (127 + 1 + i) by omega]
  exact tw_aI (127 + 1 + i) 0 (by omega) (by omega) (tl_blames i hi) (by decide)
theorem tv_blames {g : zG} {m0 : Nat} {τ : tS} {hp : zHp} {i : Nat} (hi : i < 7) (f : Nat → Int32) : va_up (tput g m0 τ hp) (m0 + 127 + 1 + i) (some (.inl (g.2.1 0, 24, .inl f))) = tput g m0 (taI τ 22 i f) hp := by
  rw [show m0 + 127 + 1 + i = m0 + (127 + 1 + i) by omega]
  exact tput_aI (127 + 1 + i) 0 (by omega) (by omega) (tl_blames i hi) (by decide) f
theorem tg_summed {g : zG} {m0 : Nat} {τ : tS} {hp : zHp} {K : Option Nat → Prop} : zgR (tput g m0 τ hp) (some m0) [5] 23 K = K (some (m0 + 135)) := tw_gR 23 (by decide) rfl
theorem ta_summed {g : zG} {m0 : Nat} {τ : tS} {hp : zHp} {K : Nat → Nat → (Nat → Option Nat) → Prop} : zaR (g.2.1 16) (tput g m0 τ hp) (some (m0 + 135)) K = K (m0 + 135) 7 (fun j => some (m0 + 135 + 1 + j)) := tw_aR 135 16 (by decide) (by decide) rfl (by decide)
theorem tl_summed : ∀ i, i < 7 → twL[135 + 1 + i]? = some (23, i, 3, 6) := by decide +kernel
theorem tb_summed {g : zG} {m0 : Nat} {τ : tS} {hp : zHp} {K : Nat → Nat → (Nat → Int32) → Prop} {i : Nat} (hi : i < 7) : zaI (g.2.1 3) (tput g m0 τ hp) (some (m0 + 135 + 1 + i)) K = K (m0 + 135 + 1 + i) 6 (τ.2.2.1 23 i) := by
  rw [show m0 + 135 + 1 + i = m0 + (135 + 1 + i) by omega]
  exact tw_aI (135 + 1 + i) 3 (by omega) (by omega) (tl_summed i hi) (by decide)
theorem tv_summed {g : zG} {m0 : Nat} {τ : tS} {hp : zHp} {i : Nat} (hi : i < 7) (f : Nat → Int32) : va_up (tput g m0 τ hp) (m0 + 135 + 1 + i) (some (.inl (g.2.1 3, 6, .inl f))) = tput g m0 (taI τ 23 i f) hp := by
  rw [show m0 + 135 + 1 + i = m0 + (135 + 1 + i) by omega]
  exact tput_aI (135 + 1 + i) 3 (by omega) (by omega) (tl_summed i hi) (by decide) f
theorem tg_sums {g : zG} {m0 : Nat} {τ : tS} {hp : zHp} {K : Option Nat → Prop} : zgR (tput g m0 τ hp) (some m0) [5] 24 K = K (some (m0 + 143)) := tw_gR 24 (by decide) rfl
theorem ta_sums {g : zG} {m0 : Nat} {τ : tS} {hp : zHp} {K : Nat → Nat → (Nat → Option Nat) → Prop} : zaR (g.2.1 15) (tput g m0 τ hp) (some (m0 + 143)) K = K (m0 + 143) 7 (fun j => some (m0 + 143 + 1 + j)) := tw_aR 143 15 (by decide) (by decide) rfl (by decide)
theorem tl_sums : ∀ i, i < 7 → twL[143 + 1 + i]? = some (24, i, 1, 30) := by decide +kernel
theorem tb_sums {g : zG} {m0 : Nat} {τ : tS} {hp : zHp} {K : Nat → Nat → (Nat → UInt64) → Prop} {i : Nat} (hi : i < 7) : zaD (g.2.1 1) (tput g m0 τ hp) (some (m0 + 143 + 1 + i)) K = K (m0 + 143 + 1 + i) 30 (τ.2.2.2 24 i) := by
  rw [show m0 + 143 + 1 + i = m0 + (143 + 1 + i) by omega]
  exact tw_aD (143 + 1 + i) (by omega) (by omega) (tl_sums i hi)
theorem tv_sums {g : zG} {m0 : Nat} {τ : tS} {hp : zHp} {i : Nat} (hi : i < 7) (f : Nat → UInt64) : va_up (tput g m0 τ hp) (m0 + 143 + 1 + i) (some (.inl (g.2.1 1, 30, .inr (.inr (.inr (.inl f)))))) = tput g m0 (taD τ 24 i f) hp := by
  rw [show m0 + 143 + 1 + i = m0 + (143 + 1 + i) by omega]
  exact tput_aD (143 + 1 + i) (by omega) (by omega) (tl_sums i hi) f
theorem tg_sumErrors {g : zG} {m0 : Nat} {τ : tS} {hp : zHp} {K : Option Nat → Prop} : zgR (tput g m0 τ hp) (some m0) [5] 25 K = K (some (m0 + 151)) := tw_gR 25 (by decide) rfl
theorem ta_sumErrors {g : zG} {m0 : Nat} {τ : tS} {hp : zHp} {K : Nat → Nat → (Nat → Option Nat) → Prop} : zaR (g.2.1 14) (tput g m0 τ hp) (some (m0 + 151)) K = K (m0 + 151) 7 (fun j => some (m0 + 151 + 1 + j)) := tw_aR 151 14 (by decide) (by decide) rfl (by decide)
theorem tl_sumErrors : ∀ i, i < 7 → twL[151 + 1 + i]? = some (25, i, 0, 30) := by decide +kernel
theorem tb_sumErrors {g : zG} {m0 : Nat} {τ : tS} {hp : zHp} {K : Nat → Nat → (Nat → Int32) → Prop} {i : Nat} (hi : i < 7) : zaI (g.2.1 0) (tput g m0 τ hp) (some (m0 + 151 + 1 + i)) K = K (m0 + 151 + 1 + i) 30 (τ.2.2.1 25 i) := by
  rw [show m0 + 151 + 1 + i = m0 + (151 + 1 + i) by omega]
  exact tw_aI (151 + 1 + i) 0 (by omega) (by omega) (tl_sumErrors i hi) (by decide)
theorem tv_sumErrors {g : zG} {m0 : Nat} {τ : tS} {hp : zHp} {i : Nat} (hi : i < 7) (f : Nat → Int32) : va_up (tput g m0 τ hp) (m0 + 151 + 1 + i) (some (.inl (g.2.1 0, 30, .inl f))) = tput g m0 (taI τ 25 i f) hp := by
  rw [show m0 + 151 + 1 + i = m0 + (151 + 1 + i) by omega]
  exact tput_aI (151 + 1 + i) 0 (by omega) (by omega) (tl_sumErrors i hi) (by decide) f
theorem tg_top {g : zG} {m0 : Nat} {τ : tS} {hp : zHp} {K : Int32 → Prop} : zgI (tput g m0 τ hp) (some m0) [5] 26 K = K (τ.1 26) := tw_gI 26 (by decide) rfl
theorem tp_top {g : zG} {m0 : Nat} {τ : tS} {hp : zHp} {K : zHp → Prop} (v : Int32) : zpt g (tput g m0 τ hp) (some m0) [5] 26 (.int v) K = (zB g ≤ m0 ∧ K (tput g m0 (tsI τ 26 v) hp)) := tw_pI 26 (by decide) rfl (by decide) v
theorem tg_heap {g : zG} {m0 : Nat} {τ : tS} {hp : zHp} {K : Option Nat → Prop} : zgR (tput g m0 τ hp) (some m0) [5] 27 K = K (some (m0 + 159)) := tw_gR 27 (by decide) rfl
theorem ta_heap {g : zG} {m0 : Nat} {τ : tS} {hp : zHp} {K : Nat → Nat → (Nat → UInt64) → Prop} : zaD (g.2.1 1) (tput g m0 τ hp) (some (m0 + 159)) K = K (m0 + 159) 4800 (τ.2.2.2 27 0) := tw_aD 159 (by decide) (by decide) rfl
theorem tu_heap {g : zG} {m0 : Nat} {τ : tS} {hp : zHp} (f : Nat → UInt64) : va_up (tput g m0 τ hp) (m0 + 159) (some (.inl (g.2.1 1, 4800, .inr (.inr (.inr (.inl f)))))) = tput g m0 (taD τ 27 0 f) hp := tput_aD 159 (by decide) (by decide) rfl f
theorem tg_heapErrors {g : zG} {m0 : Nat} {τ : tS} {hp : zHp} {K : Option Nat → Prop} : zgR (tput g m0 τ hp) (some m0) [5] 28 K = K (some (m0 + 160)) := tw_gR 28 (by decide) rfl
theorem ta_heapErrors {g : zG} {m0 : Nat} {τ : tS} {hp : zHp} {K : Nat → Nat → (Nat → Int32) → Prop} : zaI (g.2.1 0) (tput g m0 τ hp) (some (m0 + 160)) K = K (m0 + 160) 4800 (τ.2.2.1 28 0) := tw_aI 160 0 (by decide) (by decide) rfl (by decide)
theorem tu_heapErrors {g : zG} {m0 : Nat} {τ : tS} {hp : zHp} (f : Nat → Int32) : va_up (tput g m0 τ hp) (m0 + 160) (some (.inl (g.2.1 0, 4800, .inl f))) = tput g m0 (taI τ 28 0 f) hp := tput_aI 160 0 (by decide) (by decide) rfl (by decide) f
theorem tg_heapBlames {g : zG} {m0 : Nat} {τ : tS} {hp : zHp} {K : Option Nat → Prop} : zgR (tput g m0 τ hp) (some m0) [5] 29 K = K (some (m0 + 161)) := tw_gR 29 (by decide) rfl
theorem ta_heapBlames {g : zG} {m0 : Nat} {τ : tS} {hp : zHp} {K : Nat → Nat → (Nat → Int32) → Prop} : zaI (g.2.1 0) (tput g m0 τ hp) (some (m0 + 161)) K = K (m0 + 161) 4800 (τ.2.2.1 29 0) := tw_aI 161 0 (by decide) (by decide) rfl (by decide)
theorem tu_heapBlames {g : zG} {m0 : Nat} {τ : tS} {hp : zHp} (f : Nat → Int32) : va_up (tput g m0 τ hp) (m0 + 161) (some (.inl (g.2.1 0, 4800, .inl f))) = tput g m0 (taI τ 29 0 f) hp := tput_aI 161 0 (by decide) (by decide) rfl (by decide) f
theorem tg_caseValue {g : zG} {m0 : Nat} {τ : tS} {hp : zHp} {K : UInt64 → Prop} : zgD (tput g m0 τ hp) (some m0) [5] 30 K = K (τ.2.1 30) := tw_gD 30 (by decide) rfl
theorem tp_caseValue {g : zG} {m0 : Nat} {τ : tS} {hp : zHp} {K : zHp → Prop} (v : UInt64) : zpt g (tput g m0 τ hp) (some m0) [5] 30 (.double v) K = (zB g ≤ m0 ∧ K (tput g m0 (tsD τ 30 v) hp)) := tw_pD 30 (by decide) rfl (by decide) v
theorem tg_caseError {g : zG} {m0 : Nat} {τ : tS} {hp : zHp} {K : Int32 → Prop} : zgI (tput g m0 τ hp) (some m0) [5] 31 K = K (τ.1 31) := tw_gI 31 (by decide) rfl
theorem tp_caseError {g : zG} {m0 : Nat} {τ : tS} {hp : zHp} {K : zHp → Prop} (v : Int32) : zpt g (tput g m0 τ hp) (some m0) [5] 31 (.int v) K = (zB g ≤ m0 ∧ K (tput g m0 (tsI τ 31 v) hp)) := tw_pI 31 (by decide) rfl (by decide) v
theorem tg_caseBlame {g : zG} {m0 : Nat} {τ : tS} {hp : zHp} {K : Int32 → Prop} : zgI (tput g m0 τ hp) (some m0) [5] 32 K = K (τ.1 32) := tw_gI 32 (by decide) rfl
theorem tp_caseBlame {g : zG} {m0 : Nat} {τ : tS} {hp : zHp} {K : zHp → Prop} (v : Int32) : zpt g (tput g m0 τ hp) (some m0) [5] 32 (.int v) K = (zB g ≤ m0 ∧ K (tput g m0 (tsI τ 32 v) hp)) := tw_pI 32 (by decide) rfl (by decide) v
theorem tg_tape {g : zG} {m0 : Nat} {τ : tS} {hp : zHp} {K : Option Nat → Prop} : zgR (tput g m0 τ hp) (some m0) [5] 33 K = K (some (m0 + 162)) := tw_gR 33 (by decide) rfl
theorem ta_tape {g : zG} {m0 : Nat} {τ : tS} {hp : zHp} {K : Nat → Nat → (Nat → Int32) → Prop} : zaI (g.2.1 0) (tput g m0 τ hp) (some (m0 + 162)) K = K (m0 + 162) 96 (τ.2.2.1 33 0) := tw_aI 162 0 (by decide) (by decide) rfl (by decide)
theorem tu_tape {g : zG} {m0 : Nat} {τ : tS} {hp : zHp} (f : Nat → Int32) : va_up (tput g m0 τ hp) (m0 + 162) (some (.inl (g.2.1 0, 96, .inl f))) = tput g m0 (taI τ 33 0 f) hp := tput_aI 162 0 (by decide) (by decide) rfl (by decide) f
theorem tg_taped {g : zG} {m0 : Nat} {τ : tS} {hp : zHp} {K : Int32 → Prop} : zgI (tput g m0 τ hp) (some m0) [5] 34 K = K (τ.1 34) := tw_gI 34 (by decide) rfl
theorem tp_taped {g : zG} {m0 : Nat} {τ : tS} {hp : zHp} {K : zHp → Prop} (v : Int32) : zpt g (tput g m0 τ hp) (some m0) [5] 34 (.int v) K = (zB g ≤ m0 ∧ K (tput g m0 (tsI τ 34 v) hp)) := tw_pI 34 (by decide) rfl (by decide) v
theorem tg_newMarks {g : zG} {m0 : Nat} {τ : tS} {hp : zHp} {K : Option Nat → Prop} : zgR (tput g m0 τ hp) (some m0) [5] 35 K = K (some (m0 + 163)) := tw_gR 35 (by decide) rfl
theorem ta_newMarks {g : zG} {m0 : Nat} {τ : tS} {hp : zHp} {K : Nat → Nat → (Nat → Int32) → Prop} : zaI (g.2.1 0) (tput g m0 τ hp) (some (m0 + 163)) K = K (m0 + 163) 96 (τ.2.2.1 35 0) := tw_aI 163 0 (by decide) (by decide) rfl (by decide)
theorem tu_newMarks {g : zG} {m0 : Nat} {τ : tS} {hp : zHp} (f : Nat → Int32) : va_up (tput g m0 τ hp) (m0 + 163) (some (.inl (g.2.1 0, 96, .inl f))) = tput g m0 (taI τ 35 0 f) hp := tput_aI 163 0 (by decide) (by decide) rfl (by decide) f
theorem tg_newFigures {g : zG} {m0 : Nat} {τ : tS} {hp : zHp} {K : Option Nat → Prop} : zgR (tput g m0 τ hp) (some m0) [5] 36 K = K (some (m0 + 164)) := tw_gR 36 (by decide) rfl
theorem ta_newFigures {g : zG} {m0 : Nat} {τ : tS} {hp : zHp} {K : Nat → Nat → (Nat → UInt64) → Prop} : zaD (g.2.1 1) (tput g m0 τ hp) (some (m0 + 164)) K = K (m0 + 164) 96 (τ.2.2.2 36 0) := tw_aD 164 (by decide) (by decide) rfl
theorem tu_newFigures {g : zG} {m0 : Nat} {τ : tS} {hp : zHp} (f : Nat → UInt64) : va_up (tput g m0 τ hp) (m0 + 164) (some (.inl (g.2.1 1, 96, .inr (.inr (.inr (.inl f)))))) = tput g m0 (taD τ 36 0 f) hp := tput_aD 164 (by decide) (by decide) rfl f
theorem tg_newSize {g : zG} {m0 : Nat} {τ : tS} {hp : zHp} {K : Int32 → Prop} : zgI (tput g m0 τ hp) (some m0) [5] 37 K = K (τ.1 37) := tw_gI 37 (by decide) rfl
theorem tp_newSize {g : zG} {m0 : Nat} {τ : tS} {hp : zHp} {K : zHp → Prop} (v : Int32) : zpt g (tput g m0 τ hp) (some m0) [5] 37 (.int v) K = (zB g ≤ m0 ∧ K (tput g m0 (tsI τ 37 v) hp)) := tw_pI 37 (by decide) rfl (by decide) v
theorem tg_newFigureMany {g : zG} {m0 : Nat} {τ : tS} {hp : zHp} {K : Int32 → Prop} : zgI (tput g m0 τ hp) (some m0) [5] 38 K = K (τ.1 38) := tw_gI 38 (by decide) rfl
theorem tp_newFigureMany {g : zG} {m0 : Nat} {τ : tS} {hp : zHp} {K : zHp → Prop} (v : Int32) : zpt g (tput g m0 τ hp) (some m0) [5] 38 (.int v) K = (zB g ≤ m0 ∧ K (tput g m0 (tsI τ 38 v) hp)) := tw_pI 38 (by decide) rfl (by decide) v
theorem tg_at {g : zG} {m0 : Nat} {τ : tS} {hp : zHp} {K : Int32 → Prop} : zgI (tput g m0 τ hp) (some m0) [5] 39 K = K (τ.1 39) := tw_gI 39 (by decide) rfl
theorem tp_at {g : zG} {m0 : Nat} {τ : tS} {hp : zHp} {K : zHp → Prop} (v : Int32) : zpt g (tput g m0 τ hp) (some m0) [5] 39 (.int v) K = (zB g ≤ m0 ∧ K (tput g m0 (tsI τ 39 v) hp)) := tw_pI 39 (by decide) rfl (by decide) v
theorem tg_begin {g : zG} {m0 : Nat} {τ : tS} {hp : zHp} {K : Int32 → Prop} : zgI (tput g m0 τ hp) (some m0) [5] 40 K = K (τ.1 40) := tw_gI 40 (by decide) rfl
theorem tp_begin {g : zG} {m0 : Nat} {τ : tS} {hp : zHp} {K : zHp → Prop} (v : Int32) : zpt g (tput g m0 τ hp) (some m0) [5] 40 (.int v) K = (zB g ≤ m0 ∧ K (tput g m0 (tsI τ 40 v) hp)) := tw_pI 40 (by decide) rfl (by decide) v
theorem tg_token {g : zG} {m0 : Nat} {τ : tS} {hp : zHp} {K : Int32 → Prop} : zgI (tput g m0 τ hp) (some m0) [5] 41 K = K (τ.1 41) := tw_gI 41 (by decide) rfl
theorem tp_token {g : zG} {m0 : Nat} {τ : tS} {hp : zHp} {K : zHp → Prop} (v : Int32) : zpt g (tput g m0 τ hp) (some m0) [5] 41 (.int v) K = (zB g ≤ m0 ∧ K (tput g m0 (tsI τ 41 v) hp)) := tw_pI 41 (by decide) rfl (by decide) v
theorem tg_sign {g : zG} {m0 : Nat} {τ : tS} {hp : zHp} {K : Int32 → Prop} : zgI (tput g m0 τ hp) (some m0) [5] 42 K = K (τ.1 42) := tw_gI 42 (by decide) rfl
theorem tp_sign {g : zG} {m0 : Nat} {τ : tS} {hp : zHp} {K : zHp → Prop} (v : Int32) : zpt g (tput g m0 τ hp) (some m0) [5] 42 (.int v) K = (zB g ≤ m0 ∧ K (tput g m0 (tsI τ 42 v) hp)) := tw_pI 42 (by decide) rfl (by decide) v
theorem tg_whole {g : zG} {m0 : Nat} {τ : tS} {hp : zHp} {K : Int32 → Prop} : zgI (tput g m0 τ hp) (some m0) [5] 43 K = K (τ.1 43) := tw_gI 43 (by decide) rfl
theorem tp_whole {g : zG} {m0 : Nat} {τ : tS} {hp : zHp} {K : zHp → Prop} (v : Int32) : zpt g (tput g m0 τ hp) (some m0) [5] 43 (.int v) K = (zB g ≤ m0 ∧ K (tput g m0 (tsI τ 43 v) hp)) := tw_pI 43 (by decide) rfl (by decide) v
theorem tg_behind {g : zG} {m0 : Nat} {τ : tS} {hp : zHp} {K : Int32 → Prop} : zgI (tput g m0 τ hp) (some m0) [5] 44 K = K (τ.1 44) := tw_gI 44 (by decide) rfl
theorem tp_behind {g : zG} {m0 : Nat} {τ : tS} {hp : zHp} {K : zHp → Prop} (v : Int32) : zpt g (tput g m0 τ hp) (some m0) [5] 44 (.int v) K = (zB g ≤ m0 ∧ K (tput g m0 (tsI τ 44 v) hp)) := tw_pI 44 (by decide) rfl (by decide) v
theorem tg_opened {g : zG} {m0 : Nat} {τ : tS} {hp : zHp} {K : Int32 → Prop} : zgI (tput g m0 τ hp) (some m0) [5] 45 K = K (τ.1 45) := tw_gI 45 (by decide) rfl
theorem tp_opened {g : zG} {m0 : Nat} {τ : tS} {hp : zHp} {K : zHp → Prop} (v : Int32) : zpt g (tput g m0 τ hp) (some m0) [5] 45 (.int v) K = (zB g ≤ m0 ∧ K (tput g m0 (tsI τ 45 v) hp)) := tw_pI 45 (by decide) rfl (by decide) v
theorem tg_isWrong {g : zG} {m0 : Nat} {τ : tS} {hp : zHp} {K : Int32 → Prop} : zgI (tput g m0 τ hp) (some m0) [5] 46 K = K (τ.1 46) := tw_gI 46 (by decide) rfl
theorem tp_isWrong {g : zG} {m0 : Nat} {τ : tS} {hp : zHp} {K : zHp → Prop} (v : Int32) : zpt g (tput g m0 τ hp) (some m0) [5] 46 (.int v) K = (zB g ≤ m0 ∧ K (tput g m0 (tsI τ 46 v) hp)) := tw_pI 46 (by decide) rfl (by decide) v
theorem tg_oldMarks {g : zG} {m0 : Nat} {τ : tS} {hp : zHp} {K : Option Nat → Prop} : zgR (tput g m0 τ hp) (some m0) [5] 47 K = K (some (m0 + 165)) := tw_gR 47 (by decide) rfl
theorem ta_oldMarks {g : zG} {m0 : Nat} {τ : tS} {hp : zHp} {K : Nat → Nat → (Nat → Int32) → Prop} : zaI (g.2.1 0) (tput g m0 τ hp) (some (m0 + 165)) K = K (m0 + 165) 96 (τ.2.2.1 47 0) := tw_aI 165 0 (by decide) (by decide) rfl (by decide)
theorem tu_oldMarks {g : zG} {m0 : Nat} {τ : tS} {hp : zHp} (f : Nat → Int32) : va_up (tput g m0 τ hp) (m0 + 165) (some (.inl (g.2.1 0, 96, .inl f))) = tput g m0 (taI τ 47 0 f) hp := tput_aI 165 0 (by decide) (by decide) rfl (by decide) f
theorem tg_oldFigures {g : zG} {m0 : Nat} {τ : tS} {hp : zHp} {K : Option Nat → Prop} : zgR (tput g m0 τ hp) (some m0) [5] 48 K = K (some (m0 + 166)) := tw_gR 48 (by decide) rfl
theorem ta_oldFigures {g : zG} {m0 : Nat} {τ : tS} {hp : zHp} {K : Nat → Nat → (Nat → UInt64) → Prop} : zaD (g.2.1 1) (tput g m0 τ hp) (some (m0 + 166)) K = K (m0 + 166) 96 (τ.2.2.2 48 0) := tw_aD 166 (by decide) (by decide) rfl
theorem tu_oldFigures {g : zG} {m0 : Nat} {τ : tS} {hp : zHp} (f : Nat → UInt64) : va_up (tput g m0 τ hp) (m0 + 166) (some (.inl (g.2.1 1, 96, .inr (.inr (.inr (.inl f)))))) = tput g m0 (taD τ 48 0 f) hp := tput_aD 166 (by decide) (by decide) rfl f
theorem tg_hasLeast {g : zG} {m0 : Nat} {τ : tS} {hp : zHp} {K : Option Nat → Prop} : zgR (tput g m0 τ hp) (some m0) [5] 49 K = K (some (m0 + 167)) := tw_gR 49 (by decide) rfl
theorem ta_hasLeast {g : zG} {m0 : Nat} {τ : tS} {hp : zHp} {K : Nat → Nat → (Nat → Int32) → Prop} : zaI (g.2.1 3) (tput g m0 τ hp) (some (m0 + 167)) K = K (m0 + 167) 6 (τ.2.2.1 49 0) := tw_aI 167 3 (by decide) (by decide) rfl (by decide)
theorem tu_hasLeast {g : zG} {m0 : Nat} {τ : tS} {hp : zHp} (f : Nat → Int32) : va_up (tput g m0 τ hp) (m0 + 167) (some (.inl (g.2.1 3, 6, .inl f))) = tput g m0 (taI τ 49 0 f) hp := tput_aI 167 3 (by decide) (by decide) rfl (by decide) f
theorem tg_least {g : zG} {m0 : Nat} {τ : tS} {hp : zHp} {K : Option Nat → Prop} : zgR (tput g m0 τ hp) (some m0) [5] 50 K = K (some (m0 + 168)) := tw_gR 50 (by decide) rfl
theorem ta_least {g : zG} {m0 : Nat} {τ : tS} {hp : zHp} {K : Nat → Nat → (Nat → Int32) → Prop} : zaI (g.2.1 0) (tput g m0 τ hp) (some (m0 + 168)) K = K (m0 + 168) 6 (τ.2.2.1 50 0) := tw_aI 168 0 (by decide) (by decide) rfl (by decide)
theorem tu_least {g : zG} {m0 : Nat} {τ : tS} {hp : zHp} (f : Nat → Int32) : va_up (tput g m0 τ hp) (m0 + 168) (some (.inl (g.2.1 0, 6, .inl f))) = tput g m0 (taI τ 50 0 f) hp := tput_aI 168 0 (by decide) (by decide) rfl (by decide) f
theorem tg_fMany {g : zG} {m0 : Nat} {τ : tS} {hp : zHp} {K : Int32 → Prop} : zgI (tput g m0 τ hp) (some m0) [5] 51 K = K (τ.1 51) := tw_gI 51 (by decide) rfl
theorem tp_fMany {g : zG} {m0 : Nat} {τ : tS} {hp : zHp} {K : zHp → Prop} (v : Int32) : zpt g (tput g m0 τ hp) (some m0) [5] 51 (.int v) K = (zB g ≤ m0 ∧ K (tput g m0 (tsI τ 51 v) hp)) := tw_pI 51 (by decide) rfl (by decide) v
theorem tg_fFails {g : zG} {m0 : Nat} {τ : tS} {hp : zHp} {K : Int32 → Prop} : zgI (tput g m0 τ hp) (some m0) [5] 52 K = K (τ.1 52) := tw_gI 52 (by decide) rfl
theorem tp_fFails {g : zG} {m0 : Nat} {τ : tS} {hp : zHp} {K : zHp → Prop} (v : Int32) : zpt g (tput g m0 τ hp) (some m0) [5] 52 (.int v) K = (zB g ≤ m0 ∧ K (tput g m0 (tsI τ 52 v) hp)) := tw_pI 52 (by decide) rfl (by decide) v
theorem tg_found {g : zG} {m0 : Nat} {τ : tS} {hp : zHp} {K : UInt64 → Prop} : zgD (tput g m0 τ hp) (some m0) [5] 53 K = K (τ.2.1 53) := tw_gD 53 (by decide) rfl
theorem tp_found {g : zG} {m0 : Nat} {τ : tS} {hp : zHp} {K : zHp → Prop} (v : UInt64) : zpt g (tput g m0 τ hp) (some m0) [5] 53 (.double v) K = (zB g ≤ m0 ∧ K (tput g m0 (tsD τ 53 v) hp)) := tw_pD 53 (by decide) rfl (by decide) v
theorem tg_foundF {g : zG} {m0 : Nat} {τ : tS} {hp : zHp} {K : UInt64 → Prop} : zgD (tput g m0 τ hp) (some m0) [5] 54 K = K (τ.2.1 54) := tw_gD 54 (by decide) rfl
theorem tp_foundF {g : zG} {m0 : Nat} {τ : tS} {hp : zHp} {K : zHp → Prop} (v : UInt64) : zpt g (tput g m0 τ hp) (some m0) [5] 54 (.double v) K = (zB g ≤ m0 ∧ K (tput g m0 (tsD τ 54 v) hp)) := tw_pD 54 (by decide) rfl (by decide) v
theorem tg_oldNumbers {g : zG} {m0 : Nat} {τ : tS} {hp : zHp} {K : Option Nat → Prop} : zgR (tput g m0 τ hp) (some m0) [5] 55 K = K (some (m0 + 169)) := tw_gR 55 (by decide) rfl
theorem ta_oldNumbers {g : zG} {m0 : Nat} {τ : tS} {hp : zHp} {K : Nat → Nat → (Nat → UInt64) → Prop} : zaD (g.2.1 1) (tput g m0 τ hp) (some (m0 + 169)) K = K (m0 + 169) 24 (τ.2.2.2 55 0) := tw_aD 169 (by decide) (by decide) rfl
theorem tu_oldNumbers {g : zG} {m0 : Nat} {τ : tS} {hp : zHp} (f : Nat → UInt64) : va_up (tput g m0 τ hp) (m0 + 169) (some (.inl (g.2.1 1, 24, .inr (.inr (.inr (.inl f)))))) = tput g m0 (taD τ 55 0 f) hp := tput_aD 169 (by decide) (by decide) rfl f
theorem tg_oldGiven {g : zG} {m0 : Nat} {τ : tS} {hp : zHp} {K : Option Nat → Prop} : zgR (tput g m0 τ hp) (some m0) [5] 56 K = K (some (m0 + 170)) := tw_gR 56 (by decide) rfl
theorem ta_oldGiven {g : zG} {m0 : Nat} {τ : tS} {hp : zHp} {K : Nat → Nat → (Nat → Int32) → Prop} : zaI (g.2.1 3) (tput g m0 τ hp) (some (m0 + 170)) K = K (m0 + 170) 24 (τ.2.2.1 56 0) := tw_aI 170 3 (by decide) (by decide) rfl (by decide)
theorem tu_oldGiven {g : zG} {m0 : Nat} {τ : tS} {hp : zHp} (f : Nat → Int32) : va_up (tput g m0 τ hp) (m0 + 170) (some (.inl (g.2.1 3, 24, .inl f))) = tput g m0 (taI τ 56 0 f) hp := tput_aI 170 3 (by decide) (by decide) rfl (by decide) f
theorem tg_hasImage {g : zG} {m0 : Nat} {τ : tS} {hp : zHp} {K : Int32 → Prop} : zgI (tput g m0 τ hp) (some m0) [5] 57 K = K (τ.1 57) := tw_gI 57 (by decide) rfl
theorem tp_hasImage {g : zG} {m0 : Nat} {τ : tS} {hp : zHp} {K : zHp → Prop} (v : Int32) : zpt g (tput g m0 τ hp) (some m0) [5] 57 (.int v) K = (zB g ≤ m0 ∧ K (tput g m0 (tsI τ 57 v) hp)) := tw_pI 57 (by decide) rfl (by decide) v
theorem tg_imageKinds {g : zG} {m0 : Nat} {τ : tS} {hp : zHp} {K : Option Nat → Prop} : zgR (tput g m0 τ hp) (some m0) [5] 58 K = K (some (m0 + 171)) := tw_gR 58 (by decide) rfl
theorem ta_imageKinds {g : zG} {m0 : Nat} {τ : tS} {hp : zHp} {K : Nat → Nat → (Nat → Int32) → Prop} : zaI (g.2.1 0) (tput g m0 τ hp) (some (m0 + 171)) K = K (m0 + 171) 24 (τ.2.2.1 58 0) := tw_aI 171 0 (by decide) (by decide) rfl (by decide)
theorem tu_imageKinds {g : zG} {m0 : Nat} {τ : tS} {hp : zHp} (f : Nat → Int32) : va_up (tput g m0 τ hp) (m0 + 171) (some (.inl (g.2.1 0, 24, .inl f))) = tput g m0 (taI τ 58 0 f) hp := tput_aI 171 0 (by decide) (by decide) rfl (by decide) f
theorem tg_imageSizes {g : zG} {m0 : Nat} {τ : tS} {hp : zHp} {K : Option Nat → Prop} : zgR (tput g m0 τ hp) (some m0) [5] 59 K = K (some (m0 + 172)) := tw_gR 59 (by decide) rfl
theorem ta_imageSizes {g : zG} {m0 : Nat} {τ : tS} {hp : zHp} {K : Nat → Nat → (Nat → Int32) → Prop} : zaI (g.2.1 0) (tput g m0 τ hp) (some (m0 + 172)) K = K (m0 + 172) 24 (τ.2.2.1 59 0) := tw_aI 172 0 (by decide) (by decide) rfl (by decide)
theorem tu_imageSizes {g : zG} {m0 : Nat} {τ : tS} {hp : zHp} (f : Nat → Int32) : va_up (tput g m0 τ hp) (m0 + 172) (some (.inl (g.2.1 0, 24, .inl f))) = tput g m0 (taI τ 59 0 f) hp := tput_aI 172 0 (by decide) (by decide) rfl (by decide) f
theorem tg_imageGiven {g : zG} {m0 : Nat} {τ : tS} {hp : zHp} {K : Option Nat → Prop} : zgR (tput g m0 τ hp) (some m0) [5] 60 K = K (some (m0 + 173)) := tw_gR 60 (by decide) rfl
theorem ta_imageGiven {g : zG} {m0 : Nat} {τ : tS} {hp : zHp} {K : Nat → Nat → (Nat → Int32) → Prop} : zaI (g.2.1 3) (tput g m0 τ hp) (some (m0 + 173)) K = K (m0 + 173) 24 (τ.2.2.1 60 0) := tw_aI 173 3 (by decide) (by decide) rfl (by decide)
theorem tu_imageGiven {g : zG} {m0 : Nat} {τ : tS} {hp : zHp} (f : Nat → Int32) : va_up (tput g m0 τ hp) (m0 + 173) (some (.inl (g.2.1 3, 24, .inl f))) = tput g m0 (taI τ 60 0 f) hp := tput_aI 173 3 (by decide) (by decide) rfl (by decide) f
theorem tg_imageLaid {g : zG} {m0 : Nat} {τ : tS} {hp : zHp} {K : Option Nat → Prop} : zgR (tput g m0 τ hp) (some m0) [5] 61 K = K (some (m0 + 174)) := tw_gR 61 (by decide) rfl
theorem ta_imageLaid {g : zG} {m0 : Nat} {τ : tS} {hp : zHp} {K : Nat → Nat → (Nat → Int32) → Prop} : zaI (g.2.1 3) (tput g m0 τ hp) (some (m0 + 174)) K = K (m0 + 174) 6 (τ.2.2.1 61 0) := tw_aI 174 3 (by decide) (by decide) rfl (by decide)
theorem tu_imageLaid {g : zG} {m0 : Nat} {τ : tS} {hp : zHp} (f : Nat → Int32) : va_up (tput g m0 τ hp) (m0 + 174) (some (.inl (g.2.1 3, 6, .inl f))) = tput g m0 (taI τ 61 0 f) hp := tput_aI 174 3 (by decide) (by decide) rfl (by decide) f
theorem tg_imageNumbers {g : zG} {m0 : Nat} {τ : tS} {hp : zHp} {K : Option Nat → Prop} : zgR (tput g m0 τ hp) (some m0) [5] 62 K = K (some (m0 + 175)) := tw_gR 62 (by decide) rfl
theorem ta_imageNumbers {g : zG} {m0 : Nat} {τ : tS} {hp : zHp} {K : Nat → Nat → (Nat → UInt64) → Prop} : zaD (g.2.1 1) (tput g m0 τ hp) (some (m0 + 175)) K = K (m0 + 175) 24 (τ.2.2.2 62 0) := tw_aD 175 (by decide) (by decide) rfl
theorem tu_imageNumbers {g : zG} {m0 : Nat} {τ : tS} {hp : zHp} (f : Nat → UInt64) : va_up (tput g m0 τ hp) (m0 + 175) (some (.inl (g.2.1 1, 24, .inr (.inr (.inr (.inl f)))))) = tput g m0 (taD τ 62 0 f) hp := tput_aD 175 (by decide) (by decide) rfl f
theorem tg_imageMarks {g : zG} {m0 : Nat} {τ : tS} {hp : zHp} {K : Option Nat → Prop} : zgR (tput g m0 τ hp) (some m0) [5] 63 K = K (some (m0 + 176)) := tw_gR 63 (by decide) rfl
theorem ta_imageMarks {g : zG} {m0 : Nat} {τ : tS} {hp : zHp} {K : Nat → Nat → (Nat → Option Nat) → Prop} : zaR (g.2.1 14) (tput g m0 τ hp) (some (m0 + 176)) K = K (m0 + 176) 24 (fun j => some (m0 + 176 + 1 + j)) := tw_aR 176 14 (by decide) (by decide) rfl (by decide)
theorem tl_imageMarks : ∀ i, i < 24 → twL[176 + 1 + i]? = some (63, i, 0, 96) := by decide +kernel
theorem tb_imageMarks {g : zG} {m0 : Nat} {τ : tS} {hp : zHp} {K : Nat → Nat → (Nat → Int32) → Prop} {i : Nat} (hi : i < 24) : zaI (g.2.1 0) (tput g m0 τ hp) (some (m0 + 176 + 1 + i)) K = K (m0 + 176 + 1 + i) 96 (τ.2.2.1 63 i) := by
  rw [show m0 + 176 + 1 + i = m0 + (176 + 1 + i) by omega]
  exact tw_aI (176 + 1 + i) 0 (by omega) (by omega) (tl_imageMarks i hi) (by decide)
theorem tv_imageMarks {g : zG} {m0 : Nat} {τ : tS} {hp : zHp} {i : Nat} (hi : i < 24) (f : Nat → Int32) : va_up (tput g m0 τ hp) (m0 + 176 + 1 + i) (some (.inl (g.2.1 0, 96, .inl f))) = tput g m0 (taI τ 63 i f) hp := by
  rw [show m0 + 176 + 1 + i = m0 + (176 + 1 + i) by omega]
  exact tput_aI (176 + 1 + i) 0 (by omega) (by omega) (tl_imageMarks i hi) (by decide) f
theorem tg_imageFigures {g : zG} {m0 : Nat} {τ : tS} {hp : zHp} {K : Option Nat → Prop} : zgR (tput g m0 τ hp) (some m0) [5] 64 K = K (some (m0 + 201)) := tw_gR 64 (by decide) rfl
theorem ta_imageFigures {g : zG} {m0 : Nat} {τ : tS} {hp : zHp} {K : Nat → Nat → (Nat → Option Nat) → Prop} : zaR (g.2.1 15) (tput g m0 τ hp) (some (m0 + 201)) K = K (m0 + 201) 24 (fun j => some (m0 + 201 + 1 + j)) := tw_aR 201 15 (by decide) (by decide) rfl (by decide)
theorem tl_imageFigures : ∀ i, i < 24 → twL[201 + 1 + i]? = some (64, i, 1, 96) := by decide +kernel
theorem tb_imageFigures {g : zG} {m0 : Nat} {τ : tS} {hp : zHp} {K : Nat → Nat → (Nat → UInt64) → Prop} {i : Nat} (hi : i < 24) : zaD (g.2.1 1) (tput g m0 τ hp) (some (m0 + 201 + 1 + i)) K = K (m0 + 201 + 1 + i) 96 (τ.2.2.2 64 i) := by
  rw [show m0 + 201 + 1 + i = m0 + (201 + 1 + i) by omega]
  exact tw_aD (201 + 1 + i) (by omega) (by omega) (tl_imageFigures i hi)
theorem tv_imageFigures {g : zG} {m0 : Nat} {τ : tS} {hp : zHp} {i : Nat} (hi : i < 24) (f : Nat → UInt64) : va_up (tput g m0 τ hp) (m0 + 201 + 1 + i) (some (.inl (g.2.1 1, 96, .inr (.inr (.inr (.inl f)))))) = tput g m0 (taD τ 64 i f) hp := by
  rw [show m0 + 201 + 1 + i = m0 + (201 + 1 + i) by omega]
  exact tput_aD (201 + 1 + i) (by omega) (by omega) (tl_imageFigures i hi) f
theorem tg_imageOutputs {g : zG} {m0 : Nat} {τ : tS} {hp : zHp} {K : Option Nat → Prop} : zgR (tput g m0 τ hp) (some m0) [5] 65 K = K (some (m0 + 226)) := tw_gR 65 (by decide) rfl
theorem ta_imageOutputs {g : zG} {m0 : Nat} {τ : tS} {hp : zHp} {K : Nat → Nat → (Nat → Int32) → Prop} : zaI (g.2.1 0) (tput g m0 τ hp) (some (m0 + 226)) K = K (m0 + 226) 6 (τ.2.2.1 65 0) := tw_aI 226 0 (by decide) (by decide) rfl (by decide)
theorem tu_imageOutputs {g : zG} {m0 : Nat} {τ : tS} {hp : zHp} (f : Nat → Int32) : va_up (tput g m0 τ hp) (m0 + 226) (some (.inl (g.2.1 0, 6, .inl f))) = tput g m0 (taI τ 65 0 f) hp := tput_aI 226 0 (by decide) (by decide) rfl (by decide) f
theorem tg_imageOnes {g : zG} {m0 : Nat} {τ : tS} {hp : zHp} {K : Option Nat → Prop} : zgR (tput g m0 τ hp) (some m0) [5] 66 K = K (some (m0 + 227)) := tw_gR 66 (by decide) rfl
theorem ta_imageOnes {g : zG} {m0 : Nat} {τ : tS} {hp : zHp} {K : Nat → Nat → (Nat → Int32) → Prop} : zaI (g.2.1 0) (tput g m0 τ hp) (some (m0 + 227)) K = K (m0 + 227) 6 (τ.2.2.1 66 0) := tw_aI 227 0 (by decide) (by decide) rfl (by decide)
theorem tu_imageOnes {g : zG} {m0 : Nat} {τ : tS} {hp : zHp} (f : Nat → Int32) : va_up (tput g m0 τ hp) (m0 + 227) (some (.inl (g.2.1 0, 6, .inl f))) = tput g m0 (taI τ 66 0 f) hp := tput_aI 227 0 (by decide) (by decide) rfl (by decide) f
theorem tg_imageOthers {g : zG} {m0 : Nat} {τ : tS} {hp : zHp} {K : Option Nat → Prop} : zgR (tput g m0 τ hp) (some m0) [5] 67 K = K (some (m0 + 228)) := tw_gR 67 (by decide) rfl
theorem ta_imageOthers {g : zG} {m0 : Nat} {τ : tS} {hp : zHp} {K : Nat → Nat → (Nat → Int32) → Prop} : zaI (g.2.1 0) (tput g m0 τ hp) (some (m0 + 228)) K = K (m0 + 228) 6 (τ.2.2.1 67 0) := tw_aI 228 0 (by decide) (by decide) rfl (by decide)
theorem tu_imageOthers {g : zG} {m0 : Nat} {τ : tS} {hp : zHp} (f : Nat → Int32) : va_up (tput g m0 τ hp) (m0 + 228) (some (.inl (g.2.1 0, 6, .inl f))) = tput g m0 (taI τ 67 0 f) hp := tput_aI 228 0 (by decide) (by decide) rfl (by decide) f
theorem tg_imageAxisSizes {g : zG} {m0 : Nat} {τ : tS} {hp : zHp} {K : Option Nat → Prop} : zgR (tput g m0 τ hp) (some m0) [5] 68 K = K (some (m0 + 229)) := tw_gR 68 (by decide) rfl
theorem ta_imageAxisSizes {g : zG} {m0 : Nat} {τ : tS} {hp : zHp} {K : Nat → Nat → (Nat → Int32) → Prop} : zaI (g.2.1 0) (tput g m0 τ hp) (some (m0 + 229)) K = K (m0 + 229) 12 (τ.2.2.1 68 0) := tw_aI 229 0 (by decide) (by decide) rfl (by decide)
theorem tu_imageAxisSizes {g : zG} {m0 : Nat} {τ : tS} {hp : zHp} (f : Nat → Int32) : va_up (tput g m0 τ hp) (m0 + 229) (some (.inl (g.2.1 0, 12, .inl f))) = tput g m0 (taI τ 68 0 f) hp := tput_aI 229 0 (by decide) (by decide) rfl (by decide) f
theorem tg_imageAxes {g : zG} {m0 : Nat} {τ : tS} {hp : zHp} {K : Option Nat → Prop} : zgR (tput g m0 τ hp) (some m0) [5] 69 K = K (some (m0 + 230)) := tw_gR 69 (by decide) rfl
theorem ta_imageAxes {g : zG} {m0 : Nat} {τ : tS} {hp : zHp} {K : Nat → Nat → (Nat → Option Nat) → Prop} : zaR (g.2.1 15) (tput g m0 τ hp) (some (m0 + 230)) K = K (m0 + 230) 12 (fun j => some (m0 + 230 + 1 + j)) := tw_aR 230 15 (by decide) (by decide) rfl (by decide)
theorem tl_imageAxes : ∀ i, i < 12 → twL[230 + 1 + i]? = some (69, i, 1, 8) := by decide +kernel
theorem tb_imageAxes {g : zG} {m0 : Nat} {τ : tS} {hp : zHp} {K : Nat → Nat → (Nat → UInt64) → Prop} {i : Nat} (hi : i < 12) : zaD (g.2.1 1) (tput g m0 τ hp) (some (m0 + 230 + 1 + i)) K = K (m0 + 230 + 1 + i) 8 (τ.2.2.2 69 i) := by
  rw [show m0 + 230 + 1 + i = m0 + (230 + 1 + i) by omega]
  exact tw_aD (230 + 1 + i) (by omega) (by omega) (tl_imageAxes i hi)
theorem tv_imageAxes {g : zG} {m0 : Nat} {τ : tS} {hp : zHp} {i : Nat} (hi : i < 12) (f : Nat → UInt64) : va_up (tput g m0 τ hp) (m0 + 230 + 1 + i) (some (.inl (g.2.1 1, 8, .inr (.inr (.inr (.inl f)))))) = tput g m0 (taD τ 69 i f) hp := by
  rw [show m0 + 230 + 1 + i = m0 + (230 + 1 + i) by omega]
  exact tput_aD (230 + 1 + i) (by omega) (by omega) (tl_imageAxes i hi) f
theorem tg_rows {g : zG} {m0 : Nat} {τ : tS} {hp : zHp} {K : Option Nat → Prop} : zgR (tput g m0 τ hp) (some m0) [5] 70 K = K (some (m0 + 243)) := tw_gR 70 (by decide) rfl
theorem ta_rows {g : zG} {m0 : Nat} {τ : tS} {hp : zHp} {K : Nat → Nat → (Nat → Int32) → Prop} : zaI (g.2.1 0) (tput g m0 τ hp) (some (m0 + 243)) K = K (m0 + 243) 4 (τ.2.2.1 70 0) := tw_aI 243 0 (by decide) (by decide) rfl (by decide)
theorem tu_rows {g : zG} {m0 : Nat} {τ : tS} {hp : zHp} (f : Nat → Int32) : va_up (tput g m0 τ hp) (m0 + 243) (some (.inl (g.2.1 0, 4, .inl f))) = tput g m0 (taI τ 70 0 f) hp := tput_aI 243 0 (by decide) (by decide) rfl (by decide) f
theorem tg_lengths {g : zG} {m0 : Nat} {τ : tS} {hp : zHp} {K : Option Nat → Prop} : zgR (tput g m0 τ hp) (some m0) [5] 71 K = K (some (m0 + 244)) := tw_gR 71 (by decide) rfl
theorem ta_lengths {g : zG} {m0 : Nat} {τ : tS} {hp : zHp} {K : Nat → Nat → (Nat → Int32) → Prop} : zaI (g.2.1 0) (tput g m0 τ hp) (some (m0 + 244)) K = K (m0 + 244) 4 (τ.2.2.1 71 0) := tw_aI 244 0 (by decide) (by decide) rfl (by decide)
theorem tu_lengths {g : zG} {m0 : Nat} {τ : tS} {hp : zHp} (f : Nat → Int32) : va_up (tput g m0 τ hp) (m0 + 244) (some (.inl (g.2.1 0, 4, .inl f))) = tput g m0 (taI τ 71 0 f) hp := tput_aI 244 0 (by decide) (by decide) rfl (by decide) f
theorem tg_items {g : zG} {m0 : Nat} {τ : tS} {hp : zHp} {K : Option Nat → Prop} : zgR (tput g m0 τ hp) (some m0) [5] 72 K = K (some (m0 + 245)) := tw_gR 72 (by decide) rfl
theorem ta_items {g : zG} {m0 : Nat} {τ : tS} {hp : zHp} {K : Nat → Nat → (Nat → Option Nat) → Prop} : zaR (g.2.1 15) (tput g m0 τ hp) (some (m0 + 245)) K = K (m0 + 245) 4 (fun j => some (m0 + 245 + 1 + j)) := tw_aR 245 15 (by decide) (by decide) rfl (by decide)
theorem tl_items : ∀ i, i < 4 → twL[245 + 1 + i]? = some (72, i, 1, 64) := by decide +kernel
theorem tb_items {g : zG} {m0 : Nat} {τ : tS} {hp : zHp} {K : Nat → Nat → (Nat → UInt64) → Prop} {i : Nat} (hi : i < 4) : zaD (g.2.1 1) (tput g m0 τ hp) (some (m0 + 245 + 1 + i)) K = K (m0 + 245 + 1 + i) 64 (τ.2.2.2 72 i) := by
  rw [show m0 + 245 + 1 + i = m0 + (245 + 1 + i) by omega]
  exact tw_aD (245 + 1 + i) (by omega) (by omega) (tl_items i hi)
theorem tv_items {g : zG} {m0 : Nat} {τ : tS} {hp : zHp} {i : Nat} (hi : i < 4) (f : Nat → UInt64) : va_up (tput g m0 τ hp) (m0 + 245 + 1 + i) (some (.inl (g.2.1 1, 64, .inr (.inr (.inr (.inl f)))))) = tput g m0 (taD τ 72 i f) hp := by
  rw [show m0 + 245 + 1 + i = m0 + (245 + 1 + i) by omega]
  exact tput_aD (245 + 1 + i) (by omega) (by omega) (tl_items i hi) f
theorem tg_isFailed {g : zG} {m0 : Nat} {τ : tS} {hp : zHp} {K : Option Nat → Prop} : zgR (tput g m0 τ hp) (some m0) [5] 73 K = K (some (m0 + 250)) := tw_gR 73 (by decide) rfl
theorem ta_isFailed {g : zG} {m0 : Nat} {τ : tS} {hp : zHp} {K : Nat → Nat → (Nat → Option Nat) → Prop} : zaR (g.2.1 16) (tput g m0 τ hp) (some (m0 + 250)) K = K (m0 + 250) 4 (fun j => some (m0 + 250 + 1 + j)) := tw_aR 250 16 (by decide) (by decide) rfl (by decide)
theorem tl_isFailed : ∀ i, i < 4 → twL[250 + 1 + i]? = some (73, i, 3, 64) := by decide +kernel
theorem tb_isFailed {g : zG} {m0 : Nat} {τ : tS} {hp : zHp} {K : Nat → Nat → (Nat → Int32) → Prop} {i : Nat} (hi : i < 4) : zaI (g.2.1 3) (tput g m0 τ hp) (some (m0 + 250 + 1 + i)) K = K (m0 + 250 + 1 + i) 64 (τ.2.2.1 73 i) := by
  rw [show m0 + 250 + 1 + i = m0 + (250 + 1 + i) by omega]
  exact tw_aI (250 + 1 + i) 3 (by omega) (by omega) (tl_isFailed i hi) (by decide)
theorem tv_isFailed {g : zG} {m0 : Nat} {τ : tS} {hp : zHp} {i : Nat} (hi : i < 4) (f : Nat → Int32) : va_up (tput g m0 τ hp) (m0 + 250 + 1 + i) (some (.inl (g.2.1 3, 64, .inl f))) = tput g m0 (taI τ 73 i f) hp := by
  rw [show m0 + 250 + 1 + i = m0 + (250 + 1 + i) by omega]
  exact tput_aI (250 + 1 + i) 3 (by omega) (by omega) (tl_isFailed i hi) (by decide) f
theorem tg_passed {g : zG} {m0 : Nat} {τ : tS} {hp : zHp} {K : Option Nat → Prop} : zgR (tput g m0 τ hp) (some m0) [5] 74 K = K (some (m0 + 255)) := tw_gR 74 (by decide) rfl
theorem ta_passed {g : zG} {m0 : Nat} {τ : tS} {hp : zHp} {K : Nat → Nat → (Nat → UInt64) → Prop} : zaD (g.2.1 1) (tput g m0 τ hp) (some (m0 + 255)) K = K (m0 + 255) 64 (τ.2.2.2 74 0) := tw_aD 255 (by decide) (by decide) rfl
theorem tu_passed {g : zG} {m0 : Nat} {τ : tS} {hp : zHp} (f : Nat → UInt64) : va_up (tput g m0 τ hp) (m0 + 255) (some (.inl (g.2.1 1, 64, .inr (.inr (.inr (.inl f)))))) = tput g m0 (taD τ 74 0 f) hp := tput_aD 255 (by decide) (by decide) rfl f
theorem tg_passedFailed {g : zG} {m0 : Nat} {τ : tS} {hp : zHp} {K : Option Nat → Prop} : zgR (tput g m0 τ hp) (some m0) [5] 75 K = K (some (m0 + 256)) := tw_gR 75 (by decide) rfl
theorem ta_passedFailed {g : zG} {m0 : Nat} {τ : tS} {hp : zHp} {K : Nat → Nat → (Nat → Int32) → Prop} : zaI (g.2.1 3) (tput g m0 τ hp) (some (m0 + 256)) K = K (m0 + 256) 64 (τ.2.2.1 75 0) := tw_aI 256 3 (by decide) (by decide) rfl (by decide)
theorem tu_passedFailed {g : zG} {m0 : Nat} {τ : tS} {hp : zHp} (f : Nat → Int32) : va_up (tput g m0 τ hp) (m0 + 256) (some (.inl (g.2.1 3, 64, .inl f))) = tput g m0 (taI τ 75 0 f) hp := tput_aI 256 3 (by decide) (by decide) rfl (by decide) f
