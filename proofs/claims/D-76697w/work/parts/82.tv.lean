set_option maxRecDepth 100000
/-! THE VIEW: the sheet, its image, the tape, the rows; what stays all through; which operations do what -/
section TV
variable {l : Launch} {g : zG} {d m0 : Nat} {τ τ' τm τ2 : tS} {hp : zHp} {nx : Nat}
abbrev sSt : Type := sF × sY × (Nat → Int32) × sO
abbrev sRw : Type := Nat × List (Option UInt64)
abbrev sV : Type := sSt × Option sSt × List Nat × (Nat → Option sRw)
/-- what holds of a sheet beyond its being well formed -/
def sEx (S : sSt) : Prop := (∀ c, c < 24 → ∃ k, k ≤ 5 ∧ S.2.2.1 c = nI k) ∧ (∀ c, c < 24 → S.1 c ≠ [] → S.2.2.2 c = none) ∧ (∀ c, c < 24 → ∀ v, S.2.2.2 c = some v → s_kp (S.2.2.1 c) v = v) ∧ (∀ t, t < 6 → ∀ L, S.2.1 t = some L → S.1 L.2.1 = [] ∧ ∀ b, L.2.2.1 = some b → S.1 b = []) ∧ ¬ s_tm S.1 S.2.1
def tiI (k : Nat) : Nat := if k = 0 then 58 else if k = 1 then 60 else if k = 3 then 59 else if k = 4 then 63 else if k = 6 then 61 else if k = 7 then 65 else if k = 8 then 66 else if k = 9 then 67 else if k = 10 then 68 else 58
def tiD (k : Nat) : Nat := if k = 2 then 62 else if k = 5 then 64 else if k = 11 then 69 else 62
/-- the image as a state -/
def tim (τ : tS) : tS := (τ.1, τ.2.1, fun k => τ.2.2.1 (tiI k), fun k => τ.2.2.2 (tiD k))
def tst (τ : tS) : sSt := (tfm τ, tly τ, tkd τ, tow τ)
/-- all numbers that stand anywhere are bounded -/
def tNB (τ : tS) : Prop := (∀ c, c < 24 → s_B (τ.2.2.2 2 0 c)) ∧ ∀ a j, a < 12 → j < 8 → s_B (τ.2.2.2 11 a j)
def tSh (τ : tS) : Prop := (∃ rk, tOK rk τ) ∧ tNB τ ∧ sEx (tst τ)
def tTp (τ : tS) : Prop := ∃ n, n ≤ 96 ∧ τ.1 34 = nI n ∧ ∀ k, k < n → ∃ b, b < 256 ∧ τ.2.2.1 33 0 k = nI b
def ttp (τ : tS) : List Nat := (List.range (τ.1 34).toNatClampNeg).map fun k => (τ.2.2.1 33 0 k).toNatClampNeg
def tRo (τ : tS) : Prop := ∀ r, r < 4 → τ.2.2.1 70 0 r = -1 ∨ ∃ s n, s < 4 ∧ n ≤ 64 ∧ τ.2.2.1 70 0 r = nI s ∧ τ.2.2.1 71 0 r = nI n ∧ (∀ k, k < n → τ.2.2.1 73 r k = 0 ∨ τ.2.2.1 73 r k = 1) ∧ (∀ k, k < n → s_B (τ.2.2.2 72 r k)) ∧ (s ≠ 3 → ∀ k, k < n → τ.2.2.1 73 r k = 0)
def trw (τ : tS) : Nat → Option sRw := fun r => if τ.2.2.1 70 0 r < 0 then none else some ((τ.2.2.1 70 0 r).toNatClampNeg, (List.range (τ.2.2.1 71 0 r).toNatClampNeg).map fun k => if τ.2.2.1 73 r k = 0 then some (τ.2.2.2 72 r k) else none)
def tVw (τ : tS) : sV := (tst τ, if τ.1 57 = 0 then none else some (tst (tim τ)), ttp τ, trw τ)
def tINV (τ : tS) : Prop := tSh τ ∧ tNm τ ∧ ((τ.1 57 = 0 ∧ s_BO (tow (tim τ))) ∨ (τ.1 57 = 1 ∧ tSh (tim τ))) ∧ tTp τ ∧ tRo τ
/-- the sheet, the image, the tape, the rows are as they were -/
def tsp (τ τ' : tS) : Prop := τ'.1 34 = τ.1 34 ∧ τ'.1 57 = τ.1 57 ∧ (∀ k, (k < 14 ∨ k = 33 ∨ (58 ≤ k ∧ k ≤ 73)) → τ'.2.2.1 k = τ.2.2.1 k) ∧ ∀ k, (k < 14 ∨ (58 ≤ k ∧ k ≤ 73)) → τ'.2.2.2 k = τ.2.2.2 k
theorem tsc.sp (h : tsc τ τ') : tsp τ τ' := ⟨h.1 34 (by decide) (by decide) (by decide) (by decide), h.1 57 (by decide) (by decide) (by decide) (by decide), fun k hk => h.2.2.1 k (by omega) (by omega) (by omega), fun k hk => h.2.2.2 k (by omega)⟩
theorem tsp.pe (h : tsp τ τ') : tpe τ τ' := ⟨fun k hk => h.2.2.1 k (Or.inl hk), fun k hk => h.2.2.2 k (Or.inl hk)⟩
theorem tsp.rf : tsp τ τ := ⟨rfl, rfl, fun _ _ => rfl, fun _ _ => rfl⟩
theorem tsp.tr {a b c : tS} (h : tsp a b) (h2 : tsp b c) : tsp a c := ⟨h2.1.trans h.1, h2.2.1.trans h.2.1, fun k hk => (h2.2.2.1 k hk).trans (h.2.2.1 k hk), fun k hk => (h2.2.2.2 k hk).trans (h.2.2.2 k hk)⟩
theorem tiI_in (k : Nat) : 58 ≤ tiI k ∧ tiI k ≤ 73 := by unfold tiI; refine ⟨?_, ?_⟩ <;> (repeat' (first | decide | split))
theorem tiD_in (k : Nat) : 58 ≤ tiD k ∧ tiD k ≤ 73 := by unfold tiD; refine ⟨?_, ?_⟩ <;> (repeat' (first | decide | split))
theorem tsp.im (h : tsp τ τ') : tpe (tim τ) (tim τ') := ⟨fun k _ => h.2.2.1 (tiI k) (Or.inr (Or.inr (tiI_in k))), fun k _ => h.2.2.2 (tiD k) (Or.inr (tiD_in k))⟩
theorem tpe.st (h : tpe τ τ') : tst τ' = tst τ := by unfold tst; rw [h.fm, h.ly, h.kd, h.ow]
theorem tSh.pe (h : tpe τ τ') (hS : tSh τ) : tSh τ' := by
  obtain ⟨⟨rk, h1⟩, h2, h3⟩ := hS
  exact ⟨⟨rk, h1.pe h⟩, ⟨by rw [h.2 2 (by decide)]; exact h2.1, by rw [h.2 11 (by decide)]; exact h2.2⟩, by rw [h.st]; exact h3⟩
theorem tsp.inv (h : tsp τ τ') (hI : tINV τ) : tINV τ' := by
  obtain ⟨h1, h2, h3, h4, h5⟩ := hI
  refine ⟨h1.pe h.pe, h2.pe h.pe, ?_, ?_, ?_⟩
  · rw [h.2.1]
    rcases h3 with ⟨q, q1⟩ | ⟨q, q2⟩
    · exact Or.inl ⟨q, by rw [h.im.ow]; exact q1⟩
    · exact Or.inr ⟨q, q2.pe h.im⟩
  · unfold tTp
    rw [h.1, h.2.2.1 33 (by decide)]
    exact h4
  · unfold tRo
    rw [h.2.2.1 70 (by decide), h.2.2.1 71 (by decide), h.2.2.1 73 (by decide), h.2.2.2 72 (by decide)]
    exact h5
theorem tsp.vw (h : tsp τ τ') : tVw τ' = tVw τ := by
  unfold tVw
  rw [h.pe.st, h.2.1, h.im.st]
  unfold ttp trw
  rw [h.1, h.2.2.1 33 (by decide), h.2.2.1 70 (by decide), h.2.2.1 71 (by decide), h.2.2.1 73 (by decide), h.2.2.2 72 (by decide)]
/-! arguments -/
def s_cx (x : Int32) : Option Nat := if x < 0 ∨ 23 < x then none else some x.toNatClampNeg
def s_tx (x : Int32) : Option Nat := if x < 0 ∨ 5 < x then none else some x.toNatClampNeg
def s_rx (x : Int32) : Option Nat := if x < 0 ∨ 3 < x then none else some x.toNatClampNeg
theorem s_x_of {x M : Int32} {n : Nat} (hM : M.toInt = n) : (x < 0 ∨ M < x) ∨ ∃ c, c < n + 1 ∧ x = nI c := by
  by_cases h : x < 0 ∨ M < x
  · exact Or.inl h
  · right
    have h1 : ¬ x < 0 := fun q => h (Or.inl q)
    have h2 : x ≤ M := by
      have : ¬ M < x := fun q => h (Or.inr q)
      rw [Int32.lt_iff_toInt_lt] at this
      rw [Int32.le_iff_toInt_le]
      omega
    obtain ⟨j, hj, e⟩ := nI_of2 hM h1 h2
    exact ⟨j, by omega, e⟩
theorem s_nx {c n : Nat} {M : Int32} (hM : M.toInt = n) (hc : c < n + 1) (hn : n < 2 ^ 30) : ¬ (nI c < 0 ∨ M < nI c) := by
  rintro (h | h)
  · exact nI_pos (by omega) h
  · rw [Int32.lt_iff_toInt_lt, hM, nI_toInt (by omega)] at h
    omega
theorem s_cx_of (x : Int32) : (x < 0 ∨ 23 < x) ∨ ∃ c, c < 24 ∧ x = nI c := s_x_of (n := 23) (by decide)
theorem s_tx_of (x : Int32) : (x < 0 ∨ 5 < x) ∨ ∃ c, c < 6 ∧ x = nI c := s_x_of (n := 5) (by decide)
theorem s_rx_of (x : Int32) : (x < 0 ∨ 3 < x) ∨ ∃ c, c < 4 ∧ x = nI c := s_x_of (n := 3) (by decide)
theorem s_cx_n {c : Nat} (hc : c < 24) : ¬ (nI c < 0 ∨ 23 < nI c) := s_nx (n := 23) (by decide) hc (by decide)
theorem s_tx_n {c : Nat} (hc : c < 6) : ¬ (nI c < 0 ∨ 5 < nI c) := s_nx (n := 5) (by decide) hc (by decide)
theorem s_rx_n {c : Nat} (hc : c < 4) : ¬ (nI c < 0 ∨ 3 < nI c) := s_nx (n := 3) (by decide) hc (by decide)
theorem s_cx_s {c : Nat} (hc : c < 24) : s_cx (nI c) = some c := by unfold s_cx; rw [if_neg (s_cx_n hc), nI_clamp (by omega)]
theorem s_tx_s {c : Nat} (hc : c < 6) : s_tx (nI c) = some c := by unfold s_tx; rw [if_neg (s_tx_n hc), nI_clamp (by omega)]
theorem s_rx_s {c : Nat} (hc : c < 4) : s_rx (nI c) = some c := by unfold s_rx; rw [if_neg (s_rx_n hc), nI_clamp (by omega)]
theorem t_in' {x0 x1 x2 : Int32} {K : Int32 → zHp → Nat → Prop} (hd : 1 ≤ d) (hK : K (if x0 < x1 ∨ x2 < x0 then 0 else 1) hp nx) : zMt l g yX5_in cX5_in 3 (some .boolean) d 0 0 [.int x0, .int x1, .int x2] hp nx (zQi g K) := by
  obtain ⟨d, rfl⟩ := Nat.exists_eq_add_of_le' hd
  exact t_in hK
theorem t_isCell' {x : Int32} {K : Int32 → zHp → Nat → Prop} (hd : 2 ≤ d) (hK : K (if x < 0 ∨ 23 < x then 0 else 1) hp nx) : zMt l g yX5_isCell cX5_isCell 1 (some .boolean) d 0 0 [.int x] hp nx (zQi g K) := by
  obtain ⟨d, rfl⟩ := Nat.exists_eq_add_of_le' hd
  exact t_isCell hK
theorem t_isTable' {x : Int32} {K : Int32 → zHp → Nat → Prop} (hd : 2 ≤ d) (hK : K (if x < 0 ∨ 5 < x then 0 else 1) hp nx) : zMt l g yX5_isTable cX5_isTable 1 (some .boolean) d 0 0 [.int x] hp nx (zQi g K) := by
  obtain ⟨d, rfl⟩ := Nat.exists_eq_add_of_le' hd
  exact t_isTable hK
theorem s_01 {p : Prop} [Decidable p] : (if p then (0 : Int32) else 1) = 0 ∨ (if p then (0 : Int32) else 1) = 1 := by
  split
  · exact Or.inl rfl
  · exact Or.inr rfl
theorem t_isRow' {x : Int32} {K : Int32 → zHp → Nat → Prop} (hd : 2 ≤ d) (hK : K (if x < 0 ∨ 3 < x then 0 else 1) hp nx) : zMt l g yX5_isRow cX5_isRow 1 (some .boolean) d 0 0 [.int x] hp nx (zQi g K) := by
  obtain ⟨d, rfl⟩ := Nat.exists_eq_add_of_le' (show 1 ≤ d by omega)
  apply met_X5_isRow
  unfold wp_X5_isRow
  exact t_in' (by omega) ⟨s_01, hK⟩
theorem t_isEighths {x : Int32} {K : Int32 → zHp → Nat → Prop} (hd : 2 ≤ d) (hK : K (if x < -8000000 ∨ 8000000 < x then 0 else 1) hp nx) : zMt l g yX5_isEighths cX5_isEighths 1 (some .boolean) d 0 0 [.int x] hp nx (zQi g K) := by
  obtain ⟨d, rfl⟩ := Nat.exists_eq_add_of_le' (show 1 ≤ d by omega)
  apply met_X5_isEighths
  unfold wp_X5_isEighths
  exact t_in' (by omega) ⟨s_01, hK⟩
/-! operations -/
def o_8 (v : Int32) : UInt64 := FP.ddiv (FP.i2d v) 4620693217682128896
noncomputable def s_val (S : sSt) (c : Nat) : sT := s_EV S.1 S.2.1 S.2.2.1 S.2.2.2 c
def s_ow (S : sSt) (ow : sO) : sSt := (S.1, S.2.1, S.2.2.1, ow)
noncomputable def o_set (A : sV) (x v : Int32) : Int32 × sV := match s_cx x with
  | none => (-2, A)
  | some c => if v < -8000000 ∨ 8000000 < v then (-2, A) else if A.1.1 c ≠ [] then (-3, A) else (1, s_ow A.1 (s_up A.1.2.2.2 c (some (s_kp (A.1.2.2.1 c) (o_8 v)))), A.2)
noncomputable def o_clear (A : sV) (x : Int32) : Int32 × sV := match s_cx x with
  | none => (-2, A)
  | some c => (1, (s_up A.1.1 c [], A.1.2.1, A.1.2.2.1, s_up A.1.2.2.2 c none), A.2)
noncomputable def o_kind (A : sV) (x k : Int32) : Int32 × sV := match s_cx x with
  | none => (-2, A)
  | some c => if k < 0 ∨ 5 < k then (-2, A) else (A.1.2.2.1 c, (A.1.1, A.1.2.1, s_up A.1.2.2.1 c k, s_up A.1.2.2.2 c ((A.1.2.2.2 c).map (s_kp k))), A.2)
noncomputable def o_told (A : sV) (x w : Int32) : Int32 := match s_cx x with
  | none => -2
  | some c => if w < 0 ∨ 7 < w then -2 else if w = 0 then A.1.2.2.1 c else if w = 1 then (if A.1.1 c = [] then 0 else 1) else if w = 2 then s_ms (s_RD A.1.1 A.1.2.1 c) 24 else if w = 3 then s_ms (s_RE A.1.1 c) 24 else if w = 4 then nI (s_BU A.1.1 A.1.2.1 c) else if w = 7 then (if A.1.1 c = [] ∧ A.1.2.2.2 c = none then 1 else 0) else if w = 5 then (s_val A.1 c).2.1 else (s_val A.1 c).2.2
noncomputable def o_value (A : sV) (x : Int32) : Int64 := match s_cx x with
  | none => -2
  | some c => s_an (s_val A.1 c).1 (s_val A.1 c).2.1
noncomputable def o_would (A : sV) (x v y : Int32) : Int64 := match s_cx x with
  | none => -2
  | some c => if v < -8000000 ∨ 8000000 < v then -2 else match s_cx y with
    | none => -2
    | some e => if A.1.1 c ≠ [] then -3 else s_an (s_val (s_ow A.1 (s_up A.1.2.2.2 c (some (o_8 v)))) e).1 (s_val (s_ow A.1 (s_up A.1.2.2.2 c (some (o_8 v)))) e).2.1
/-- the sheet with other numbers -/
theorem tSh_nw (hS : tSh τ) (hm3 : ∀ k i j, ¬ (k = 1 ∧ i = 0) → τm.2.2.1 k i j = τ.2.2.1 k i j) (hm4 : ∀ k i j, ¬ (k = 2 ∧ i = 0) → τm.2.2.2 k i j = τ.2.2.2 k i j) (hB : ∀ c, c < 24 → s_B (τm.2.2.2 2 0 c)) (hBO : s_BO (tow τm)) (hbo : ∀ c, c < 24 → τm.2.2.1 1 0 c = 0 ∨ τm.2.2.1 1 0 c = 1) (hn : ∀ c, c < 24 → tfm τ c ≠ [] → tow τm c = none) (hk : ∀ c, c < 24 → ∀ v, tow τm c = some v → s_kp (tkd τ c) v = v) : tSh τm ∧ tst τm = s_ow (tst τ) (tow τm) := by
  obtain ⟨⟨rk, h1⟩, h2, h3⟩ := hS
  obtain ⟨OK, efm, ely, ekd⟩ := h1.nw hm3 hm4 hBO hbo
  have e : tst τm = s_ow (tst τ) (tow τm) := by unfold tst s_ow; rw [efm, ely, ekd]
  refine ⟨⟨⟨rk, OK⟩, ⟨hB, fun a j ha hj => by rw [hm4 11 a j (by omega)]; exact h2.2 a j ha hj⟩, ?_⟩, e⟩
  rw [e]
  exact ⟨h3.1, hn, hk, h3.2.2.2.1, h3.2.2.2.2⟩
theorem tSh.fmx (hS : tSh τ) {c : Nat} (hc : c < 24) : (τ.2.2.1 3 0 c = 0 ↔ tfm τ c = []) := by
  obtain ⟨⟨rk, h1⟩, -⟩ := hS
  obtain ⟨s, hs96, hs, -⟩ := h1.1 c hc
  rw [tfm_len hs hs96, hs]
  by_cases e : s = 0
  · subst e; simp; rfl
  · simp [e]; exact nI_ne0 (by omega) (by omega)
theorem to_set {x v : Int32} {K : Int32 → zHp → Nat → Prop} (hd : 200 ≤ d) (hB : zB g ≤ m0) (hI : tINV τ) (hK : ∀ τ', tINV τ' → tVw τ' = (o_set (tVw τ) x v).2 → K (o_set (tVw τ) x v).1 (tput g m0 τ' hp) nx) : zMt l g yX5_set cX5_set 3 (some .int) d 0 0 [.ref m0, .int x, .int v] (tput g m0 τ hp) nx (zQi g K) := by
  obtain ⟨d, rfl⟩ := Nat.exists_eq_add_of_le' (show 1 ≤ d by omega)
  apply met_X5_set
  unfold wp_X5_set
  unfold o_set at hK
  refine t_isCell' (by omega) ?_
  refine ⟨_, fun _ _ h => h, ?_⟩
  rcases s_cx_of x with hx | ⟨c, hc, rfl⟩
  · simp only [s_cx, if_pos hx] at hK ⊢
    exact ⟨fun _ => hK τ hI rfl, fun h => absurd (by trivial) h⟩
  · simp only [s_cx_s hc] at hK
    rw [if_neg (s_cx_n hc)]
    refine ⟨fun h => absurd h (by decide), fun _ => ?_⟩
    refine t_isEighths (by omega) ?_
    by_cases hv : v < -8000000 ∨ 8000000 < v
    · rw [if_pos hv] at hK ⊢
      exact ⟨fun _ => hK τ hI rfl, fun h => absurd (by trivial) h⟩
    · rw [if_neg hv] at hK ⊢
      refine ⟨fun h => absurd h (by decide), fun _ => ?_⟩
      rw [tw_zo]
      refine t_isInput' (by omega) hc ?_
      by_cases h3 : τ.2.2.1 3 0 c = 0
      · have he : tfm τ c = [] := (hI.1.fmx hc).mp h3
        have he' : ¬ (tVw τ).1.1 c ≠ [] := fun q => q he
        rw [if_neg he'] at hK
        rw [if_pos h3]
        refine ⟨fun h => absurd h (by decide), fun _ => ?_⟩
        have cc : (nI c).toNatClampNeg = c := nI_clamp (by omega)
        have ic : vp_in (nI c) 24 := vp_in_nI hc (by decide)
        have hB2 : ∀ n, zB g ≤ m0 + n := fun n => by omega
        have n1 : vp_nar .boolean 1 = 1 := by decide
        simp only [tg_numbers, ta_numbers, tu_numbers, tg_kinds, ta_kinds, tu_kinds, cc, ic, true_implies, false_implies, implies_true, and_true, true_and, forall_eq]
        refine ⟨fb_nn fb_8, t_kept (by omega) fb_8 ?_⟩
        simp only [tg_numbers, ta_numbers, tu_numbers, tg_given, ta_given, tu_given, cc, ic, hB2, n1, true_implies, false_implies, implies_true, and_true, true_and, forall_eq, tq1, tq3, tq4, tq5, tq7, tq8, tq9, tqa, tqc, tqd, tqe, tqf, tqg, tqh, tqj, va_s, ne_eq, reduceCtorEq, not_false_eq_true, not_true_eq_false, if_true, if_false, Nat.reduceEqDiff]
        obtain ⟨τm, hτm⟩ : ∃ τm, τm = taI (taD τ 2 0 (va_up (τ.2.2.2 2 0) c (s_kp (τ.2.2.1 0 0 c) (FP.ddiv (FP.i2d v) 4620693217682128896)))) 1 0 (va_up (τ.2.2.1 1 0) c 1) := ⟨_, rfl⟩
        rw [← hτm]
        have how : tow τm = s_up (tow τ) c (some (s_kp (tkd τ c) (o_8 v))) := by
          funext y
          unfold tow
          rw [hτm]
          simp only [tq1, tq3, tq4, tq5, tq7, tq8, tq9, tqa, tqc, tqd, tqe, tqf, tqg, tqh, tqj, va_s, ne_eq, reduceCtorEq, not_false_eq_true, not_true_eq_false, if_true, if_false, Nat.reduceEqDiff]
          by_cases e : y = c
          · subst e; rw [s_up_s, va_s, va_s]; rfl
          · rw [s_up_o e, va_o e, va_o e]
        have m3 : ∀ k i j, ¬ (k = 1 ∧ i = 0) → τm.2.2.1 k i j = τ.2.2.1 k i j := by
          intro k i' j h
          rw [hτm]
          by_cases hk : k = 1
          · subst hk; rw [tqb (by omega)]; rfl
          · rw [tqc hk]; rfl
        have m4 : ∀ k i j, ¬ (k = 2 ∧ i = 0) → τm.2.2.2 k i j = τ.2.2.2 k i j := by
          intro k i' j h
          rw [hτm, tqd]
          by_cases hk : k = 2
          · subst hk; rw [tqi (by omega)]
          · rw [tqj hk]
        have hx := hI.1.2.2
        obtain ⟨q1, q2⟩ := tSh_nw hI.1 m3 m4 (fun y hy => by
            rw [hτm]
            simp only [tq1, tq3, tq4, tq5, tq7, tq8, tq9, tqa, tqc, tqd, tqe, tqf, tqg, tqh, tqj, va_s, ne_eq, reduceCtorEq, not_false_eq_true, not_true_eq_false, if_true, if_false, Nat.reduceEqDiff]
            by_cases e : y = c
            · subst e; rw [va_s]; exact fb_kp fb_8
            · rw [va_o e]; exact hI.1.2.1.1 y hy) (by rw [how]; obtain ⟨rk, hO⟩ := hI.1.1; exact s_up_BO hO.2.2.2.2.2.2.1 (fb_kp fb_8)) (fun y hy => by
            rw [hτm]
            simp only [tq1, tq3, tq4, tq5, tq7, tq8, tq9, tqa, tqc, tqd, tqe, tqf, tqg, tqh, tqj, va_s, ne_eq, reduceCtorEq, not_false_eq_true, not_true_eq_false, if_true, if_false, Nat.reduceEqDiff]
            by_cases e : y = c
            · subst e; rw [va_s]; exact Or.inr rfl
            · rw [va_o e]; obtain ⟨rk, hO⟩ := hI.1.1; exact hO.2.2.2.2.2.2.2.1 y hy) (fun y hy hn => by
            rw [how]
            by_cases e : y = c
            · subst e; exact absurd he hn
            · rw [s_up_o e]; exact hx.2.1 y hy hn) (fun y hy w hw => by
            rw [how] at hw
            by_cases e : y = c
            · subst e; rw [s_up_s] at hw; cases hw; exact fb_kp_kp fb_8
            · rw [s_up_o e] at hw; exact hx.2.2.1 y hy w hw)
        have em : ∀ k, k ≠ 1 → τm.2.2.1 k = τ.2.2.1 k := fun k hk => funext fun i => funext fun j => m3 k i j (fun h => hk h.1)
        have em4 : ∀ k, k ≠ 2 → τm.2.2.2 k = τ.2.2.2 k := fun k hk => funext fun i => funext fun j => m4 k i j (fun h => hk h.1)
        have e1 : τm.1 = τ.1 := by rw [hτm]; rfl
        have im : tpe (tim τ) (tim τm) := ⟨fun k _ => em _ (by have := tiI_in k; omega), fun k _ => em4 _ (by have := tiD_in k; omega)⟩
        refine hK τm ⟨q1, ?_, ?_, ?_, ?_⟩ ?_
        · intro y hy
          obtain ⟨w1, w2⟩ := hI.2.1 y hy
          have ef : tfm τm = tfm τ := congrArg Prod.fst q2
          unfold tNc
          rw [em 12 (by decide), em 13 (by decide), ef]
          exact ⟨w1, w2⟩
        · rw [e1]
          rcases hI.2.2.1 with ⟨q, q1⟩ | ⟨q, q2⟩
          · exact Or.inl ⟨q, by rw [im.ow]; exact q1⟩
          · exact Or.inr ⟨q, q2.pe im⟩
        · unfold tTp
          rw [e1, em 33 (by decide)]
          exact hI.2.2.2.1
        · unfold tRo
          rw [em 70 (by decide), em 71 (by decide), em 73 (by decide), em4 72 (by decide)]
          exact hI.2.2.2.2
        · unfold tVw ttp trw
          rw [q2, how, e1, im.st, em 33 (by decide), em 70 (by decide), em 71 (by decide), em 73 (by decide), em4 72 (by decide)]
          rfl
      · have he : tfm τ c ≠ [] := fun q => h3 ((hI.1.fmx hc).mpr q)
        have he' : (tVw τ).1.1 c ≠ [] := he
        rw [if_pos he'] at hK
        rw [if_neg h3]
        exact ⟨fun _ => hK τ hI rfl, fun h => absurd (by trivial) h⟩
end TV
