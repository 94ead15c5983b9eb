set_option maxRecDepth 100000
/-! THE REFERENCE's operations: drop, at, blame, adds -/
section TY
variable {l : Launch} {g : zG} {d m0 : Nat} {τ τ' τm τ2 : tS} {hp : zHp} {nx : Nat}
/-- a table is another one (or none) -/
theorem tSh_ly {t : Nat} (hS : tSh τ) (ht : t < 6)
    (hI : ∀ k i j, k < 14 → ¬ ((k = 6 ∨ k = 7 ∨ k = 8 ∨ k = 9) ∧ i = 0 ∧ j = t) → ¬ (k = 10 ∧ i = 0 ∧ (j = 2 * t ∨ j = 2 * t + 1)) → τm.2.2.1 k i j = τ.2.2.1 k i j)
    (hD : ∀ k i j, k < 14 → ¬ (k = 11 ∧ (i = 2 * t ∨ i = 2 * t + 1)) → τm.2.2.2 k i j = τ.2.2.2 k i j)
    (hb : τm.2.2.1 6 0 t = 0 ∨ τm.2.2.1 6 0 t = 1)
    (hW : τm.2.2.1 6 0 t ≠ 0 → ∃ o a n, o < 24 ∧ a < 24 ∧ 1 ≤ n ∧ n ≤ 8 ∧ τm.2.2.1 7 0 t = nI o ∧ τm.2.2.1 8 0 t = nI a ∧ τm.2.2.1 10 0 (2 * t) = nI n ∧ (τm.2.2.1 9 0 t = -1 ∨ ∃ b m, b < 24 ∧ b ≠ a ∧ 1 ≤ m ∧ m ≤ 8 ∧ τm.2.2.1 9 0 t = nI b ∧ τm.2.2.1 10 0 (2 * t + 1) = nI m))
    (hrk : ∃ rk, s_rk (tfm τ) (s_up (tly τ) t (tly τm t)) rk)
    (hL : ∀ L, tly τm t = some L → (∀ v ∈ L.2.2.2.1, s_B v) ∧ (∀ v ∈ L.2.2.2.2, s_B v) ∧ s_nc L ≤ 64)
    (hAx : ∀ a j, (a = 2 * t ∨ a = 2 * t + 1) → j < 8 → s_B (τm.2.2.2 11 a j))
    (hin : ∀ L, tly τm t = some L → tfm τ L.2.1 = [] ∧ ∀ b, L.2.2.1 = some b → tfm τ b = []) :
    (∃ rk, tOK rk τm) ∧ (¬ s_tm (tfm τ) (s_up (tly τ) t (tly τm t)) → tSh τm) ∧ tst τm = (tfm τ, s_up (tly τ) t (tly τm t), tkd τ, tow τ) ∧ (tNm τ → tNm τm) := by
  obtain ⟨⟨rk, hO⟩, hnb, hx⟩ := hS
  have eI : ∀ k, k < 14 → k ≠ 6 → k ≠ 7 → k ≠ 8 → k ≠ 9 → k ≠ 10 → τm.2.2.1 k = τ.2.2.1 k := fun k a b e f h1 h2 => funext fun i => funext fun j => hI k i j a (fun q => by omega) (fun q => by omega)
  have eD : ∀ k, k < 14 → k ≠ 11 → τm.2.2.2 k = τ.2.2.2 k := fun k a b => funext fun i => funext fun j => hD k i j a (fun q => by omega)
  have efm : tfm τm = tfm τ := by
    funext y
    unfold tfm
    rw [eI 3 (by decide) (by decide) (by decide) (by decide) (by decide) (by decide)]
    congr 1
    funext k
    unfold tmk
    rw [eI 4 (by decide) (by decide) (by decide) (by decide) (by decide) (by decide), eD 5 (by decide) (by decide)]
  have ekd : tkd τm = tkd τ := by unfold tkd; rw [eI 0 (by decide) (by decide) (by decide) (by decide) (by decide) (by decide)]
  have eow : tow τm = tow τ := by unfold tow; rw [eI 1 (by decide) (by decide) (by decide) (by decide) (by decide) (by decide), eD 2 (by decide) (by decide)]
  have elx : ∀ u, u ≠ t → tly τm u = tly τ u := by
    intro u hu
    have ax : ∀ a, a ≠ 2 * t → a ≠ 2 * t + 1 → tax τm a = tax τ a := by
      intro a h1 h2
      unfold tax
      rw [hI 10 0 a (by decide) (by omega) (by omega), show τm.2.2.2 11 a = τ.2.2.2 11 a from funext fun j => hD 11 a j (by decide) (by omega)]
    unfold tly
    rw [hI 6 0 u (by decide) (by omega) (by omega), hI 7 0 u (by decide) (by omega) (by omega), hI 8 0 u (by decide) (by omega) (by omega), hI 9 0 u (by decide) (by omega) (by omega), ax (2 * u) (by omega) (by omega), ax (2 * u + 1) (by omega) (by omega)]
  have ely : tly τm = s_up (tly τ) t (tly τm t) := by
    funext u
    by_cases e : u = t
    · subst e; rw [s_up_s]
    · rw [s_up_o e, elx u e]
  have est : tst τm = (tfm τ, s_up (tly τ) t (tly τm t), tkd τ, tow τ) := by
    unfold tst
    rw [efm, ekd, eow]
    exact congrArg (fun z => (tfm τ, z, tkd τ, tow τ)) ely
  have hWc : tWc τm := by
    unfold tWc
    rw [efm, eI 3 (by decide) (by decide) (by decide) (by decide) (by decide) (by decide), eI 4 (by decide) (by decide) (by decide) (by decide) (by decide) (by decide)]
    exact hO.1
  obtain ⟨rk0, hrk⟩ := hrk
  rw [← ely, ← efm] at hrk
  obtain ⟨rk', r1, r2⟩ := s_rk_small hrk hWc.mo
  have OK : tOK rk' τm := by
    refine ⟨hWc, ?_, r1, r2, by rw [efm]; exact hO.2.2.2.2.1, ?_, by rw [eow]; exact hO.2.2.2.2.2.2.1, ?_, ?_⟩
    · intro u hu h6
      by_cases e : u = t
      · subst e; exact hW h6
      · rw [hI 6 0 u (by decide) (by omega) (by omega)] at h6
        rw [hI 7 0 u (by decide) (by omega) (by omega), hI 8 0 u (by decide) (by omega) (by omega), hI 9 0 u (by decide) (by omega) (by omega), hI 10 0 (2 * u) (by decide) (by omega) (by omega), hI 10 0 (2 * u + 1) (by decide) (by omega) (by omega)]
        exact hO.2.1 u hu h6
    · intro u hu L h
      by_cases e : u = t
      · subst e; exact hL L h
      · rw [elx u e] at h; exact hO.2.2.2.2.2.1 u hu L h
    · rw [eI 1 (by decide) (by decide) (by decide) (by decide) (by decide) (by decide)]; exact hO.2.2.2.2.2.2.2.1
    · intro u hu
      by_cases e : u = t
      · subst e; exact hb
      · rw [hI 6 0 u (by decide) (by omega) (by omega)]; exact hO.2.2.2.2.2.2.2.2 u hu
  refine ⟨⟨rk', OK⟩, fun htm => ⟨⟨rk', OK⟩, ?_, ?_⟩, est, ?_⟩
  · refine ⟨by rw [eD 2 (by decide) (by decide)]; exact hnb.1, fun a j ha hj => ?_⟩
    by_cases e : a = 2 * t ∨ a = 2 * t + 1
    · exact hAx a j e hj
    · rw [hD 11 a j (by decide) (fun q => e q.2)]; exact hnb.2 a j ha hj
  · rw [est]
    refine ⟨hx.1, hx.2.1, hx.2.2.1, fun u hu L h => ?_, htm⟩
    have h' : s_up (tly τ) t (tly τm t) u = some L := h
    by_cases e : u = t
    · subst e; rw [s_up_s] at h'; exact hin L h'
    · rw [s_up_o e] at h'; exact hx.2.2.2.1 u hu L h'
  · intro hN y hy
    obtain ⟨w1, w2⟩ := hN y hy
    unfold tNc
    rw [eI 12 (by decide) (by decide) (by decide) (by decide) (by decide) (by decide), eI 13 (by decide) (by decide) (by decide) (by decide) (by decide) (by decide), efm]
    exact ⟨w1, w2⟩
noncomputable def o_drop (A : sV) (x : Int32) : Int32 × sV := match s_tx x with
  | none => (-2, A)
  | some t => match A.1.2.1 t with
    | none => (-3, A)
    | some _ => (1, (A.1.1, s_up A.1.2.1 t none, A.1.2.2.1, A.1.2.2.2), A.2)
theorem to_drop {x : Int32} {K : Int32 → zHp → Nat → Prop} (hd : 200 ≤ d) (hB : zB g ≤ m0) (hI : tINV τ) (hK : ∀ τ', tINV τ' → tVw τ' = (o_drop (tVw τ) x).2 → K (o_drop (tVw τ) x).1 (tput g m0 τ' hp) nx) : zMt l g yX5_drop cX5_drop 2 (some .int) d 0 0 [.ref m0, .int x] (tput g m0 τ hp) nx (zQi g K) := by
  obtain ⟨d, rfl⟩ := Nat.exists_eq_add_of_le' (show 1 ≤ d by omega)
  apply met_X5_drop
  unfold wp_X5_drop
  unfold o_drop at hK
  refine t_isTable' (by omega) ?_
  rcases s_tx_of x with hx | ⟨t, ht, rfl⟩
  · simp only [s_tx, if_pos hx] at hK ⊢
    exact ⟨fun _ => hK τ hI rfl, fun h => absurd (by trivial) h⟩
  · simp only [s_tx_s ht] at hK
    rw [if_neg (s_tx_n ht)]
    refine ⟨fun h => absurd h (by decide), fun _ => ?_⟩
    have ct : (nI t).toNatClampNeg = t := nI_clamp (by omega)
    have it : vp_in (nI t) 6 := vp_in_nI ht (by decide)
    have hB2 : ∀ n, zB g ≤ m0 + n := fun n => by omega
    have n0 : vp_nar .boolean 0 = 0 := by decide
    have el : (tVw τ).1.2.1 t = tly τ t := rfl
    rw [el] at hK
    simp only [tg_laid, ta_laid, tu_laid, ct, it, hB2, n0, true_implies, false_implies, implies_true, and_true, true_and, forall_eq]
    refine ⟨fun h6 => ?_, fun h6 => ?_⟩
    · rw [tly_none.mp h6] at hK
      exact hK τ hI rfl
    · obtain ⟨L, hL⟩ : ∃ L, tly τ t = some L := by
        cases hl : tly τ t with
        | none => exact absurd (tly_none.mpr hl) h6
        | some L => exact ⟨L, rfl⟩
      rw [hL] at hK
      obtain ⟨τm, hτm⟩ : ∃ τm, τm = taI τ 6 0 (va_up (τ.2.2.1 6 0) t 0) := ⟨_, rfl⟩
      rw [← hτm]
      have hIm : ∀ k i j, ¬ (k = 6 ∧ i = 0 ∧ j = t) → τm.2.2.1 k i j = τ.2.2.1 k i j := by
        intro k i j h
        rw [hτm]
        by_cases hk : k = 6
        · subst hk
          by_cases hi : i = 0
          · subst hi; rw [tqa, va_o (by omega)]
          · rw [tqb hi]
        · rw [tqc hk]
      have hDm : τm.2.2.2 = τ.2.2.2 := by rw [hτm]; rfl
      have e6 : τm.2.2.1 6 0 t = 0 := by rw [hτm, tqa, va_s]
      have en : tly τm t = none := tly_none.mp e6
      obtain ⟨⟨rk, hO⟩, hnb, hx⟩ := hI.1
      have less : ∀ u, s_up (tly τ) t (tly τm t) u = tly τ u ∨ s_up (tly τ) t (tly τm t) u = none := by
        intro u
        by_cases e : u = t
        · subst e; rw [s_up_s, en]; exact Or.inr rfl
        · rw [s_up_o e]; exact Or.inl rfl
      obtain ⟨-, q1, q2, q3⟩ := tSh_ly hI.1 ht (fun k i j _ a b => hIm k i j (by omega)) (fun k i j _ _ => by rw [hDm]) (Or.inl e6) (fun h => absurd e6 h) ⟨rk, s_rk_less hO.2.2.1 (fun _ => Or.inl rfl) less⟩ (fun L h => by rw [en] at h; cases h) (fun a j ha hj => by rw [hDm]; exact hnb.2 a j (by omega) hj) (fun L h => by rw [en] at h; cases h)
      have q1 := q1 (s_tm_less (fun _ => Or.inl rfl) less hx.2.2.2.2)
      rw [en] at q2
      have e1 : τm.1 = τ.1 := by rw [hτm]; rfl
      obtain ⟨r1, r2⟩ := tINV_st hI q1 q2 (q3 hI.2.1) (by rw [e1]) (by rw [e1]) (fun k hk => funext fun i => funext fun j => hIm k i j (by omega)) (fun k hk => by rw [hDm])
      exact hK τm r1 r2
/-- what a case tells -/
noncomputable def s_cv (S : sSt) (L : sL) (i j : Nat) : sT := s_EV S.1 S.2.1 S.2.2.1 (s_bi L S.2.2.2 i j) L.1
def o_no (S : sSt) (x i j : Int32) : Int32 := match s_tx x with
  | none => -2
  | some t => match S.2.1 t with
    | none => -3
    | some L => if (i < 0 ∨ nI L.2.2.2.1.length - 1 < i) ∨ (j < 0 ∨ nI (s_my L) - 1 < j) then -2 else 0
theorem t_refusal {x i j : Int32} {K : Int32 → zHp → Nat → Prop} (hd : 10 ≤ d) (hI : tINV τ) (hK : K (o_no (tst τ) x i j) (tput g m0 τ hp) nx) : zMt l g yX5_refusal cX5_refusal 4 (some .int) d 0 0 [.ref m0, .int x, .int i, .int j] (tput g m0 τ hp) nx (zQi g K) := by
  obtain ⟨d, rfl⟩ := Nat.exists_eq_add_of_le' (show 1 ≤ d by omega)
  apply met_X5_refusal
  unfold wp_X5_refusal
  unfold o_no at hK
  refine t_isTable' (by omega) ?_
  rcases s_tx_of x with hx | ⟨t, ht, rfl⟩
  · simp only [s_tx, if_pos hx] at hK ⊢
    exact ⟨fun _ => hK, fun h => absurd (by trivial) h⟩
  · simp only [s_tx_s ht] at hK
    rw [if_neg (s_tx_n ht)]
    refine ⟨fun h => absurd h (by decide), fun _ => ?_⟩
    have ct : (nI t).toNatClampNeg = t := nI_clamp (by omega)
    have it : vp_in (nI t) 6 := vp_in_nI ht (by decide)
    have el : (tst τ).2.1 t = tly τ t := rfl
    rw [el] at hK
    simp only [tg_laid, ta_laid, tu_laid, ct, it, true_implies, false_implies, implies_true, and_true, true_and, forall_eq]
    refine ⟨fun h6 => ?_, fun h6 => ?_⟩
    · rw [tly_none.mp h6] at hK
      exact hK
    · obtain ⟨L, hL⟩ : ∃ L, tly τ t = some L := by
        cases hl : tly τ t with
        | none => exact absurd (tly_none.mpr hl) h6
        | some L => exact ⟨L, rfl⟩
      rw [hL] at hK
      simp only at hK
      obtain ⟨⟨rk, hO⟩, -⟩ := hI.1
      obtain ⟨_, lo, la, e7, e8, ⟨hn1, hn8, e10⟩, eax, hot⟩ := tly_some hO.2.1 ht hL
      have e2 : (2 : Int32) * nI t = nI (2 * t) := pk_mul 2 t
      have e21 : nI (2 * t) + 1 = nI (2 * t + 1) := nI_1 _
      have c2 : (nI (2 * t)).toNatClampNeg = 2 * t := nI_clamp (by omega)
      have c21 : (nI (2 * t + 1)).toNatClampNeg = 2 * t + 1 := nI_clamp (by omega)
      have i2 : vp_in (nI (2 * t)) 12 := vp_in_nI (by omega) (by decide)
      have i21 : vp_in (nI (2 * t + 1)) 12 := vp_in_nI (by omega) (by decide)
      simp only [tg_axisSizes, ta_axisSizes, tu_axisSizes, e2, c2, i2, e10, true_implies, false_implies, implies_true, and_true, true_and, forall_eq]
      refine t_in' (by omega) ?_
      refine ⟨_, fun _ _ _ h => h, ?_⟩
      refine ⟨_, fun _ _ h => h, ?_⟩
      by_cases hi : i < 0 ∨ nI L.2.2.2.1.length - 1 < i
      · rw [if_pos (Or.inl hi)] at hK
        rw [if_pos hi]
        exact ⟨fun _ => hK, fun h => absurd (by trivial) h⟩
      · rw [if_neg hi]
        refine ⟨fun h => absurd h (by decide), fun _ => ?_⟩
        simp only [tg_others, ta_others, tu_others, tg_axisSizes, ta_axisSizes, tu_axisSizes, ct, it, e2, e21, c21, i21, true_implies, false_implies, implies_true, and_true, true_and, forall_eq]
        obtain ⟨P, hP⟩ : ∃ P : Int32 → Int32 → Int32 → zHp → Nat → Prop, P = (fun a b c h n => a = j ∧ b = 0 ∧ c = nI (s_my L) - 1 ∧ h = tput g m0 τ hp ∧ nx = n) := ⟨_, rfl⟩
        refine ⟨P, ?_, ?_⟩
        · intro a b c h n hh
          rw [hP] at hh
          obtain ⟨rfl, rfl, rfl, rfl, rfl⟩ := hh
          refine t_in' (by omega) ?_
          by_cases hj : a < 0 ∨ nI (s_my L) - 1 < a
          · rw [if_pos (Or.inr hj)] at hK
            rw [if_pos hj]
            exact ⟨fun _ => hK, fun h => absurd (by trivial) h⟩
          · rw [if_neg (fun q => q.elim hi hj)] at hK
            rw [if_neg hj]
            exact ⟨fun h => absurd h (by decide), fun _ => hK⟩
        · rw [hP]
          rcases hot with ⟨h9, n9, b9, my⟩ | ⟨b, hb, hba, my1, my8, h9, n9, e11, s9, eb⟩
          · refine ⟨fun _ => ⟨rfl, rfl, ?_, rfl, rfl⟩, fun h => absurd h9 h⟩
            rw [my]; decide
          · refine ⟨fun h => absurd h n9, fun _ => ⟨rfl, rfl, ?_, rfl, rfl⟩⟩
            rw [e11]
theorem s_in_of {i : Int32} {n : Nat} (hn : n ≤ 64) (h1 : 1 ≤ n) (h : ¬ (i < 0 ∨ nI n - 1 < i)) : ∃ k, k < n ∧ i = nI k := by
  obtain ⟨m, rfl⟩ := Nat.exists_eq_add_of_le' h1
  rw [nI_pred m] at h
  rcases s_x_of (x := i) (M := nI m) (n := m) (nI_toInt (by omega)) with q | ⟨c, hc, e⟩
  · exact absurd q h
  · exact ⟨c, hc, e⟩
noncomputable def o_at (A : sV) (x i j : Int32) : Int64 := if o_no A.1 x i j ≠ 0 then (o_no A.1 x i j).toInt64 else match A.1.2.1 x.toNatClampNeg with
  | none => 0
  | some L => s_an (s_cv A.1 L i.toNatClampNeg j.toNatClampNeg).1 (s_cv A.1 L i.toNatClampNeg j.toNatClampNeg).2.1
noncomputable def o_blame (A : sV) (x i j : Int32) : Int32 := if o_no A.1 x i j ≠ 0 then o_no A.1 x i j else match A.1.2.1 x.toNatClampNeg with
  | none => 0
  | some L => (s_cv A.1 L i.toNatClampNeg j.toNatClampNeg).2.2
/-- no refusal: it's a case -/
theorem o_no_0 {x i j : Int32} (hI : tINV τ) (h : o_no (tst τ) x i j = 0) : ∃ t i' j' L, t < 6 ∧ tly τ t = some L ∧ i' < L.2.2.2.1.length ∧ j' < s_my L ∧ x = nI t ∧ i = nI i' ∧ j = nI j' ∧ L.2.2.2.1.length ≤ 8 ∧ s_my L ≤ 8 := by
  unfold o_no at h
  rcases s_tx_of x with hx | ⟨t, ht, rfl⟩
  · simp only [s_tx, if_pos hx] at h; exact absurd h (by decide)
  · simp only [s_tx_s ht] at h
    have el : (tst τ).2.1 t = tly τ t := rfl
    rw [el] at h
    cases hl : tly τ t with
    | none => rw [hl] at h; exact absurd (show (-3 : Int32) = 0 from h) (by decide)
    | some L =>
      rw [hl] at h
      obtain ⟨⟨rk, hO⟩, -⟩ := hI.1
      obtain ⟨_, lo, la, e7, e8, ⟨hn1, hn8, e10⟩, eax, hot⟩ := tly_some hO.2.1 ht hl
      have hmy : 1 ≤ s_my L ∧ s_my L ≤ 8 := by
        rcases hot with ⟨_, _, _, q⟩ | ⟨_, _, _, q1, q2, _⟩ <;> omega
      by_cases hc : (i < 0 ∨ nI L.2.2.2.1.length - 1 < i) ∨ (j < 0 ∨ nI (s_my L) - 1 < j)
      · simp only [if_pos hc] at h; exact absurd h (by decide)
      · obtain ⟨a, ha, rfl⟩ := s_in_of (by omega) hn1 (fun q => hc (Or.inl q))
        obtain ⟨b, hb, rfl⟩ := s_in_of (by omega) hmy.1 (fun q => hc (Or.inr q))
        exact ⟨t, a, b, L, ht, hl, ha, hb, rfl, rfl, rfl, hn8, hmy.2⟩
theorem to_at {x i j : Int32} {K : Int64 → zHp → Nat → Prop} (hd : 200 ≤ d) (hB : zB g ≤ m0) (hI : tINV τ) (hK : ∀ τ', tINV τ' → tVw τ' = tVw τ → K (o_at (tVw τ) x i j) (tput g m0 τ' hp) nx) : zMt l g yX5_at cX5_at 5 (some .long) d 0 0 [.ref m0, .int x, .int i, .int j] (tput g m0 τ hp) nx (zQl g K) := by
  obtain ⟨d, rfl⟩ := Nat.exists_eq_add_of_le' (show 1 ≤ d by omega)
  apply met_X5_at
  unfold wp_X5_at
  unfold o_at at hK
  rw [tw_zo]
  refine t_refusal (by omega) hI ?_
  have e0 : o_no (tVw τ).1 x i j = o_no (tst τ) x i j := rfl
  rw [e0] at hK
  refine ⟨fun h => ?_, fun h => ?_⟩
  · rw [if_neg (fun q => q h)] at hK
    obtain ⟨t, a, b, L, ht, hL, ha, hb, rfl, rfl, rfl, l8, m8⟩ := o_no_0 hI h
    rw [nI_clamp (by omega), nI_clamp (by omega), nI_clamp (by omega)] at hK
    have el : (tVw τ).1.2.1 t = some L := hL
    rw [el] at hK
    obtain ⟨⟨rk, hO⟩, hnb, hx⟩ := hI.1
    rw [tw_zo]
    refine t_tellCaseNow (by omega) hB hO ht hL ha hb fun τ1 f1 ev => ?_
    have v30 : τ1.2.1 30 = (s_cv (tst τ) L a b).1 := congrArg Prod.fst ev
    have v31 : τ1.1 31 = (s_cv (tst τ) L a b).2.1 := congrArg (fun z => z.2.1) ev
    simp only [tg_caseValue, tp_caseValue, tg_caseError, tp_caseError, v30, v31]
    refine t_answer (by omega) (fun _ => ?_) (tsp_vw_inv hI hK f1.sp)
    exact (s_EV_B hO.2.2.1 hO.1.mo hO.2.2.2.1 hO.2.2.2.2.1 hO.2.2.2.2.2.1 _ L.1 (Nat.lt_succ_self _) (hO.2.2.1.2.2 t ht L hL).1 _ (s_bi_B hO.2.2.2.2.2.2.1 (hO.2.2.2.2.2.1 t ht L hL).1 (hO.2.2.2.2.2.1 t ht L hL).2.1)).f
  · rw [if_pos h] at hK
    exact hK τ hI rfl
theorem to_blame {x i j : Int32} {K : Int32 → zHp → Nat → Prop} (hd : 200 ≤ d) (hB : zB g ≤ m0) (hI : tINV τ) (hK : ∀ τ', tINV τ' → tVw τ' = tVw τ → K (o_blame (tVw τ) x i j) (tput g m0 τ' hp) nx) : zMt l g yX5_blame cX5_blame 5 (some .int) d 0 0 [.ref m0, .int x, .int i, .int j] (tput g m0 τ hp) nx (zQi g K) := by
  obtain ⟨d, rfl⟩ := Nat.exists_eq_add_of_le' (show 1 ≤ d by omega)
  apply met_X5_blame
  unfold wp_X5_blame
  unfold o_blame at hK
  rw [tw_zo]
  refine t_refusal (by omega) hI ?_
  have e0 : o_no (tVw τ).1 x i j = o_no (tst τ) x i j := rfl
  rw [e0] at hK
  refine ⟨fun h => ?_, fun h => ?_⟩
  · rw [if_neg (fun q => q h)] at hK
    obtain ⟨t, a, b, L, ht, hL, ha, hb, rfl, rfl, rfl, l8, m8⟩ := o_no_0 hI h
    rw [nI_clamp (by omega), nI_clamp (by omega), nI_clamp (by omega)] at hK
    have el : (tVw τ).1.2.1 t = some L := hL
    rw [el] at hK
    obtain ⟨⟨rk, hO⟩, hnb, hx⟩ := hI.1
    rw [tw_zo]
    refine t_tellCaseNow (by omega) hB hO ht hL ha hb fun τ1 f1 ev => ?_
    have v32 : τ1.1 32 = (s_cv (tst τ) L a b).2.2 := congrArg (fun z => z.2.2) ev
    simp only [tg_caseBlame, tp_caseBlame, v32]
    exact tsp_vw_inv hI hK f1.sp
  · rw [if_pos h] at hK
    exact hK τ hI rfl
/-- what a table comes to -/
noncomputable def s_tot (S : sSt) (L : sL) (f : Nat) : UInt64 × Int32 := s_tv (fun k => s_cv S L (k / s_my L) (k % s_my L)) (s_nc L) f
noncomputable def o_adds (A : sV) (x w : Int32) : Int64 := match s_tx x with
  | none => -2
  | some t => if w < 0 ∨ 4 < w then -2 else match A.1.2.1 t with
    | none => -3
    | some L => if w = 4 then FP.d2l (s_tot A.1 L 4).1 else s_an (s_tot A.1 L w.toNatClampNeg).1 (s_tot A.1 L w.toNatClampNeg).2
theorem to_adds {x w : Int32} {K : Int64 → zHp → Nat → Prop} (hd : 200 ≤ d) (hB : zB g ≤ m0) (hI : tINV τ) (hK : ∀ τ', tINV τ' → tVw τ' = tVw τ → K (o_adds (tVw τ) x w) (tput g m0 τ' hp) nx) : zMt l g yX5_adds cX5_adds 3 (some .long) d 0 0 [.ref m0, .int x, .int w] (tput g m0 τ hp) nx (zQl g K) := by
  obtain ⟨d, rfl⟩ := Nat.exists_eq_add_of_le' (show 1 ≤ d by omega)
  apply met_X5_adds
  unfold wp_X5_adds
  unfold o_adds at hK
  refine t_isTable' (by omega) ?_
  refine ⟨_, fun _ _ h => h, ?_⟩
  rcases s_tx_of x with hx | ⟨t, ht, rfl⟩
  · simp only [s_tx, if_pos hx] at hK ⊢
    exact ⟨fun _ => hK τ hI rfl, fun h => absurd (by trivial) h⟩
  · simp only [s_tx_s ht] at hK
    rw [if_neg (s_tx_n ht)]
    refine ⟨fun h => absurd h (by decide), fun _ => ?_⟩
    refine t_in' (by omega) ?_
    rcases s_x_of (x := w) (M := 4) (n := 4) (by decide) with hv | ⟨f, hf, rfl⟩
    · rw [if_pos hv] at hK ⊢
      exact ⟨fun _ => hK τ hI rfl, fun h => absurd (by trivial) h⟩
    · have hv := s_nx (n := 4) (M := 4) (by decide) hf (by decide)
      rw [if_neg hv] at hK ⊢
      refine ⟨fun h => absurd h (by decide), fun _ => ?_⟩
      have ct : (nI t).toNatClampNeg = t := nI_clamp (by omega)
      have it : vp_in (nI t) 6 := vp_in_nI ht (by decide)
      have el : (tVw τ).1.2.1 t = tly τ t := rfl
      rw [el, nI_clamp (show f < 2 ^ 31 by omega)] at hK
      simp only [tg_laid, ta_laid, tu_laid, ct, it, true_implies, false_implies, implies_true, and_true, true_and, forall_eq]
      refine ⟨fun h6 => ?_, fun h6 => ?_⟩
      · rw [tly_none.mp h6] at hK
        exact hK τ hI rfl
      · obtain ⟨L, hL⟩ : ∃ L, tly τ t = some L := by
          cases hl : tly τ t with
          | none => exact absurd (tly_none.mpr hl) h6
          | some L => exact ⟨L, rfl⟩
        rw [hL] at hK
        simp only at hK
        obtain ⟨⟨rk, hO⟩, hnb, hx⟩ := hI.1
        have f0 : tsc τ (tsI (tsI τ 18 0) 26 0) := (tsc.rf.sI (Or.inl rfl)).sI (Or.inr (Or.inl rfl))
        have hrL := hO.2.2.1.2.2 t ht L hL
        have hrk := hO.2.2.2.1 L.1 (by omega)
        have hcn : 0 + 1 + s_cn (fun u => rk (24 + u) < rk L.1) 6 ≤ 6 := by
          have := s_cn_ltn (p := fun u => rk (24 + u) < rk L.1) (n := 6) (j := t) ht (by omega)
          omega
        simp only [tg_deep, tp_deep, tg_top, tp_top, hB, true_and, tw_zo]
        refine t_afresh (dp := 0) (tp := 0) (by omega) hB (by rw [tq2 (by decide), tq1]; rfl) (by decide) fun τ1 f1 q1 q19 q23 => ?_
        have f01 := f0.tr f1.sc
        rw [tw_zo]
        refine t_sumUp (τ := τ1) (L := L) (dp := 0) (tp := 0) (n := 30) (t_tell hB rk 30) hB (hO.pe f01.pe) ht (by rw [f01.pe.ly]; exact hL) hrk (by omega) hcn (by rw [q1, tq2 (by decide), tq1]; rfl) (by rw [q1, tq1]; rfl) (by omega) ⟨fun c hc h => absurd (q19 c hc) h, fun u hu h => absurd (q23 u hu) h⟩ fun τ2 f2 k26 km ks => ?_
        have eTV : ∀ f, tTV τ2 t f = s_tot (tst τ) L f := by
          intro f
          rw [f2.pe.TV, f01.pe.TV]
          unfold tTV
          rw [hL]
          rfl
        have ev : ∀ f, f < 5 → τ2.2.2.2 24 0 (5 * t + f) = (s_tot (tst τ) L f).1 ∧ τ2.2.2.1 25 0 (5 * t + f) = (s_tot (tst τ) L f).2 := fun f hf => by rw [← eTV f]; exact km.2 t ht ks f hf
        have e5 : (5 : Int32) * nI t = nI (5 * t) := pk_mul 5 t
        have e5f : nI (5 * t) + nI f = nI (5 * t + f) := nI_add _ _
        have e54 : nI (5 * t) + 4 = nI (5 * t + 4) := nI_add _ 4
        have c5 : (nI (5 * t + f)).toNatClampNeg = 5 * t + f := nI_clamp (by omega)
        have i5 : vp_in (nI (5 * t + f)) 30 := vp_in_nI (by omega) (by decide)
        have c54 : (nI (5 * t + 4)).toNatClampNeg = 5 * t + 4 := nI_clamp (by omega)
        have i54 : vp_in (nI (5 * t + 4)) 30 := vp_in_nI (by omega) (by decide)
        have c0 : (0 : Int32).toNatClampNeg = 0 := by decide
        have i0 : vp_in (0 : Int32) 7 := vp_in_nI (n := 0) (by decide) (by decide)
        have sp := (f01.tr f2.sc).sp
        refine ⟨fun h4 => ?_, fun h4 => ?_⟩
        · rw [if_pos h4] at hK
          simp only [tg_sums, ta_sums, c0, i0, tb_sums (show 0 < 7 by decide), tv_sums (show 0 < 7 by decide), e5, e54, c54, i54, true_implies, false_implies, implies_true, and_true, true_and, forall_eq, (ev 4 (by decide)).1]
          exact tsp_vw_inv hI hK sp
        · rw [if_neg h4] at hK
          simp only [tg_sums, ta_sums, tg_sumErrors, ta_sumErrors, c0, i0, tb_sums (show 0 < 7 by decide), tv_sums (show 0 < 7 by decide), tb_sumErrors (show 0 < 7 by decide), tv_sumErrors (show 0 < 7 by decide), e5, e5f, c5, i5, true_implies, false_implies, implies_true, and_true, true_and, forall_eq, (ev f hf).1, (ev f hf).2]
          refine t_answer (by omega) (fun h => ?_) (tsp_vw_inv hI hK sp)
          refine (s_tv_B (fun k _ _ => ?_) (hO.2.2.2.2.2.1 t ht L hL).2.2 h).f
          exact s_EV_B hO.2.2.1 hO.1.mo hO.2.2.2.1 hO.2.2.2.2.1 hO.2.2.2.2.2.1 _ L.1 (Nat.lt_succ_self _) hrL.1 _ (s_bi_B hO.2.2.2.2.2.2.1 (hO.2.2.2.2.2.1 t ht L hL).1 (hO.2.2.2.2.2.1 t ht L hL).2.1)
end TY
