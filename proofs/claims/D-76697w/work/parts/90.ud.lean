set_option maxRecDepth 100000
/-! THE REFERENCE's operations: count, rows -/
section UD
variable {l : Launch} {g : zG} {d m0 : Nat} {τ τ' τm τ2 : tS} {hp : zHp} {nx : Nat}
noncomputable def s_nf (S : sSt) : Nat := s_cn (fun c => S.1 c ≠ []) 24
theorem s_cn_p {p : Nat → Prop} {k : Nat} (h : p k) : s_cn p (k + 1) = s_cn p k + 1 := by unfold s_cn; simp only [s_sm]; rw [s_if_p h]
theorem s_cn_n {p : Nat → Prop} {k : Nat} (h : ¬ p k) : s_cn p (k + 1) = s_cn p k := by unfold s_cn; simp only [s_sm]; rw [s_if_n h, Nat.add_zero]
theorem t_formulas {K : Int32 → zHp → Nat → Prop} (hd : 3 ≤ d) (hS : tSh τ) (hK : K (nI (s_nf (tst τ))) (tput g m0 τ hp) nx) : zMt l g yX5_formulas cX5_formulas 3 (some .int) d 0 0 [.ref m0] (tput g m0 τ hp) nx (zQi g K) := by
  obtain ⟨d, rfl⟩ := Nat.exists_eq_add_of_le' (show 1 ≤ d by omega)
  apply met_X5_formulas
  unfold wp_X5_formulas
  refine ⟨fun n x i h nx' => ∃ ii, ii ≤ 24 ∧ n = 24 - ii ∧ i = nI ii ∧ h = tput g m0 τ hp ∧ nx = nx' ∧ x = nI (s_cn (fun c => tfm τ c ≠ []) ii), ⟨24, 0, by omega, rfl, rfl, rfl, rfl, rfl⟩, ?_⟩
  rintro n _ _ _ _ ⟨ii, hii, hn, rfl, rfl, rfl, rfl⟩
  refine pk_le 24 ii (fun hle => ?_) (fun hlt => ?_)
  · have : ii = 24 := by omega
    subst this
    exact hK
  · rw [tw_zo]
    refine t_isInput' (by omega) hlt ?_
    refine ⟨fun x i h nx' => i = nI ii ∧ h = tput g m0 τ hp ∧ nx = nx' ∧ x = nI (s_cn (fun c => tfm τ c ≠ []) (ii + 1)), ?_, fun h => ?_, fun h => ?_⟩
    · rintro _ _ _ _ ⟨rfl, rfl, rfl, rfl⟩ x13 rfl
      exact ⟨24 - (ii + 1), by omega, ii + 1, by omega, rfl, nI_1 ii, rfl, rfl, rfl⟩
    · have h3 : tfm τ ii ≠ [] := fun q => by rw [if_pos ((hS.fmx hlt).mpr q)] at h; cases h
      rintro x15 rfl
      refine ⟨rfl, rfl, rfl, ?_⟩
      rw [s_cn_p h3]
      exact nI_1 _
    · have h3 : ¬ tfm τ ii ≠ [] := fun q => by rw [if_neg (fun z => q ((hS.fmx hlt).mp z))] at h; exact h rfl
      exact ⟨rfl, rfl, rfl, by rw [s_cn_n (p := fun c => tfm τ c ≠ []) h3]⟩
noncomputable def o_count (A : sV) (w : Int32) : Int32 := if w = 0 then nI (s_nf A.1) else if w = 3 then nI A.2.2.1.length else if w = 1 then nI (s_cn (fun c => A.1.1 c = [] ∧ A.1.2.2.2 c ≠ none) 24) else if w = 2 then nI (s_cn (fun t => A.1.2.1 t ≠ none) 6) else -2
theorem to_count {w : Int32} {K : Int32 → zHp → Nat → Prop} (hd : 200 ≤ d) (hI : tINV τ) (hK : ∀ τ', tINV τ' → tVw τ' = tVw τ → K (o_count (tVw τ) w) (tput g m0 τ' hp) nx) : zMt l g yX5_count cX5_count 4 (some .int) d 0 0 [.ref m0, .int w] (tput g m0 τ hp) nx (zQi g K) := by
  obtain ⟨d, rfl⟩ := Nat.exists_eq_add_of_le' (show 1 ≤ d by omega)
  apply met_X5_count
  unfold wp_X5_count
  have hK := hK τ hI rfl
  unfold o_count at hK
  refine ⟨fun w0 => ?_, fun w0 => ⟨fun w3 => ?_, fun w3 => ⟨fun w1 => ?_, fun w1 => ⟨fun w2 => ?_, fun w2 => ?_⟩⟩⟩⟩
  · rw [if_pos w0] at hK
    rw [tw_zo]
    exact t_formulas (by omega) hI.1 hK
  · rw [if_neg w0, if_pos w3] at hK
    obtain ⟨n, hn, e34, _⟩ := hI.2.2.2.1
    simp only [tg_taped, tp_taped, e34]
    have : (tVw τ).2.2.1.length = n := by
      show (ttp τ).length = n
      unfold ttp
      rw [e34, nI_clamp (by omega)]
      simp
    rw [this] at hK
    exact hK
  · rw [if_neg w0, if_neg w3, if_pos w1] at hK
    refine ⟨fun n x i h nx' => ∃ ii, ii ≤ 24 ∧ n = 24 - ii ∧ i = nI ii ∧ h = tput g m0 τ hp ∧ nx = nx' ∧ x = nI (s_cn (fun c => tfm τ c = [] ∧ tow τ c ≠ none) ii), ⟨24, 0, by omega, rfl, rfl, rfl, rfl, rfl⟩, ?_⟩
    rintro n _ _ _ _ ⟨ii, hii, hn, rfl, rfl, rfl, rfl⟩
    refine pk_le 24 ii (fun hle => ?_) (fun hlt => ?_)
    · have : ii = 24 := by omega
      subst this
      exact hK
    · rw [tw_zo]
      refine t_isInput' (by omega) hlt ?_
      have ci : (nI ii).toNatClampNeg = ii := nI_clamp (by omega)
      have iii : vp_in (nI ii) 24 := vp_in_nI hlt (by decide)
      refine ⟨fun x i h nx' => i = nI ii ∧ h = tput g m0 τ hp ∧ nx = nx' ∧ x = nI (s_cn (fun c => tfm τ c = [] ∧ tow τ c ≠ none) (ii + 1)), ?_, fun h => ?_, fun h => ?_⟩
      · rintro _ _ _ _ ⟨rfl, rfl, rfl, rfl⟩ x13 rfl
        exact ⟨24 - (ii + 1), by omega, ii + 1, by omega, rfl, nI_1 ii, rfl, rfl, rfl⟩
      · have h3 : tfm τ ii ≠ [] := fun q => by rw [if_pos ((hI.1.fmx hlt).mpr q)] at h; cases h
        exact ⟨rfl, rfl, rfl, by rw [s_cn_n (p := fun c => tfm τ c = [] ∧ tow τ c ≠ none) (fun q => h3 q.1)]⟩
      · have h3 : tfm τ ii = [] := Classical.byContradiction fun q => by rw [if_neg (fun z => q ((hI.1.fmx hlt).mp z))] at h; exact h rfl
        rw [tg_given, ta_given]
        refine ⟨iii, ?_⟩
        rintro x43 rfl
        rw [ci]
        refine ⟨fun hg => ⟨rfl, rfl, rfl, ?_⟩, fun hg => ?_⟩
        · rw [s_cn_n (p := fun c => tfm τ c = [] ∧ tow τ c ≠ none) (fun q => q.2 (by unfold tow; rw [if_pos hg]))]
        · rintro x44 rfl
          refine ⟨rfl, rfl, rfl, ?_⟩
          rw [s_cn_p (p := fun c => tfm τ c = [] ∧ tow τ c ≠ none) ⟨h3, by unfold tow; rw [if_neg hg]; exact fun q => by cases q⟩]
          exact nI_1 _
  · rw [if_neg w0, if_neg w3, if_neg w1, if_pos w2] at hK
    refine ⟨fun n x i h nx' => ∃ ii, ii ≤ 6 ∧ n = 6 - ii ∧ i = nI ii ∧ h = tput g m0 τ hp ∧ nx = nx' ∧ x = nI (s_cn (fun t => tly τ t ≠ none) ii), ⟨6, 0, by omega, rfl, rfl, rfl, rfl, rfl⟩, ?_⟩
    rintro n _ _ _ _ ⟨ii, hii, hn, rfl, rfl, rfl, rfl⟩
    refine pk_le 6 ii (fun hle => ?_) (fun hlt => ?_)
    · have : ii = 6 := by omega
      subst this
      exact hK
    · have ci : (nI ii).toNatClampNeg = ii := nI_clamp (by omega)
      have iii : vp_in (nI ii) 6 := vp_in_nI hlt (by decide)
      rw [tg_laid, ta_laid]
      refine ⟨iii, ?_⟩
      rintro x13 rfl
      rw [ci]
      refine ⟨fun x i h nx' => i = nI ii ∧ h = tput g m0 τ hp ∧ nx = nx' ∧ x = nI (s_cn (fun t => tly τ t ≠ none) (ii + 1)), ?_, fun h => ?_, fun h => ?_⟩
      · rintro _ _ _ _ ⟨rfl, rfl, rfl, rfl⟩ x13 rfl
        exact ⟨6 - (ii + 1), by omega, ii + 1, by omega, rfl, nI_1 ii, rfl, rfl, rfl⟩
      · exact ⟨rfl, rfl, rfl, by rw [s_cn_n (p := fun t => tly τ t ≠ none) (fun q => q (tly_none.mp h))]⟩
      · rintro x20 rfl
        refine ⟨rfl, rfl, rfl, ?_⟩
        rw [s_cn_p (p := fun t => tly τ t ≠ none) (fun q => h (tly_none.mpr q))]
        exact nI_1 _
  · rw [if_neg w0, if_neg w3, if_neg w1, if_neg w2] at hK
    exact hK
/-! rows -/
def tR1 (τ : tS) (r : Nat) : Prop := τ.2.2.1 70 0 r = -1 ∨ ∃ s n, s < 4 ∧ n ≤ 64 ∧ τ.2.2.1 70 0 r = nI s ∧ τ.2.2.1 71 0 r = nI n ∧ (∀ k, k < n → τ.2.2.1 73 r k = 0 ∨ τ.2.2.1 73 r k = 1) ∧ (∀ k, k < n → s_B (τ.2.2.2 72 r k)) ∧ (s ≠ 3 → ∀ k, k < n → τ.2.2.1 73 r k = 0)
def v_rw (A : sV) (f : Nat → Option sRw) : sV := (A.1, A.2.1, A.2.2.1, f)
theorem tINV_rw {r : Nat} (hI : tINV τ) (hII : ∀ k i j, k < 74 → ¬ (k = 70 ∧ i = 0 ∧ j = r) → ¬ (k = 71 ∧ i = 0 ∧ j = r) → ¬ (k = 73 ∧ i = r) → τm.2.2.1 k i j = τ.2.2.1 k i j) (hDD : ∀ k i j, k < 74 → ¬ (k = 72 ∧ i = r) → τm.2.2.2 k i j = τ.2.2.2 k i j) (h34 : τm.1 34 = τ.1 34) (h57 : τm.1 57 = τ.1 57) (hrow : tR1 τm r) : tINV τm ∧ tVw τm = v_rw (tVw τ) (s_up (trw τ) r (trw τm r)) := by
  have eI : ∀ k, k < 70 → τm.2.2.1 k = τ.2.2.1 k := fun k hk => funext fun i => funext fun j => hII k i j (by omega) (by omega) (by omega) (by omega)
  have eD : ∀ k, k < 72 → τm.2.2.2 k = τ.2.2.2 k := fun k hk => funext fun i => funext fun j => hDD k i j (by omega) (by omega)
  have pe : tpe τ τm := ⟨fun k hk => eI k (by omega), fun k hk => eD k (by omega)⟩
  have iI : ∀ k, tiI k < 70 := by intro k; unfold tiI; (repeat' (first | decide | split))
  have iD : ∀ k, tiD k < 70 := by intro k; unfold tiD; (repeat' (first | decide | split))
  have im : tpe (tim τ) (tim τm) := ⟨fun k _ => eI _ (iI k), fun k _ => eD _ (by have := iD k; omega)⟩
  have erow : ∀ u, u ≠ r → trw τm u = trw τ u := by
    intro u hu
    unfold trw
    rw [hII 70 0 u (by decide) (by omega) (by omega) (by omega), hII 71 0 u (by decide) (by omega) (by omega) (by omega)]
    have e3 : τm.2.2.1 73 u = τ.2.2.1 73 u := funext fun j => hII 73 u j (by decide) (by omega) (by omega) (by omega)
    have e2 : τm.2.2.2 72 u = τ.2.2.2 72 u := funext fun j => hDD 72 u j (by decide) (by omega)
    rw [e3, e2]
  refine ⟨⟨hI.1.pe pe, hI.2.1.pe pe, ?_, ?_, ?_⟩, ?_⟩
  · rw [h57]
    rcases hI.2.2.1 with ⟨q, q1⟩ | ⟨q, q2⟩
    · exact Or.inl ⟨q, by rw [im.ow]; exact q1⟩
    · exact Or.inr ⟨q, q2.pe im⟩
  · unfold tTp
    rw [h34, eI 33 (by decide)]
    exact hI.2.2.2.1
  · intro u hu
    by_cases e : u = r
    · subst e; exact hrow
    · have e3 : τm.2.2.1 73 u = τ.2.2.1 73 u := funext fun j => hII 73 u j (by decide) (by omega) (by omega) (by omega)
      have e2 : τm.2.2.2 72 u = τ.2.2.2 72 u := funext fun j => hDD 72 u j (by decide) (by omega)
      rw [hII 70 0 u (by decide) (by omega) (by omega) (by omega), hII 71 0 u (by decide) (by omega) (by omega) (by omega), e3, e2]
      exact hI.2.2.2.2 u hu
  · unfold tVw v_rw ttp
    rw [pe.st, h57, h34, im.st, eI 33 (by decide)]
    have : trw τm = s_up (trw τ) r (trw τm r) := by
      funext u
      by_cases e : u = r
      · subst e; rw [s_up_s]
      · rw [s_up_o e, erow u e]
    rw [← this]
theorem n_1 : ((-1 : Int32) < 0) := by decide
theorem trw_none {r : Nat} (h : τ.2.2.1 70 0 r = -1) : trw τ r = none := by unfold trw; rw [h, if_pos n_1]
theorem trw_some {r s n : Nat} (hs : s < 4) (hn : n ≤ 64) (h0 : τ.2.2.1 70 0 r = nI s) (h1 : τ.2.2.1 71 0 r = nI n) : trw τ r = some (s, (List.range n).map fun k => if τ.2.2.1 73 r k = 0 then some (τ.2.2.2 72 r k) else none) := by
  unfold trw
  rw [h0, h1, if_neg (nI_pos (by omega)), nI_clamp (by omega), nI_clamp (by omega)]
end UD
