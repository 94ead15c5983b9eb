set_option maxRecDepth 100000
/-! the mean, the least, the most; a question's worth -/
section OH
variable {l : Launch} {g : zG} {d x0 : Nat} {P : cP} {σ σ' σ1 : cS} {hp : zHp} {nx : Nat}
/-- the order of least, of most -/
def cLt (ci : Nat) : UInt64 → UInt64 → Prop := if ci = 20 then s_lt else fun x y => s_lt y x
theorem c_bst {rs : Nat → sT} {n : Nat} (hB : ∀ k, k < n → (rs k).2.1 = 0 → s_B (rs k).1) : ∀ k, k ≤ n → ((s_ac rs k).2.2.2.2.1 = 0 ∧ s_bst (cLt 20) rs k = none ∧ s_bst (cLt 21) rs k = none) ∨ ((s_ac rs k).2.2.2.2.1 ≠ 0 ∧ ∃ f e, s_bst (cLt 20) rs k = some f ∧ (rs f).2.1 = 0 ∧ (s_ac rs k).2.2.1 = (rs f).1 ∧ s_bst (cLt 21) rs k = some e ∧ (rs e).2.1 = 0 ∧ (s_ac rs k).2.2.2.1 = (rs e).1) := by
  intro k
  induction k with
  | zero => intro _; exact Or.inl ⟨rfl, rfl, rfl⟩
  | succ k ih =>
    intro hk
    have ih := ih (by omega)
    by_cases he : (rs k).2.1 = 0
    · have hne : ¬ (rs k).2.1 ≠ 0 := fun z => z he
      simp only [s_bst, s_ac, if_neg hne]
      right
      rcases ih with ⟨h1, h2, h3⟩ | ⟨h1, f, e, h2, h3, h4, h5, h6, h7⟩
      · rw [h2, h3, h1]
        exact ⟨by simp, k, k, rfl, he, by rw [s_if_p (Or.inl rfl)], rfl, he, by rw [s_if_p (Or.inl rfl)]⟩
      · rw [h2, h5]
        dsimp only
        have hf := s_bst_lt h2
        have hf2 := s_bst_lt h5
        refine ⟨by omega, ?_⟩
        have a1 : ∃ f', s_if (cLt 20 (rs k).1 (rs f).1) (some k) (some f) = some f' ∧ (rs f').2.1 = 0 ∧ s_if ((s_ac rs k).2.2.2.2.1 = 0 ∨ s_lt (rs k).1 (s_ac rs k).2.2.1) (rs k).1 (s_ac rs k).2.2.1 = (rs f').1 := by
          by_cases q : s_lt (rs k).1 (rs f).1
          · exact ⟨k, s_if_p q, he, s_if_p (Or.inr (by rw [h4]; exact q))⟩
          · exact ⟨f, s_if_n q, h3, by rw [s_if_n (by rintro (z | z); exact h1 z; exact q (by rw [h4] at z; exact z))]; exact h4⟩
        have a2 : ∃ f', s_if (cLt 21 (rs k).1 (rs e).1) (some k) (some e) = some f' ∧ (rs f').2.1 = 0 ∧ s_if ((s_ac rs k).2.2.2.2.1 = 0 ∨ s_gt (rs k).1 (s_ac rs k).2.2.2.1) (rs k).1 (s_ac rs k).2.2.2.1 = (rs f').1 := by
          have hs := fc_lt_gt (hB k (by omega) he).f (hB e (by omega) h6).f
          by_cases q : s_lt (rs e).1 (rs k).1
          · exact ⟨k, s_if_p q, he, s_if_p (Or.inr (by rw [h7]; exact hs.mpr q))⟩
          · exact ⟨e, s_if_n q, h6, by rw [s_if_n (by rintro (z | z); exact h1 z; exact q (hs.mp (by rw [h7] at z; exact z)))]; exact h7⟩
        obtain ⟨f1, b1, b2, b3⟩ := a1
        obtain ⟨f2, b4, b5, b6⟩ := a2
        exact ⟨f1, f2, b1, b2, b3, b4, b5, b6⟩
    · simp only [s_bst, s_ac, if_pos he]
      exact ih
theorem nI_ne_m1 {n : Nat} (h : n < 2 ^ 31) : nI n ≠ -1 := by
  intro z
  have := congrArg Int32.toInt z
  rw [nI_toInt h, show (-1 : Int32).toInt = -1 by decide] at this
  omega
def cEn (o : Option Nat) : Int32 := match o with | none => -1 | some k => nI k
theorem c_isB {a : Nat} {v w : UInt64} {K : Int32 → zHp → Nat → Prop} (hd : 1 ≤ d) (h1 : s_lt v w → K 1 hp nx) (h2 : ¬ s_lt v w → K 0 hp nx) : zMt l g yX20_isBefore cX20_isBefore 5 (some .boolean) d 0 0 [.ref a, .double v, .double w] hp nx (zQi g K) := by
  obtain ⟨d, rfl⟩ := Nat.exists_eq_add_of_le' (show 1 ≤ d by omega)
  apply met_X20_isBefore
  unfold wp_X20_isBefore
  refine ⟨_, fun _ h => h, ?_⟩
  refine ⟨fun e => ⟨Or.inl rfl, h2 (fc_gle.mp e)⟩, fun e => ⟨Or.inr rfl, h1 (Classical.not_not.mp (fun z => e (fc_gle.mpr z)))⟩⟩
theorem c_at {a an ci t : Nat} {L : sL} {rs : Nat → sT} {K : Int32 → zHp → Nat → Prop} (hd : 5 ≤ d) (hW : cW g x0 P hp) (h : cTb g hp a t L) (hT : cTk L) (ht : t < 6) (hR : cRz (σ.2.2.1 t) rs (s_nc L)) (ha : hp an = some (.inr (ci, cAk ci x0 t))) (hci : ci = 20 ∨ ci = 21) (hK : K (cEn (s_bst (cLt ci) rs (s_nc L))) (cput g x0 P σ hp) nx) : zMt l g yX20_at cX20_at 4 (some .int) d 0 0 [.ref an, va_rf (some a)] (cput g x0 P σ hp) nx (zQi g K) := by
  obtain ⟨d, rfl⟩ := Nat.exists_eq_add_of_le' (show 1 ≤ d by omega)
  have hnc := hT.nc
  have hT' := h
  obtain ⟨a1, r2, g1, -⟩ := h
  have ct : (nI t).toNatClampNeg = t := nI_clamp (by omega)
  have it : vp_in (nI t) 6 := vp_in_nI ht (by decide)
  have wt : cWd t = 64 := by unfold cWd; rw [if_pos ht]
  have hS2 : ci ∈ [20, 21] := by rcases hci with e | e <;> (rw [e]; decide)
  have hS5 : ci ∈ [18, 19, 20, 21, 22] := by rcases hci with e | e <;> (rw [e]; decide)
  have r4 : ∀ {τ : cS} {Q : Option Nat → Prop}, zgR (cput g x0 P τ hp) (some an) [20, 21] 4 Q = Q (some x0) := fun {τ Q} => ch_R hW ha (cAk_4 hci) hS2
  have r1 : ∀ {τ : cS} {Q : Int32 → Prop}, zgI (cput g x0 P τ hp) (some an) [18, 19, 20, 21, 22] 1 Q = Q (nI t) := fun {τ Q} => ch_I hW ha cAk_1 hS5
  have hB : ∀ k, k < s_nc L → (rs k).2.1 = 0 → s_B (rs k).1 := fun k hk he => by obtain ⟨-, z2, z3⟩ := hR k hk; rw [← z3 he]; exact z2
  apply met_X20_at
  unfold wp_X20_at
  refine ⟨fun n x i hp1 nx1 => ∃ k, n + k = s_nc L ∧ x = cEn (s_bst (cLt ci) rs k) ∧ i = nI k ∧ hp1 = cput g x0 P σ hp ∧ nx = nx1, ⟨s_nc L, 0, rfl, rfl, rfl, rfl, rfl⟩, ?_⟩
  rintro n x i hp1 nx1 ⟨k, hk, rfl, rfl, rfl, rfl⟩
  rw [ch_o hW g1 (by decide)]
  refine c_cases (by omega) hW hT' ?_
  refine pk_le (s_nc L) k (fun q => ?_) (fun q => ?_)
  · have : k = s_nc L := by omega
    subst this
    exact hK
  · have ck : (nI k).toNatClampNeg = k := nI_clamp (by omega)
    have ik : vp_in (nI k) (cWd t) := by rw [wt]; exact vp_in_nI (by omega) (by decide)
    simp only [r4, r1, cg_sights, ca_sights, ct, it, cs_errors (show t < 7 by omega), csa_errors (show t < 7 by omega), cs_results (show t < 7 by omega), csa_results (show t < 7 by omega), ck, ik, true_and, forall_eq]
    obtain ⟨z1, z2, z3⟩ := hR k q
    refine ⟨_, fun _ _ _ _ h => h, ?_⟩
    have go : ∀ b, s_bst (cLt ci) rs (k + 1) = b → ∃ k_38, k_38 < n ∧ ∃ k_1, k_38 + k_1 = s_nc L ∧ cEn b = cEn (s_bst (cLt ci) rs k_1) ∧ nI k + 1 = nI k_1 ∧ cput g x0 P σ hp = cput g x0 P σ hp ∧ nx = nx := fun b hb => ⟨n - 1, by omega, k + 1, by omega, by rw [hb], (nI_succ k).symm, rfl, rfl⟩
    refine ⟨fun q1 => ?_, fun q1 => ?_⟩
    · rw [z1] at q1
      have hne : ¬ (rs k).2.1 ≠ 0 := fun z => z q1
      refine ⟨_, fun _ _ _ _ h => h, ?_⟩
      cases hb : s_bst (cLt ci) rs k with
      | none =>
        refine ⟨fun _ => go (some k) ?_, fun z => absurd rfl z⟩
        simp only [s_bst, if_neg hne, hb]
      | some f =>
        have hf := s_bst_lt hb
        have hef : (rs f).2.1 = 0 ∧ True := by
          refine ⟨?_, trivial⟩
          rcases c_bst hB k (by omega) with ⟨-, w1, w2⟩ | ⟨-, f1, e1, w1, w2, -, w3, w4, -⟩
          · rcases hci with rfl | rfl
            · rw [w1] at hb; cases hb
            · rw [w2] at hb; cases hb
          · rcases hci with rfl | rfl
            · rw [w1] at hb; cases hb; exact w2
            · rw [w3] at hb; cases hb; exact w4
        have cf : (nI f).toNatClampNeg = f := nI_clamp (by omega)
        have jf : vp_in (nI f) (cWd t) := by rw [wt]; exact vp_in_nI (by omega) (by decide)
        refine ⟨fun z => absurd z (nI_ne_m1 (by omega)), fun _ => ?_⟩
        show vp_in (nI f) (cWd t) ∧ _
        refine ⟨jf, ?_⟩
        rw [z3 q1, show (σ.2.2.1 t).2.1 2 (cEn (some f)).toNatClampNeg = (rs f).1 by show (σ.2.2.1 t).2.1 2 (nI f).toNatClampNeg = _; rw [cf]; exact (hR f (by omega)).2.2 hef.1, ch_o hW ha hS2]
        have s1 : ∀ y, y = (rs k).1 → cLt ci y (rs f).1 → s_bst (cLt ci) rs (k + 1) = some k := fun y hy z => by subst hy; simp only [s_bst, if_neg hne, hb]; exact s_if_p z
        have s2 : ¬ cLt ci (rs k).1 (rs f).1 → s_bst (cLt ci) rs (k + 1) = some f := fun z => by simp only [s_bst, if_neg hne, hb]; exact s_if_n z
        refine ⟨fun x hp1 nx1 => ((x = 0 ∧ ¬ cLt ci (rs k).1 (rs f).1) ∨ (x = 1 ∧ cLt ci (rs k).1 (rs f).1)) ∧ hp1 = cput g x0 P σ hp ∧ nx = nx1, ?_, fun e => ?_, fun e => ?_⟩
        · rintro x hp1 nx1 ⟨hx, rfl, rfl⟩
          refine ⟨fun z => go (some f) ?_, fun z => go (some k) ?_⟩
          · rcases hx with ⟨-, w⟩ | ⟨w, -⟩
            · exact s2 w
            · rw [w] at z; exact absurd z (by decide)
          · rcases hx with ⟨w, -⟩ | ⟨-, w⟩
            · exact absurd w z
            · exact s1 _ rfl w
        · subst e
          exact c_isB (by omega) (fun z => ⟨Or.inr ⟨rfl, z⟩, rfl, rfl⟩) (fun z => ⟨Or.inl ⟨rfl, z⟩, rfl, rfl⟩)
        · subst e
          obtain ⟨d, rfl⟩ := Nat.exists_eq_add_of_le' (show 1 ≤ d by omega)
          apply met_X21_isBefore
          unfold wp_X21_isBefore
          rw [ch_o hW ha (by decide)]
          exact c_isB (by omega) (fun z => ⟨Or.inr rfl, Or.inr ⟨rfl, z⟩, rfl, rfl⟩) (fun z => ⟨Or.inl rfl, Or.inl ⟨rfl, z⟩, rfl, rfl⟩)
    · rw [z1] at q1
      refine go _ ?_
      simp only [s_bst]
      rw [if_pos q1]
theorem c_of19 {a an ci t : Nat} {L : sL} {rs : Nat → sT} {K : UInt64 → zHp → Nat → Prop} (hd : 8 ≤ d) (hW : cW g x0 P hp) (h : cTb g hp a t L) (hT : cTk L) (ht : t < 6) (hR : cRz (σ.2.2.1 t) rs (s_nc L)) (ha : hp an = some (.inr (ci, cAk ci x0 t))) (hci : ci ∈ [19, 20, 21]) (hK : ∀ v σ', cNo σ' = cNo σ → cRs σ ((s_tv rs (s_nc L) 1).1, (s_tv rs (s_nc L) 1).2, σ.1 4) v σ' → K v (cput g x0 P σ' hp) nx) : zMt l g yX19_of cX19_of 5 (some .double) d 0 0 [.ref an, va_rf (some a)] (cput g x0 P σ hp) nx (zQd g K) := by
  obtain ⟨d, rfl⟩ := Nat.exists_eq_add_of_le' (show 1 ≤ d by omega)
  have hnc := hT.nc
  have hcnt := c_cnt (rs := rs) (s_nc L)
  have hci4 : ci ∈ [18, 19, 20, 21] := (show ∀ x ∈ [19, 20, 21], x ∈ [18, 19, 20, 21] by decide) ci hci
  have tv1 : s_tv rs (s_nc L) 1 = (if (s_ac rs (s_nc L)).2.2.2.2.1 = 0 then 0 else FP.ddiv (s_ac rs (s_nc L)).1 (FP.i2d (nI (s_ac rs (s_nc L)).2.2.2.2.1)), if (s_ac rs (s_nc L)).2.2.2.2.1 = 0 then 4 else s_if ((s_ac rs (s_nc L)).2.1) 3 0) := by
    unfold s_tv
    rw [if_neg (by decide), if_pos rfl]
  apply met_X19_of
  unfold wp_X19_of
  rw [ch_o hW ha hci]
  refine ⟨fun x hp1 nx1 => ((x = 0 ∧ (s_ac rs (s_nc L)).2.2.2.2.1 = 0 ∧ hp1 = cput g x0 P (cFa σ 4) hp) ∨ (x = nI (s_ac rs (s_nc L)).2.2.2.2.1 ∧ (s_ac rs (s_nc L)).2.2.2.2.1 ≠ 0 ∧ hp1 = cput g x0 P σ hp)) ∧ nx = nx1, ?_, ?_⟩
  · rintro x hp1 nx1 ⟨⟨rfl, h0, rfl⟩ | ⟨rfl, h0, rfl⟩, rfl⟩
    · rw [ch_o hW ha hci]
      have hR' : cRz ((cFa σ 4).2.2.1 t) rs (s_nc L) := by rw [cNo_x cNo_fa]; exact hR
      refine c_of18 (by omega) hW h hT ht hR' ha hci4 (fun v σ' hn hs => ?_)
      refine ⟨_, fun _ _ _ _ _ h => h, ?_⟩
      refine ⟨fun _ => ?_, fun z => absurd rfl z⟩
      refine hK _ σ' (hn.trans cNo_fa) ⟨fk_B0, fun q => ?_, fun q => ?_⟩
      · rw [cFa_n q] at hs
        exact hs.2.1 q
      · rw [tv1, if_pos h0, if_pos h0]
        refine ⟨fun z => absurd z (by show ¬ (4 : Int32) = 0; decide), fun _ => ?_⟩
        have e := cFa_p (x := 4) q
        have := hs.2.1 (by rw [e.1]; decide)
        rw [e.1, e.2] at this
        exact this
    · rw [ch_o hW ha hci]
      refine c_of18 (by omega) hW h hT ht hR ha hci4 (fun v σ' hn hs => ?_)
      refine ⟨_, fun _ _ _ _ _ h => h, ?_⟩
      have hv := fb_divN hs.1 h0 (by omega)
      refine ⟨fun z => absurd z (nI_ne0 (by omega) (by omega)), fun _ => ⟨fb_nn hv, ?_⟩⟩
      refine hK _ σ' hn ⟨hv, hs.2.1, fun q => ?_⟩
      rw [tv1, if_neg h0, if_neg h0]
      have b := hs.2.2 q
      exact ⟨fun z => ⟨by rw [(b.1 z).1]; rfl, (b.1 z).2⟩, b.2⟩
  · exact c_good (by omega) hW h hT ht hR ha hci (fun z => ⟨Or.inl ⟨rfl, z, rfl⟩, rfl⟩) (fun z => ⟨Or.inr ⟨rfl, z, rfl⟩, rfl⟩)
theorem c_of20 {a an ci t : Nat} {L : sL} {rs : Nat → sT} {K : UInt64 → zHp → Nat → Prop} (hd : 8 ≤ d) (hW : cW g x0 P hp) (h : cTb g hp a t L) (hT : cTk L) (ht : t < 6) (hR : cRz (σ.2.2.1 t) rs (s_nc L)) (ha : hp an = some (.inr (ci, cAk ci x0 t))) (hci : ci = 20 ∨ ci = 21) (hK : ∀ v σ', cNo σ' = cNo σ → cRs σ ((s_tv rs (s_nc L) (ci - 18)).1, (s_tv rs (s_nc L) (ci - 18)).2, σ.1 4) v σ' → K v (cput g x0 P σ' hp) nx) : zMt l g yX20_of cX20_of 2 (some .double) d 0 0 [.ref an, va_rf (some a)] (cput g x0 P σ hp) nx (zQd g K) := by
  obtain ⟨d, rfl⟩ := Nat.exists_eq_add_of_le' (show 1 ≤ d by omega)
  have hnc := hT.nc
  have hcnt := c_cnt (rs := rs) (s_nc L)
  have hS2 : ci ∈ [20, 21] := by rcases hci with e | e <;> (rw [e]; decide)
  have hS3 : ci ∈ [19, 20, 21] := by rcases hci with e | e <;> (rw [e]; decide)
  have hS5 : ci ∈ [18, 19, 20, 21, 22] := by rcases hci with e | e <;> (rw [e]; decide)
  have ct : (nI t).toNatClampNeg = t := nI_clamp (by omega)
  have it : vp_in (nI t) 6 := vp_in_nI ht (by decide)
  have wt : cWd t = 64 := by unfold cWd; rw [if_pos ht]
  have r4 : ∀ {τ : cS} {Q : Option Nat → Prop}, zgR (cput g x0 P τ hp) (some an) [20, 21] 4 Q = Q (some x0) := fun {τ Q} => ch_R hW ha (cAk_4 hci) hS2
  have r1 : ∀ {τ : cS} {Q : Int32 → Prop}, zgI (cput g x0 P τ hp) (some an) [18, 19, 20, 21, 22] 1 Q = Q (nI t) := fun {τ Q} => ch_I hW ha cAk_1 hS5
  have hB : ∀ k, k < s_nc L → (rs k).2.1 = 0 → s_B (rs k).1 := fun k hk he => by obtain ⟨-, z2, z3⟩ := hR k hk; rw [← z3 he]; exact z2
  have hb := c_bst hB (s_nc L) (Nat.le_refl _)
  have tv2 : s_tv rs (s_nc L) (ci - 18) = (if ci = 20 then (s_ac rs (s_nc L)).2.2.1 else (s_ac rs (s_nc L)).2.2.2.1, if (s_ac rs (s_nc L)).2.2.2.2.1 = 0 then 4 else 0) := by
    rcases hci with rfl | rfl
    · unfold s_tv; rw [if_neg (by decide), if_neg (by decide), if_pos rfl, if_pos rfl]
    · unfold s_tv; rw [if_neg (by decide), if_neg (by decide), if_neg (by decide), if_pos rfl, if_neg (show ¬ 21 = 20 by decide)]
  apply met_X20_of
  unfold wp_X20_of
  rw [ch_o hW ha hS2]
  refine ⟨fun x hp1 nx1 => ((x = 0 ∧ (s_ac rs (s_nc L)).2.2.2.2.1 = 0 ∧ hp1 = cput g x0 P (cFa σ 4) hp) ∨ (x = nI (s_ac rs (s_nc L)).2.2.2.2.1 ∧ (s_ac rs (s_nc L)).2.2.2.2.1 ≠ 0 ∧ hp1 = cput g x0 P σ hp)) ∧ nx = nx1, ?_, ?_⟩
  · rintro x hp1 nx1 ⟨⟨rfl, h0, rfl⟩ | ⟨rfl, h0, rfl⟩, rfl⟩
    · refine ⟨_, fun _ _ _ h => h, ?_⟩
      refine ⟨fun _ => ?_, fun z => absurd rfl z⟩
      refine hK _ _ cNo_fa ⟨fk_B0, fun q => ?_, fun q => ?_⟩
      · rw [cFa_n q]; exact ⟨rfl, rfl⟩
      · rw [tv2, if_pos h0]
        exact ⟨fun z => absurd z (by show ¬ (4 : Int32) = 0; decide), fun _ => cFa_p q⟩
    · refine ⟨_, fun _ _ _ h => h, ?_⟩
      refine ⟨fun z => absurd z (nI_ne0 (by omega) (by omega)), fun _ => ?_⟩
      rcases hb with ⟨z, -⟩ | ⟨-, f, e, w1, w2, w3, w4, w5, w6⟩
      · exact absurd z h0
      have hx : ∃ k, k < s_nc L ∧ s_bst (cLt ci) rs (s_nc L) = some k ∧ (rs k).2.1 = 0 ∧ (s_tv rs (s_nc L) (ci - 18)).1 = (rs k).1 := by
        rw [tv2]
        rcases hci with rfl | rfl
        · exact ⟨f, s_bst_lt w1, w1, w2, by rw [if_pos rfl]; exact w3⟩
        · exact ⟨e, s_bst_lt w4, w4, w5, by rw [if_neg (by decide)]; exact w6⟩
      obtain ⟨k, hk, y1, y2, y3⟩ := hx
      have ck : (nI k).toNatClampNeg = k := nI_clamp (by omega)
      have ik : vp_in (nI k) (cWd t) := by rw [wt]; exact vp_in_nI (by omega) (by decide)
      simp only [r4, r1, cg_sights, ca_sights, ct, it, cs_results (show t < 7 by omega), true_and, forall_eq]
      rw [ch_o hW ha hS2]
      refine ⟨fun x hp1 nx1 => x = nI k ∧ hp1 = cput g x0 P σ hp ∧ nx = nx1, ?_, ?_⟩
      · rintro x hp1 nx1 ⟨rfl, rfl, rfl⟩
        simp only [csa_results (show t < 7 by omega), ck, ik, true_and, forall_eq]
        obtain ⟨z1, z2, z3⟩ := hR k hk
        refine hK _ σ rfl ⟨z2, fun q => ⟨rfl, rfl⟩, fun q => ⟨fun _ => ⟨by rw [y3]; exact z3 y2, q, rfl⟩, fun z => ?_⟩⟩
        rw [tv2, if_neg h0] at z
        exact absurd rfl z
      · refine c_at (by omega) hW h hT ht hR ha hci ?_
        rw [y1]
        exact ⟨rfl, rfl, rfl⟩
  · exact c_good (by omega) hW h hT ht hR ha hS3 (fun z => ⟨Or.inl ⟨rfl, z, rfl⟩, rfl⟩) (fun z => ⟨Or.inr ⟨rfl, z, rfl⟩, rfl⟩)
/-- a question's worth, by the cases' telling -/
theorem c_ask {an ci t : Nat} {tb : Option Nat} {tvt : Nat → UInt64 × Int32} {J : cS → Prop} {K : UInt64 → zHp → Nat → Prop} (hd : 10 ≤ d) (hW : cW g x0 P hp) (ht : t < 6) (ha : hp an = some (.inr (ci, cAk ci x0 t))) (c1 : 18 ≤ ci) (c2 : ci ≤ 22) (htb : σ.2.2.2.2.2.2.1 1 t = tb)
    (h0 : tb = none → (∀ f, tvt f = (0, 4)) ∧ J (cNo σ))
    (h1 : ∀ a, tb = some a → ∃ L rs, cTb g hp a t L ∧ cTk L ∧ (∀ f, tvt f = s_tv rs (s_nc L) f) ∧ ∀ Q : zHp → Nat → Prop, (∀ σ1, J (cNo σ1) → σ1.1 2 = σ.1 2 → σ1.1 3 = σ.1 3 → σ1.1 4 = σ.1 4 → cRz (σ1.2.2.1 t) rs (s_nc L) → Q (cput g x0 P σ1 hp) nx) → zMt l g yX0_runsAll cX0_runsAll 2 none (d - 1) 0 0 [.ref x0, va_rf (some a)] (cput g x0 P σ hp) nx (zQv g Q))
    (hK : ∀ v σ', J (cNo σ') → cRs σ ((tvt (ci - 18)).1, (tvt (ci - 18)).2, σ.1 4) v σ' → K v (cput g x0 P σ' hp) nx) : zMt l g yX18_worth cX18_worth 2 (some .double) d 0 0 [.ref an] (cput g x0 P σ hp) nx (zQd g K) := by
  obtain ⟨d, rfl⟩ := Nat.exists_eq_add_of_le' (show 1 ≤ d by omega)
  have hS5 : ci ∈ [18, 19, 20, 21, 22] := by simp only [List.mem_cons]; omega
  have ct : (nI t).toNatClampNeg = t := nI_clamp (by omega)
  have it : vp_in (nI t) 6 := vp_in_nI ht (by decide)
  have r2 : ∀ {τ : cS} {Q : Option Nat → Prop}, zgR (cput g x0 P τ hp) (some an) [18, 19, 20, 21, 22] 2 Q = Q (some x0) := fun {τ Q} => ch_R hW ha cAk_2 hS5
  have r1 : ∀ {τ : cS} {Q : Int32 → Prop}, zgI (cput g x0 P τ hp) (some an) [18, 19, 20, 21, 22] 1 Q = Q (nI t) := fun {τ Q} => ch_I hW ha cAk_1 hS5
  apply met_X18_worth
  unfold wp_X18_worth
  simp only [r2, r1, cg_tables, ca_tables, ct, it, htb, true_and, forall_eq]
  refine ⟨fun e => ?_, fun e => ?_⟩
  · obtain ⟨e1, e2⟩ := h0 e
    rw [cz_o]
    refine c_faults (by omega) hW.1 ?_
    refine hK _ _ (by rw [cNo_fa]; exact e2) ⟨fk_B0, fun q => ?_, fun q => ?_⟩
    · rw [cFa_n q]; exact ⟨rfl, rfl⟩
    · rw [e1]
      exact ⟨fun z => absurd z (by show ¬ (4 : Int32) = 0; decide), fun _ => cFa_p q⟩
  · cases hb : tb with
    | none => exact absurd hb e
    | some a =>
      obtain ⟨L, rs, hT, hTk, e1, e2⟩ := h1 a hb
      rw [cz_o]
      refine e2 _ (fun σ1 j1 j2 j3 j4 hR => ?_)
      have fin : ∀ v σ', cNo σ' = cNo σ1 → cRs σ1 ((tvt (ci - 18)).1, (tvt (ci - 18)).2, σ1.1 4) v σ' → K v (cput g x0 P σ' hp) nx := by
        intro v σ' hn hs
        refine hK v σ' (by rw [hn]; exact j1) ?_
        unfold cRs at hs ⊢
        rw [j2, j3, j4] at hs
        exact hs
      rw [ch_o hW ha hS5]
      refine ⟨K, fun _ _ _ h => h, fun q => ?_, fun q => ?_, fun q => ?_, fun q => ?_, fun q => ?_⟩
      · subst q
        refine c_of18 (by omega) hW hT hTk ht hR ha (by decide) (fun v σ' hn hs => fin v σ' hn ?_)
        rw [e1]
        exact hs
      · subst q
        refine c_of19 (by omega) hW hT hTk ht hR ha (by decide) (fun v σ' hn hs => fin v σ' hn ?_)
        rw [e1]
        exact hs
      · subst q
        refine c_of20 (by omega) hW hT hTk ht hR ha (by decide) (fun v σ' hn hs => fin v σ' hn ?_)
        rw [e1]
        exact hs
      · subst q
        refine c_of20 (by omega) hW hT hTk ht hR ha (by decide) (fun v σ' hn hs => fin v σ' hn ?_)
        rw [e1]
        exact hs
      · subst q
        refine c_of22 (by omega) hW hT hTk ht hR ha (fin _ σ1 rfl ?_)
        rw [e1]
        exact cRs_rf rfl fb_i2d
end OH
