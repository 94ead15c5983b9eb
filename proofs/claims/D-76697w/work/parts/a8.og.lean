set_option maxRecDepth 100000
/-! good cases, the least, the most, how many failed -/
section OG
variable {l : Launch} {g : zG} {d x0 : Nat} {P : cP} {σ σ' σ1 : cS} {hp : zHp} {nx : Nat}
theorem c_cnt {rs : Nat → sT} : ∀ k, (s_ac rs k).2.2.2.2.1 + (s_ac rs k).2.2.2.2.2 = k := by
  intro k
  induction k with
  | zero => rfl
  | succ k ih =>
    simp only [s_ac]
    split
    · show (s_ac rs k).2.2.2.2.1 + ((s_ac rs k).2.2.2.2.2 + 1) = k + 1
      omega
    · show (s_ac rs k).2.2.2.2.1 + 1 + (s_ac rs k).2.2.2.2.2 = k + 1
      omega
theorem cAk_1 {ci t : Nat} : (cAk ci x0 t)[1]? = some (.int (nI t)) := by
  unfold cAk
  split
  · rfl
  · split
    · rfl
    · split <;> rfl
theorem cAk_2 {ci t : Nat} : (cAk ci x0 t)[2]? = some (va_rf (some x0)) := by
  unfold cAk
  split
  · rfl
  · split
    · rfl
    · split <;> rfl
theorem cAk_3 {ci t : Nat} (h : ci ≠ 18) : (cAk ci x0 t)[3]? = some (va_rf (some x0)) := by
  unfold cAk
  rw [if_neg h]
  split
  · rfl
  · split <;> rfl
theorem cAk_4 {ci t : Nat} (h : ci = 20 ∨ ci = 21) : (cAk ci x0 t)[4]? = some (va_rf (some x0)) := by
  rcases h with rfl | rfl <;> rfl
theorem c_good {a an ci t : Nat} {L : sL} {rs : Nat → sT} {K : Int32 → zHp → Nat → Prop} (hd : 5 ≤ d) (hW : cW g x0 P hp) (h : cTb g hp a t L) (hT : cTk L) (ht : t < 6) (hR : cRz (σ.2.2.1 t) rs (s_nc L)) (ha : hp an = some (.inr (ci, cAk ci x0 t))) (hci : ci ∈ [19, 20, 21])
    (h0 : (s_ac rs (s_nc L)).2.2.2.2.1 = 0 → K 0 (cput g x0 P (cFa σ 4) hp) nx) (h1 : (s_ac rs (s_nc L)).2.2.2.2.1 ≠ 0 → K (nI (s_ac rs (s_nc L)).2.2.2.2.1) (cput g x0 P σ hp) nx) : zMt l g yX19_good cX19_good 4 (some .int) d 0 0 [.ref an, va_rf (some a)] (cput g x0 P σ hp) nx (zQi g K) := by
  obtain ⟨d, rfl⟩ := Nat.exists_eq_add_of_le' (show 1 ≤ d by omega)
  have hnc := hT.nc
  have hT' := h
  obtain ⟨a1, r2, g1, -⟩ := h
  have ct : (nI t).toNatClampNeg = t := nI_clamp (by omega)
  have it : vp_in (nI t) 6 := vp_in_nI ht (by decide)
  have wt : cWd t = 64 := by unfold cWd; rw [if_pos ht]
  have hc18 : ci ≠ 18 := by rintro rfl; exact absurd hci (by decide)
  have r3 : ∀ {τ : cS} {Q : Option Nat → Prop}, zgR (cput g x0 P τ hp) (some an) [19, 20, 21] 3 Q = Q (some x0) := fun {τ Q} => ch_R hW ha (cAk_3 hc18) hci
  have r1 : ∀ {τ : cS} {Q : Int32 → Prop}, zgI (cput g x0 P τ hp) (some an) [18, 19, 20, 21, 22] 1 Q = Q (nI t) := fun {τ Q} => ch_I hW ha cAk_1 ((show ∀ x ∈ [19, 20, 21], x ∈ [18, 19, 20, 21, 22] by decide) ci hci)
  apply met_X19_good
  unfold wp_X19_good
  refine ⟨fun n x i hp1 nx1 => ∃ k, n + k = s_nc L ∧ x = nI (s_ac rs k).2.2.2.2.1 ∧ i = nI k ∧ hp1 = cput g x0 P σ hp ∧ nx = nx1, ⟨s_nc L, 0, rfl, rfl, rfl, rfl, rfl⟩, ?_⟩
  rintro n x i hp1 nx1 ⟨k, hk, rfl, rfl, rfl, rfl⟩
  rw [ch_o hW g1 (by decide)]
  refine c_cases (by omega) hW hT' ?_
  have hcnt := c_cnt (rs := rs) k
  refine pk_le (s_nc L) k (fun q => ?_) (fun q => ?_)
  · have : k = s_nc L := by omega
    subst this
    refine ⟨_, fun _ _ _ _ h => h, ?_⟩
    refine pk_eq (s_ac rs (s_nc L)).2.2.2.2.1 0 (fun q1 => ?_) (fun q1 => ?_)
    · rw [r3, cz_o]
      refine c_faults (by omega) hW.1 ?_
      rw [q1]
      exact h0 q1
    · exact h1 q1
  · have ck : (nI k).toNatClampNeg = k := nI_clamp (by omega)
    have ik : vp_in (nI k) (cWd t) := by rw [wt]; exact vp_in_nI (by omega) (by decide)
    simp only [r3, r1, cg_sights, ca_sights, ct, it, cs_errors (show t < 7 by omega), csa_errors (show t < 7 by omega), ck, ik, true_and, forall_eq]
    obtain ⟨z1, z2, z3⟩ := hR k q
    refine ⟨_, fun _ _ _ _ h => h, ?_⟩
    refine ⟨fun q1 => ?_, fun q1 => ?_⟩
    · rw [z1] at q1
      have e1 : (s_ac rs (k + 1)).2.2.2.2.1 = (s_ac rs k).2.2.2.2.1 + 1 := by simp only [s_ac]; rw [if_neg (fun z => z q1)]
      exact ⟨n - 1, by omega, k + 1, by omega, by rw [e1]; exact (nI_succ _).symm, (nI_succ k).symm, rfl, rfl⟩
    · rw [z1] at q1
      have e1 : (s_ac rs (k + 1)).2.2.2.2.1 = (s_ac rs k).2.2.2.2.1 := by simp only [s_ac]; rw [if_pos q1]
      exact ⟨n - 1, by omega, k + 1, by omega, by rw [e1], (nI_succ k).symm, rfl, rfl⟩
theorem c_of18 {a an ci t : Nat} {L : sL} {rs : Nat → sT} {K : UInt64 → zHp → Nat → Prop} (hd : 6 ≤ d) (hW : cW g x0 P hp) (h : cTb g hp a t L) (hT : cTk L) (ht : t < 6) (hR : cRz (σ.2.2.1 t) rs (s_nc L)) (ha : hp an = some (.inr (ci, cAk ci x0 t))) (hci : ci ∈ [18, 19, 20, 21]) (hK : ∀ v σ', cNo σ' = cNo σ → cRs σ (cSm rs (s_nc L) (σ.1 4)) v σ' → K v (cput g x0 P σ' hp) nx) : zMt l g yX18_of cX18_of 2 (some .double) d 0 0 [.ref an, va_rf (some a)] (cput g x0 P σ hp) nx (zQd g K) := by
  obtain ⟨d, rfl⟩ := Nat.exists_eq_add_of_le' (show 1 ≤ d by omega)
  apply met_X18_of
  unfold wp_X18_of
  rw [ch_R hW ha cAk_2 ((show ∀ x ∈ [18, 19, 20, 21], x ∈ [18, 19, 20, 21, 22] by decide) ci hci), cz_o]
  exact c_sum (by omega) hW h hT ht hR hK
theorem c_of22 {a an t : Nat} {L : sL} {rs : Nat → sT} {K : UInt64 → zHp → Nat → Prop} (hd : 6 ≤ d) (hW : cW g x0 P hp) (h : cTb g hp a t L) (hT : cTk L) (ht : t < 6) (hR : cRz (σ.2.2.1 t) rs (s_nc L)) (ha : hp an = some (.inr (22, cAk 22 x0 t))) (hK : K (FP.i2d (nI (s_ac rs (s_nc L)).2.2.2.2.2)) (cput g x0 P σ hp) nx) : zMt l g yX22_of cX22_of 4 (some .double) d 0 0 [.ref an, va_rf (some a)] (cput g x0 P σ hp) nx (zQd g K) := by
  obtain ⟨d, rfl⟩ := Nat.exists_eq_add_of_le' (show 1 ≤ d by omega)
  have hnc := hT.nc
  have hT' := h
  obtain ⟨a1, r2, g1, -⟩ := h
  have ct : (nI t).toNatClampNeg = t := nI_clamp (by omega)
  have it : vp_in (nI t) 6 := vp_in_nI ht (by decide)
  have wt : cWd t = 64 := by unfold cWd; rw [if_pos ht]
  have r3 : ∀ {τ : cS} {Q : Option Nat → Prop}, zgR (cput g x0 P τ hp) (some an) [22] 3 Q = Q (some x0) := fun {τ Q} => ch_R hW ha (cAk_3 (by decide)) (by decide)
  have r1 : ∀ {τ : cS} {Q : Int32 → Prop}, zgI (cput g x0 P τ hp) (some an) [18, 19, 20, 21, 22] 1 Q = Q (nI t) := fun {τ Q} => ch_I hW ha cAk_1 (by decide)
  apply met_X22_of
  unfold wp_X22_of
  refine ⟨fun n x i hp1 nx1 => ∃ k, n + k = s_nc L ∧ x = nI (s_ac rs k).2.2.2.2.2 ∧ i = nI k ∧ hp1 = cput g x0 P σ hp ∧ nx = nx1, ⟨s_nc L, 0, rfl, rfl, rfl, rfl, rfl⟩, ?_⟩
  rintro n x i hp1 nx1 ⟨k, hk, rfl, rfl, rfl, rfl⟩
  rw [ch_o hW g1 (by decide)]
  refine c_cases (by omega) hW hT' ?_
  refine pk_le (s_nc L) k (fun q => ?_) (fun q => ?_)
  · have : k = s_nc L := by omega
    subst this
    exact hK
  · have ck : (nI k).toNatClampNeg = k := nI_clamp (by omega)
    have ik : vp_in (nI k) (cWd t) := by rw [wt]; exact vp_in_nI (by omega) (by decide)
    simp only [r3, r1, cg_sights, ca_sights, ct, it, cs_errors (show t < 7 by omega), csa_errors (show t < 7 by omega), ck, ik, true_and, forall_eq]
    obtain ⟨z1, z2, z3⟩ := hR k q
    refine ⟨_, fun _ _ _ _ _ _ h => h, ?_⟩
    refine ⟨fun q1 => ?_, fun q1 => ?_⟩
    · rw [z1] at q1
      have e1 : (s_ac rs (k + 1)).2.2.2.2.2 = (s_ac rs k).2.2.2.2.2 := by simp only [s_ac]; rw [if_neg (fun z => z q1)]
      exact ⟨n - 1, by omega, k + 1, by omega, by rw [e1]; exact nI_add _ 0, (nI_succ k).symm, rfl, rfl⟩
    · rw [z1] at q1
      have e1 : (s_ac rs (k + 1)).2.2.2.2.2 = (s_ac rs k).2.2.2.2.2 + 1 := by simp only [s_ac]; rw [if_pos q1]
      exact ⟨n - 1, by omega, k + 1, by omega, by rw [e1]; exact (nI_succ _).symm, (nI_succ k).symm, rfl, rfl⟩
end OG
