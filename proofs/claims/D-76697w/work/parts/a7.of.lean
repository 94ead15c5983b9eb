set_option maxRecDepth 100000
/-! tables; what is asked of the cases that were told -/
section OF
variable {l : Launch} {g : zG} {d x0 : Nat} {P : cP} {σ σ' σ1 : cS} {hp : zHp} {nx : Nat}
/-- not one of the reference's 257 objects, which lie from g's mark 999 on -/
def cZn (g : zG) (q : Nat) : Prop := q < g.2.2.2.2 999 ∨ g.2.2.2.2 999 + 257 ≤ q
/-- an axis, a table as objects that never change -/
def cAx (g : zG) (hp : zHp) (a c : Nat) (ns : List UInt64) : Prop := ∃ b f, hp a = some (.inr (32, [.int (nI c), .ref b])) ∧ hp b = some (.inl (g.2.1 1, ns.length, .inr (.inr (.inr (.inl f))))) ∧ (∀ j, j < ns.length → f j = ns.getD j 0) ∧ cZn g b
def cTb (g : zG) (hp : zHp) (a t : Nat) (L : sL) : Prop := ∃ a1 r2, hp a = some (.inr (31, [.int (nI t), .int (nI L.1), .ref a1, va_rf r2])) ∧ cAx g hp a1 L.2.1 L.2.2.2.1 ∧ ((L.2.2.1 = none ∧ r2 = none) ∨ ∃ b a2, L.2.2.1 = some b ∧ r2 = some a2 ∧ cAx g hp a2 b L.2.2.2.2)
def cTk (L : sL) : Prop := L.1 < 24 ∧ L.2.1 < 24 ∧ 1 ≤ L.2.2.2.1.length ∧ L.2.2.2.1.length ≤ 8 ∧ ∀ b, L.2.2.1 = some b → b < 24 ∧ b ≠ L.2.1 ∧ 1 ≤ L.2.2.2.2.length ∧ L.2.2.2.2.length ≤ 8
theorem cTk.my {L : sL} (h : cTk L) : 1 ≤ s_my L ∧ s_my L ≤ 8 := by
  unfold s_my
  by_cases e : L.2.2.1 = none
  · rw [if_pos e]; omega
  · rw [if_neg e]
    cases hb : L.2.2.1 with
    | none => exact absurd hb e
    | some b => exact (h.2.2.2.2 b hb).2.2
theorem cTk.nc {L : sL} (h : cTk L) : 1 ≤ s_nc L ∧ s_nc L ≤ 64 := by
  have h1 := h.my
  obtain ⟨-, -, h2, h3, -⟩ := h
  unfold s_nc
  refine ⟨Nat.mul_pos h2 h1.1, Nat.le_trans (Nat.mul_le_mul h3 h1.2) (by decide)⟩
theorem c_size {a c : Nat} {ns : List UInt64} {K : Int32 → zHp → Nat → Prop} (hd : 1 ≤ d) (hW : cW g x0 P hp) (h : cAx g hp a c ns) (hK : K (nI ns.length) (cput g x0 P σ hp) nx) : zMt l g yX32_size cX32_size 1 (some .int) d 0 0 [.ref a] (cput g x0 P σ hp) nx (zQi g K) := by
  obtain ⟨d, rfl⟩ := Nat.exists_eq_add_of_le' (show 1 ≤ d by omega)
  obtain ⟨b, f, h1, h2, -⟩ := h
  apply met_X32_size
  unfold wp_X32_size
  rw [ch_R hW h1 (r := some b) rfl (by decide), c_ln (cput_h hW h2)]
  exact hK
theorem c_many {a t : Nat} {L : sL} {K : Int32 → zHp → Nat → Prop} (hd : 2 ≤ d) (hW : cW g x0 P hp) (h : cTb g hp a t L) (hK : K (nI (s_my L)) (cput g x0 P σ hp) nx) : zMt l g yX31_many cX31_many 1 (some .int) d 0 0 [.ref a] (cput g x0 P σ hp) nx (zQi g K) := by
  obtain ⟨d, rfl⟩ := Nat.exists_eq_add_of_le' (show 1 ≤ d by omega)
  obtain ⟨a1, r2, h1, -, h2⟩ := h
  apply met_X31_many
  unfold wp_X31_many
  simp only [ch_R hW h1 (k := 3) (r := r2) rfl (show 31 ∈ [31] by decide)]
  refine ⟨_, fun _ _ _ h => h, ?_⟩
  refine ⟨fun e => ?_, fun e => ?_⟩
  · have : L.2.2.1 = none := by
      rcases h2 with z | ⟨b, a2, -, z, -⟩
      · exact z.1
      · rw [e] at z; cases z
    unfold s_my at hK
    rw [if_pos this] at hK
    exact hK
  · rcases h2 with z | ⟨b, a2, z1, z2, z3⟩
    · exact absurd z.2 e
    · obtain ⟨b', f, q1, q2, q3⟩ := z3
      rw [z2, ch_o hW q1 (by decide)]
      refine c_size (by omega) hW ⟨b', f, q1, q2, q3⟩ ?_
      unfold s_my at hK
      rw [if_neg (by rw [z1]; exact fun q => by cases q)] at hK
      exact hK
theorem c_cases {a t : Nat} {L : sL} {K : Int32 → zHp → Nat → Prop} (hd : 3 ≤ d) (hW : cW g x0 P hp) (h : cTb g hp a t L) (hK : K (nI (s_nc L)) (cput g x0 P σ hp) nx) : zMt l g yX31_cases cX31_cases 1 (some .int) d 0 0 [.ref a] (cput g x0 P σ hp) nx (zQi g K) := by
  obtain ⟨d, rfl⟩ := Nat.exists_eq_add_of_le' (show 1 ≤ d by omega)
  have hT := h
  obtain ⟨a1, r2, h1, h3, h2⟩ := h
  apply met_X31_cases
  unfold wp_X31_cases
  have h4 := h3
  obtain ⟨b', f, q1, q2, q3⟩ := h4
  simp only [ch_R hW h1 (k := 2) (r := some a1) rfl (show 31 ∈ [31] by decide), ch_o hW q1 (show 32 ∈ [32] by decide)]
  refine c_size (by omega) hW h3 ?_
  rw [ch_o hW h1 (by decide)]
  refine c_many (by omega) hW hT ?_
  rw [pk_mul]
  exact hK
/-- what came of the cases -/
def cRz (G : cG) (rs : Nat → sT) (n : Nat) : Prop := ∀ k, k < n → G.1 6 k = (rs k).2.1 ∧ s_B (G.2.1 2 k) ∧ ((rs k).2.1 = 0 → G.2.1 2 k = (rs k).1)
theorem cNo_x (h : cNo σ1 = cNo σ) : σ1.2 = σ.2 := show (cNo σ1).2 = (cNo σ).2 by rw [h]
theorem cNo_k (h : cNo σ1 = cNo σ) {k : Nat} (h2 : k ≠ 2) (h3 : k ≠ 3) : σ1.1 k = σ.1 k := by
  have := congrArg (fun s => s.1 k) h
  simp only [cNo_1 h2 h3] at this
  exact this
/-- what was summed -/
noncomputable def cSm (rs : Nat → sT) (k : Nat) (b : Int32) : sT := ((s_ac rs k).1, s_if (s_ac rs k).2.1 3 0, b)
theorem cSm_st {rs : Nat → sT} {k : Nat} {σ σ1 : cS} {x y : UInt64} (h : cRs σ (cSm rs k (σ.1 4)) x σ1) (hn : cNo σ1 = cNo σ) (he : (rs k).2.1 = 0) (hy : s_B y) (ey : y = (rs k).1) : cRs σ (cSm rs (k + 1) (σ.1 4)) (cNr (FP.dadd x y)) (cNs σ1 (FP.dadd x y)) := by
  have hv := fb_add h.1.f hy.f
  have e1 : (s_ac rs (k + 1)).1 = FP.dadd (s_ac rs k).1 (rs k).1 := by simp only [s_ac]; rw [if_neg (fun z => z he)]
  have e2 : (s_ac rs (k + 1)).2.1 = ((s_ac rs k).2.1 ∨ s_far (FP.dadd (s_ac rs k).1 (rs k).1)) := by simp only [s_ac]; rw [if_neg (fun z => z he)]
  have hk : σ1.1 2 ≠ 0 → cNs σ1 (FP.dadd x y) = σ1 := by
    intro q
    unfold cNs
    by_cases hf : s_far (FP.dadd x y)
    · rw [s_if_p hf, cFa_n q]
    · rw [s_if_n hf]
  refine ⟨c_nrB hv, fun q => ?_, fun q => ?_⟩
  · have a := h.2.1 q
    rw [hk (by rw [a.1]; exact q)]
    exact a
  · by_cases hf : (s_ac rs k).2.1
    · have e : (cSm rs k (σ.1 4)).2.1 = 3 := by unfold cSm; exact s_if_p hf
      have a := (h.2.2 q).2 (by rw [e]; decide)
      have e' : (cSm rs (k + 1) (σ.1 4)).2.1 = 3 := by unfold cSm; exact s_if_p (by rw [e2]; exact Or.inl hf)
      rw [e'] at *
      rw [hk (by rw [a.1, e]; decide)]
      exact ⟨fun z => absurd z (by decide), fun _ => ⟨a.1.trans e, a.2⟩⟩
    · have e : (cSm rs k (σ.1 4)).2.1 = 0 := by unfold cSm; exact s_if_n hf
      obtain ⟨rfl, a2, a3⟩ := (h.2.2 q).1 e
      have ea : (cSm rs k (σ.1 4)).1 = (s_ac rs k).1 := rfl
      rw [ea, ey]
      by_cases hg : s_far (FP.dadd (s_ac rs k).1 (rs k).1)
      · have e' : (cSm rs (k + 1) (σ.1 4)).2.1 = 3 := by unfold cSm; exact s_if_p (by rw [e2]; exact Or.inr hg)
        refine ⟨fun z => by rw [e'] at z; exact absurd z (by decide), fun _ => ?_⟩
        unfold cNs
        rw [s_if_p hg, (cFa_p a2).1, (cFa_p a2).2, e', cNo_k hn (by decide) (by decide)]
        exact ⟨rfl, rfl⟩
      · have e' : (cSm rs (k + 1) (σ.1 4)).2.1 = 0 := by unfold cSm; exact s_if_n (by rw [e2]; rintro (z | z); exact hf z; exact hg z)
        refine ⟨fun _ => ?_, fun z => absurd e' z⟩
        unfold cNs cNr
        rw [s_if_n hg, s_if_n hg]
        exact ⟨by unfold cSm; rw [e1], a2, a3⟩
theorem cSm_sk {rs : Nat → sT} {k : Nat} {b : Int32} (he : (rs k).2.1 ≠ 0) : cSm rs (k + 1) b = cSm rs k b := by
  unfold cSm
  simp only [s_ac]
  rw [if_pos he]
theorem c_sum {a t : Nat} {L : sL} {rs : Nat → sT} {K : UInt64 → zHp → Nat → Prop} (hd : 5 ≤ d) (hW : cW g x0 P hp) (h : cTb g hp a t L) (hT : cTk L) (ht : t < 6) (hR : cRz (σ.2.2.1 t) rs (s_nc L)) (hK : ∀ v σ', cNo σ' = cNo σ → cRs σ (cSm rs (s_nc L) (σ.1 4)) v σ' → K v (cput g x0 P σ' hp) nx) : zMt l g yX0_sum cX0_sum 6 (some .double) d 0 0 [.ref x0, va_rf (some a)] (cput g x0 P σ hp) nx (zQd g K) := by
  obtain ⟨d, rfl⟩ := Nat.exists_eq_add_of_le' (show 1 ≤ d by omega)
  have hnc := hT.nc
  have hT' := h
  obtain ⟨a1, r2, h1, -⟩ := h
  have ct : (nI t).toNatClampNeg = t := nI_clamp (by omega)
  have it : vp_in (nI t) 6 := vp_in_nI ht (by decide)
  have wt : cWd t = 64 := by unfold cWd; rw [if_pos ht]
  apply met_X0_sum
  unfold wp_X0_sum
  simp only [cg_sights, ch_I hW h1 (k := 0) (x := nI t) rfl (show 31 ∈ [31] by decide), ca_sights, ct, it, true_and, forall_eq]
  refine ⟨fun n r x i hp1 nx1 => ∃ k σ1, n + k = s_nc L ∧ i = nI k ∧ r = some (x0 + cSA t) ∧ cNo σ1 = cNo σ ∧ cRs σ (cSm rs k (σ.1 4)) x σ1 ∧ hp1 = cput g x0 P σ1 hp ∧ nx = nx1, ⟨s_nc L, 0, σ, rfl, rfl, rfl, rfl, ?_, rfl, rfl⟩, ?_⟩
  · have e : cSm rs 0 (σ.1 4) = (0, 0, σ.1 4) := by unfold cSm; simp only [s_ac]; rw [s_if_n (fun z => z)]
    rw [e]
    exact cRs_rf rfl fk_B0
  rintro n r x i hp1 nx1 ⟨k, σ1, hk, rfl, rfl, hn, hs, rfl, rfl⟩
  rw [ch_o hW h1 (by decide)]
  refine c_cases (by omega) hW hT' ?_
  refine pk_le (s_nc L) k (fun q => ?_) (fun q => ?_)
  · have : k = s_nc L := by omega
    subst this
    exact hK x σ1 hn hs
  · have ck : (nI k).toNatClampNeg = k := nI_clamp (by omega)
    have ik : vp_in (nI k) (cWd t) := by rw [wt]; exact vp_in_nI (by omega) (by decide)
    simp only [cs_errors (show t < 7 by omega), csa_errors (show t < 7 by omega), cs_results (show t < 7 by omega), csa_results (show t < 7 by omega), ck, ik, true_and, forall_eq]
    obtain ⟨z1, z2, z3⟩ := hR k q
    have eg : σ1.2.2.1 t = σ.2.2.1 t := by rw [cNo_x hn]
    rw [eg]
    refine ⟨_, fun _ _ _ _ _ h => h, ?_⟩
    refine ⟨fun q1 => ⟨fb_add hs.1.f z2.f, ?_⟩, fun q1 => ?_⟩
    · rw [cz_o]
      refine c_near (by omega) hW.1 (fb_add hs.1.f z2.f) ?_
      rw [z1] at q1
      exact ⟨n - 1, by omega, k + 1, _, by omega, (nI_succ k).symm, rfl, (cNo_ns.trans hn), cSm_st hs hn q1 z2 (z3 q1), rfl, rfl⟩
    · rw [z1] at q1
      exact ⟨n - 1, by omega, k + 1, σ1, by omega, (nI_succ k).symm, rfl, hn, by rw [cSm_sk q1]; exact hs, rfl, rfl⟩
end OF
