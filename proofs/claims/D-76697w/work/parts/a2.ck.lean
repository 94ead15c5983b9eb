set_option maxRecDepth 100000
/-! the component's leaves: what a kind keeps, faults, near -/
section CK
variable {l : Launch} {g : zG} {d x0 : Nat} {P : cP} {σ : cS} {hp : zHp} {nx : Nat}
/-- a class's kind -/
def cKi (ci : Nat) : Int32 := if ci = 6 then 1 else if ci = 7 then 2 else if ci = 8 then 3 else if ci = 9 then 4 else if ci = 10 then 5 else 0
theorem c_fit2 {a ci : Nat} {fs : List Value} {v : UInt64} {K : UInt64 → zHp → Nat → Prop} (hd : 1 ≤ d) (hK : K v hp nx) : zMt l g yX2_fits cX2_fits 3 (some .double) d 0 0 [.ref a, .double v] hp nx (zQd g K) := by
  obtain ⟨d, rfl⟩ := Nat.exists_eq_add_of_le' hd
  apply met_X2_fits
  unfold wp_X2_fits
  exact hK
theorem c_fit6 {a ci : Nat} {fs : List Value} (h : hp a = some (.inr (ci, fs))) (hc : ci = 6 ∨ ci = 8) {v : UInt64} {K : UInt64 → zHp → Nat → Prop} (hd : 2 ≤ d) (hK : K (FP.l2d (FP.d2l v)) hp nx) : zMt l g yX6_fits cX6_fits 3 (some .double) d 0 0 [.ref a, .double v] hp nx (zQd g K) := by
  obtain ⟨d, rfl⟩ := Nat.exists_eq_add_of_le' (show 1 ≤ d by omega)
  apply met_X6_fits
  unfold wp_X6_fits
  refine zo_i rfl h (by rcases hc with e | e <;> (rw [e]; decide)) ?_
  exact c_fit2 (ci := 0) (fs := []) (by omega) hK
theorem c_fit7 {a ci : Nat} {fs : List Value} (h : hp a = some (.inr (ci, fs))) (hc : ci = 7 ∨ ci = 9) {v : UInt64} {K : UInt64 → zHp → Nat → Prop} (hd : 2 ≤ d) (hv : s_B v) (hK : K (FP.f2d (FP.d2f v)) hp nx) : zMt l g yX7_fits cX7_fits 3 (some .double) d 0 0 [.ref a, .double v] hp nx (zQd g K) := by
  obtain ⟨d, rfl⟩ := Nat.exists_eq_add_of_le' (show 1 ≤ d by omega)
  apply met_X7_fits
  unfold wp_X7_fits
  refine zo_i rfl h (by rcases hc with e | e <;> (rw [e]; decide)) ?_
  exact c_fit2 (ci := 0) (fs := []) (by omega) ⟨fb_nn32 (fb_d2f hv), fb_nn (fb_f2d (fb_d2f hv)), hK⟩
theorem c_lld {v : UInt64} (hv : s_B v) : FP.d2l (FP.l2d (FP.d2l v)) = FP.d2l v := by
  obtain ⟨n, e, hn⟩ := fk_d2l hv
  rw [e]
  by_cases hz : n = 0
  · subst hz; decide +kernel
  · have := fk_dld hn hz
    rw [show FP.l2d (Int64.ofInt n) = UInt64.ofNat (FP.Core.fromInt FP.Core.b64 n) by show UInt64.ofNat (FP.Core.fromInt FP.Core.b64 (Int64.ofInt n).toInt) = _; rw [fk_i64 hn]]
    exact this
theorem c_ffd {v : UInt64} (hv : s_B v) : FP.d2f (FP.f2d (FP.d2f v)) = FP.d2f v := by
  obtain ⟨s, c, q, h, -⟩ := fb_d2f hv
  generalize FP.d2f v = a at h
  by_cases hc : c = 0
  · subst hc
    obtain ⟨f1, f2, f3, f4⟩ := fq_fit32 h
    rw [fq_n32] at f4
    have hq : q = -149 := by
      rcases f4 with f4 | f4
      · exact f4
      · exact absurd f4 (by decide)
    subst hq
    have e := fx_ed fx_g32 (n := a.toNat) (by have := a.toNat_lt; exact Nat.lt_of_lt_of_le this (by decide +kernel)) h
    have e2 : a = UInt32.ofNat (FP.Core.encode FP.Core.b32 (.fin s 0 (-149))) := by rw [e]; exact (UInt32.ofNat_toNat).symm
    rw [e2]
    cases s <;> decide +kernel
  · exact (fk_fdf h hc).1
theorem c_kept {a ci : Nat} {fs : List Value} (h : hp a = some (.inr (ci, fs))) (hc : ci ∈ [2, 6, 7, 8, 9, 10]) {v : UInt64} {K : UInt64 → zHp → Nat → Prop} (hd : 5 ≤ d) (hv : s_B v) (hK : K (s_kp (cKi ci) v) hp nx) : zMt l g yX2_kept cX2_kept 5 (some .double) d 0 0 [.ref a, .double v] hp nx (zQd g K) := by
  obtain ⟨d, rfl⟩ := Nat.exists_eq_add_of_le' (show 1 ≤ d by omega)
  apply met_X2_kept
  unfold wp_X2_kept
  refine zo_i rfl h hc ?_
  refine ⟨fun x hp1 nx1 => x = s_ft (cKi ci) v ∧ hp1 = hp ∧ nx1 = nx, ?_, ?_⟩
  · rintro x hp1 nx1 ⟨rfl, rfl, rfl⟩
    refine ⟨_, fun _ _ _ _ h => h, ?_⟩
    unfold s_kp s_pl at hK
    refine ⟨fun q => ?_, fun q => ?_⟩
    · rw [s_if_p (show s_eq (s_ft (cKi ci) v) 0 from fc_l0.mp q)] at hK; exact hK
    · rw [s_if_n (show ¬ s_eq (s_ft (cKi ci) v) 0 from fun z => q (fc_l0.mpr z))] at hK; exact hK
  · refine ⟨fun e => ?_, fun e => ?_, fun e => ?_, fun e => ?_, fun e => ?_, fun e => ?_⟩
    · subst e; exact c_fit2 (ci := 0) (fs := []) (by omega) ⟨rfl, rfl, rfl⟩
    · subst e; exact c_fit6 h (by decide) (by omega) ⟨rfl, rfl, rfl⟩
    · subst e; exact c_fit7 h (by decide) (by omega) hv ⟨rfl, rfl, rfl⟩
    · subst e
      obtain ⟨d, rfl⟩ := Nat.exists_eq_add_of_le' (show 1 ≤ d by omega)
      apply met_X8_fits
      unfold wp_X8_fits
      refine zo_i rfl h (by decide) ?_
      refine c_fit6 h (by decide) (by omega) ⟨?_, rfl, rfl⟩
      rw [c_lld hv]
      rfl
    · subst e
      obtain ⟨d, rfl⟩ := Nat.exists_eq_add_of_le' (show 1 ≤ d by omega)
      apply met_X9_fits
      unfold wp_X9_fits
      refine zo_i rfl h (by decide) ?_
      refine c_fit7 h (by decide) (by omega) hv ?_
      rw [c_ffd hv]
      exact ⟨fb_nn32 (fb_d2f hv), fb_nn32 (fb_frem (fb_d2f hv)), fb_nn (fb_f2d (fb_frem (fb_d2f hv))), rfl, rfl, rfl⟩
    · subst e
      obtain ⟨d, rfl⟩ := Nat.exists_eq_add_of_le' (show 1 ≤ d by omega)
      apply met_X10_fits
      unfold wp_X10_fits
      refine zo_i rfl h (by decide) ?_
      refine c_fit2 (ci := 0) (fs := []) (by omega) ?_
      refine ⟨_, fun _ _ _ _ h => h, ?_⟩
      have eK : s_ft (cKi 10) v = s_if (s_lt v 13875379345695965184) 13875379345695965184 (s_if (s_gt v 4652007308841189376) 4652007308841189376 v) := rfl
      rw [eK]
      refine ⟨fun q => ⟨fun r => ?_, fun r => ?_⟩, fun q => ?_⟩
      · rw [s_if_n (fc_gle.mp q), s_if_n (fc_lle.mp r)]; exact ⟨rfl, rfl, rfl⟩
      · rw [s_if_n (fc_gle.mp q), s_if_p (Classical.not_not.mp (fun z => r (fc_lle.mpr z)))]; exact ⟨rfl, rfl, rfl⟩
      · rw [s_if_p (Classical.not_not.mp (fun z => q (fc_gle.mpr z)))]; exact ⟨rfl, rfl, rfl⟩
/-- the first fault is kept -/
def cFa (σ : cS) (x : Int32) : cS := if σ.1 2 = 0 then cuI (cuI σ 2 x) 3 (σ.1 4) else σ
theorem c_faults {x : Int32} {K : zHp → Nat → Prop} (hd : 1 ≤ d) (hB : zB g ≤ x0) (hK : K (cput g x0 P (cFa σ x) hp) nx) : zMt l g yX0_faults cX0_faults 2 none d 0 0 [.ref x0, .int x] (cput g x0 P σ hp) nx (zQv g K) := by
  obtain ⟨d, rfl⟩ := Nat.exists_eq_add_of_le' hd
  apply met_X0_faults
  unfold wp_X0_faults
  simp only [cg_fault, cg_teller, cp_fault, cp_blamed, hB, true_and]
  unfold cFa at hK
  refine ⟨fun h => ?_, fun h => ?_⟩
  · rw [if_pos h] at hK; exact hK
  · rw [if_neg h] at hK; exact hK
theorem c_cmp {v w : UInt64} (h : vf_n64 v) {s : Bool} {c : Nat} {q : Int} (hw : fv w = .fin s c q) : FP.dcmp v w ≠ none := by
  have hn := fb_nan h
  show FP.Core.order (fv v) (fv w) ≠ none
  rw [hw]
  cases hv : fv v with
  | nan => exact absurd hv hn
  | inf s => intro q; cases q
  | fin s c q => intro q; cases q
theorem c_gg {a b : UInt64} (h : FP.dcmp a b ≠ none) : 0 < (Op.cmpValue (FP.dcmp a b) .g) ↔ s_gt a b := by
  unfold s_gt Op.cmpValue
  cases e : FP.dcmp a b with
  | none => exact absurd e h
  | some o => cases o <;> simp
theorem c_ll {a b : UInt64} (h : FP.dcmp a b ≠ none) : (Op.cmpValue (FP.dcmp a b) .l) < 0 ↔ s_lt a b := by
  unfold s_lt Op.cmpValue
  cases e : FP.dcmp a b with
  | none => exact absurd e h
  | some o => cases o <;> simp
/-- what near makes of a number -/
noncomputable def cNr (v : UInt64) : UInt64 := s_if (s_far v) 0 v
noncomputable def cNs (σ : cS) (v : UInt64) : cS := s_if (s_far v) (cFa σ 3) σ
theorem c_near {v : UInt64} {K : UInt64 → zHp → Nat → Prop} (hd : 2 ≤ d) (hB : zB g ≤ x0) (hv : vf_n64 v) (hK : K (cNr v) (cput g x0 P (cNs σ v) hp) nx) : zMt l g yX0_near cX0_near 3 (some .double) d 0 0 [.ref x0, .double v] (cput g x0 P σ hp) nx (zQd g K) := by
  obtain ⟨d, rfl⟩ := Nat.exists_eq_add_of_le' (show 1 ≤ d by omega)
  apply met_X0_near
  unfold wp_X0_near
  have d1 : fv (4786511204640096256 : UInt64) = .fin false 8192000000000000 (-13) := by unfold fv; decide +kernel
  have d2 : fv (14009883241494872064 : UInt64) = .fin true 8192000000000000 (-13) := by unfold fv; decide +kernel
  have g1 := c_gg (c_cmp hv d1)
  have g2 := c_ll (c_cmp hv d2)
  have far : s_far v → K FP.dconst0 (cput g x0 P (cFa σ 3) hp) nx := fun q => by
    unfold cNr cNs at hK
    rw [s_if_p q, s_if_p q] at hK
    exact hK
  refine ⟨fun hp1 nx1 => s_far v ∧ hp1 = cput g x0 P σ hp ∧ nx1 = nx, ?_, fun q => ⟨Or.inl (g1.mp q), rfl, rfl⟩, fun q => ⟨fun r => ⟨Or.inr (g2.mp r), rfl, rfl⟩, fun r => ?_⟩⟩
  · rintro hp1 nx1 ⟨q, rfl, rfl⟩
    rw [cz_o]
    exact c_faults (by omega) hB (far q)
  · have hf : ¬ s_far v := by
      rintro (z | z)
      · exact q (g1.mpr z)
      · exact r (g2.mpr z)
    unfold cNr cNs at hK
    rw [s_if_n hf, s_if_n hf] at hK
    exact hK
theorem c_nrB {v : UInt64} (hv : vf_n64 v) : s_B (cNr v) := by
  unfold cNr
  by_cases h : s_far v
  · rw [s_if_p h]; exact fk_B0
  · rw [s_if_n h]; exact fb_near hv h
end CK
