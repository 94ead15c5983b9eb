set_option maxRecDepth 100000
/-! THE REFERENCE's contracts: the sum of a table -/
section T5
variable {l : Launch} {g : zG} {d m0 : Nat} {τ τ' τm τ2 : tS} {hp : zHp} {nx : Nat}
theorem fb_i2nz {n : Nat} (h0 : n ≠ 0) (h1 : n < 2 ^ 31) : ¬ s_eq (FP.i2d (nI n)) 0 := by
  have e : FP.i2d (nI n) = UInt64.ofNat (FP.Core.fromInt FP.Core.b64 (n : Int)) := by
    show UInt64.ofNat (FP.Core.fromInt FP.Core.b64 (nI n).toInt) = _
    rw [nI_toInt h1]
  rw [e]
  obtain ⟨c, q, h, -, -, -, h4⟩ := fk_ofI (n := (n : Int)) (by omega) (by omega)
  exact fun h2 => h4 ((fq_nz h).mp h2)
theorem tMem_sum {dp t : Nat} (hm : tMem τ dp) (hpe : tpe τ τ') (h19 : τ'.2.2.1 19 dp = τ.2.2.1 19 dp) (h20 : τ'.2.2.2 20 dp = τ.2.2.2 20 dp) (h21 : τ'.2.2.1 21 dp = τ.2.2.1 21 dp) (h22 : τ'.2.2.1 22 dp = τ.2.2.1 22 dp) (h23 : ∀ u, u ≠ t → τ'.2.2.1 23 dp u = τ.2.2.1 23 dp u) (h24 : ∀ u f, u ≠ t → f < 5 → τ'.2.2.2 24 dp (5 * u + f) = τ.2.2.2 24 dp (5 * u + f)) (h25 : ∀ u f, u ≠ t → f < 5 → τ'.2.2.1 25 dp (5 * u + f) = τ.2.2.1 25 dp (5 * u + f)) (hv : ∀ f, f < 5 → τ'.2.2.2 24 dp (5 * t + f) = (tTV τ t f).1 ∧ τ'.2.2.1 25 dp (5 * t + f) = (tTV τ t f).2) : tMem τ' dp := by
  refine ⟨fun c hc h => ?_, fun u hu h f hf => ?_⟩
  · rw [h19] at h
    unfold tVal
    rw [h20, h21, h22, hpe.EV]
    exact hm.1 c hc h
  · rw [hpe.TV]
    by_cases e : u = t
    · subst e; exact hv f hf
    · rw [h23 u e] at h
      rw [h24 u f e hf, h25 u f e hf]
      exact hm.2 u hu h f hf
theorem s_if01 {p : Prop} : (s_if p (1 : Int32) 0 = 0) ↔ ¬ p := by
  by_cases h : p
  · rw [s_if_p h]; simp [h]
  · rw [s_if_n h]; simp [h]
theorem s_or01 {p q : Prop} : s_if p (1 : Int32) 0 ||| s_if q (1 : Int32) 0 = s_if (p ∨ q) 1 0 := by
  by_cases hp : p
  · rw [s_if_p hp, s_if_p (Or.inl hp)]
    by_cases hq : q
    · rw [s_if_p hq]; decide
    · rw [s_if_n hq]; decide
  · rw [s_if_n hp]
    by_cases hq : q
    · rw [s_if_p hq, s_if_p (Or.inr hq)]; decide
    · rw [s_if_n hq, s_if_n (fun h => h.elim hp hq)]; decide
/-- the row of a table's sums -/
def tRw {α : Type} (R : Nat → α) (t : Nat) (a0 a1 a2 a3 a4 : α) : Nat → α := va_up (va_up (va_up (va_up (va_up R (5 * t) a0) (5 * t + 1) a1) (5 * t + 2) a2) (5 * t + 3) a3) (5 * t + 4) a4
theorem tRw_o {α : Type} {R : Nat → α} {t u f : Nat} {a0 a1 a2 a3 a4 : α} (h : u ≠ t) (hf : f < 5) : tRw R t a0 a1 a2 a3 a4 (5 * u + f) = R (5 * u + f) := by
  unfold tRw
  rw [va_o (by omega), va_o (by omega), va_o (by omega), va_o (by omega), va_o (by omega)]
theorem tRw_0 {α : Type} {R : Nat → α} {t : Nat} {a0 a1 a2 a3 a4 : α} : tRw R t a0 a1 a2 a3 a4 (5 * t) = a0 := by
  unfold tRw
  rw [va_o (by omega), va_o (by omega), va_o (by omega), va_o (by omega), va_s]
theorem tRw_1 {α : Type} {R : Nat → α} {t : Nat} {a0 a1 a2 a3 a4 : α} : tRw R t a0 a1 a2 a3 a4 (5 * t + 1) = a1 := by
  unfold tRw
  rw [va_o (by omega), va_o (by omega), va_o (by omega), va_s]
theorem tRw_2 {α : Type} {R : Nat → α} {t : Nat} {a0 a1 a2 a3 a4 : α} : tRw R t a0 a1 a2 a3 a4 (5 * t + 2) = a2 := by
  unfold tRw
  rw [va_o (by omega), va_o (by omega), va_s]
theorem tRw_3 {α : Type} {R : Nat → α} {t : Nat} {a0 a1 a2 a3 a4 : α} : tRw R t a0 a1 a2 a3 a4 (5 * t + 3) = a3 := by
  unfold tRw
  rw [va_o (by omega), va_s]
theorem tRw_4 {α : Type} {R : Nat → α} {t : Nat} {a0 a1 a2 a3 a4 : α} : tRw R t a0 a1 a2 a3 a4 (5 * t + 4) = a4 := by
  unfold tRw
  rw [va_s]
theorem t_sumUp {rk : Nat → Nat} {t dp tp n : Nat} {L : sL} {K : zHp → Nat → Prop} (ih : tTell l g m0 hp nx rk n) (hB : zB g ≤ m0) (hO : tOK rk τ) (ht : t < 6) (hL : tly τ t = some L) (hrk : rk L.1 < n) (hd : 4 * rk L.1 + 10 ≤ d) (hdp : dp + 1 + s_cn (fun t => rk (24 + t) < rk L.1) 6 ≤ 6) (h18 : τ.1 18 = nI dp) (h26 : τ.1 26 = nI tp) (htp : tp + 96 * (rk L.1 + 1) ≤ 4800) (hm : tMem τ dp)
    (hK : ∀ τ', tfr dp tp τ τ' → τ'.1 26 = nI tp → tMem τ' dp → τ'.2.2.1 23 dp t ≠ 0 → K (tput g m0 τ' hp) nx) : zMt l g yX5_sumUp cX5_sumUp 14 none d 0 0 [.ref m0, .int (nI t)] (tput g m0 τ hp) nx (zQv g K) := by
  obtain ⟨d, rfl⟩ := Nat.exists_eq_add_of_le' (show 1 ≤ d by omega)
  apply met_X5_sumUp
  unfold wp_X5_sumUp
  obtain ⟨h6, lo, la, e7, e8, ⟨hn1, hn8, e10⟩, eax, hot⟩ := tly_some hO.2.1 ht hL
  have ct : (nI t).toNatClampNeg = t := nI_clamp (by omega)
  have it : vp_in (nI t) 6 := vp_in_nI ht (by decide)
  have cd : (nI dp).toNatClampNeg = dp := nI_clamp (by omega)
  have id : vp_in (nI dp) 7 := vp_in_nI (by omega) (by decide)
  have ld : dp < 7 := by omega
  have e2 : (2 : Int32) * nI t = nI (2 * t) := pk_mul 2 t
  have e21 : nI (2 * t) + 1 = nI (2 * t + 1) := nI_1 _
  have c2 : (nI (2 * t)).toNatClampNeg = 2 * t := nI_clamp (by omega)
  have c21 : (nI (2 * t + 1)).toNatClampNeg = 2 * t + 1 := nI_clamp (by omega)
  have i2 : vp_in (nI (2 * t)) 12 := vp_in_nI (by omega) (by decide)
  have i21 : vp_in (nI (2 * t + 1)) 12 := vp_in_nI (by omega) (by decide)
  have hB2 : ∀ n, zB g ≤ m0 + n := fun n => by omega
  have hB3 : ∀ a b n, zB g ≤ m0 + a + b + n := fun a b n => by omega
  have n1 : vp_nar .boolean 1 = 1 := by decide
  by_cases hs' : τ.2.2.1 23 dp t ≠ 0
  · have hs : ¬ τ.2.2.1 23 dp t = 0 := hs'
    simp only [tg_summed, ta_summed, tg_deep, tp_deep, h18, cd, id, tb_summed ld, tv_summed ld, ct, it, true_implies, false_implies, implies_true, and_true, true_and, forall_eq, hs]
    simp only [not_false_eq_true, true_implies]
    exact hK τ tfr.rf h26 hm hs
  · have hs : τ.2.2.1 23 dp t = 0 := Classical.not_not.mp hs'
    simp only [tg_summed, ta_summed, tg_deep, tp_deep, h18, cd, id, tb_summed ld, tv_summed ld, ct, it, true_implies, false_implies, implies_true, and_true, true_and, forall_eq, hs, tg_others, ta_others, tu_others, not_true_eq_false]
    -- how many stand behind one another
    obtain ⟨my, hmy⟩ : ∃ my, my = s_my L := ⟨_, rfl⟩
    have my1 : 1 ≤ my ∧ my ≤ 8 := by
      rcases hot with ⟨_, _, _, q⟩ | ⟨_, _, _, q1, q2, _⟩ <;> omega
    obtain ⟨r, hr⟩ : ∃ r : Nat → sT, r = fun k => s_EV (tfm τ) (tly τ) (tkd τ) (s_bi L (tow τ) (k / my) (k % my)) L.1 := ⟨_, rfl⟩
    have hrB : ∀ k, k < 800 → s_Be (r k) := fun k _ _ => by
      rw [hr]
      exact s_EV_B hO.2.2.1 hO.1.mo hO.2.2.2.1 hO.2.2.2.2.1 hO.2.2.2.2.2.1 _ L.1 (Nat.lt_succ_self _) lo _ (s_bi_B hO.2.2.2.2.2.2.1 (hO.2.2.2.2.2.1 t ht L hL).1 (hO.2.2.2.2.2.1 t ht L hL).2.1)
    have hnc : s_nc L = L.2.2.2.1.length * my := by unfold s_nc; rw [hmy]
    have hlen : ∀ ii, ii ≤ L.2.2.2.1.length → ii * my ≤ 64 := fun ii h => Nat.le_trans (Nat.mul_le_mul (Nat.le_trans h hn8) my1.2) (by decide)
    have goal : ∀ (P : UInt64 → Int32 → UInt64 → UInt64 → Int32 → Int32 → Int32 → zHp → Nat → Prop), P FP.dconst0 0 FP.dconst0 FP.dconst0 0 0 (nI my) (tput g m0 τ hp) nx → ((τ.2.2.1 9 0 t = -1 → P FP.dconst0 0 FP.dconst0 FP.dconst0 0 0 1 (tput g m0 τ hp) nx) ∧ (¬ τ.2.2.1 9 0 t = -1 → P FP.dconst0 0 FP.dconst0 FP.dconst0 0 0 (τ.2.2.1 10 0 (2 * t + 1)) (tput g m0 τ hp) nx)) := by
      intro P hP
      rcases hot with ⟨q9, _, _, q⟩ | ⟨b, _, _, q1, q2, q9, qn, q11, _⟩
      · refine ⟨fun _ => ?_, fun h => absurd q9 h⟩
        rw [hmy, q] at hP
        exact hP
      · refine ⟨fun h => absurd h qn, fun _ => ?_⟩
        rw [q11, ← hmy]
        exact hP
    simp only [tg_axisSizes, ta_axisSizes, tu_axisSizes, e2, e21, c21, i21, true_implies, false_implies, implies_true, and_true, true_and, forall_eq]
    obtain ⟨P, hP⟩ : ∃ P : UInt64 → Int32 → UInt64 → UInt64 → Int32 → Int32 → Int32 → zHp → Nat → Prop, P = (fun a b c e f' g' last h n' => a = FP.dconst0 ∧ b = 0 ∧ c = FP.dconst0 ∧ e = FP.dconst0 ∧ f' = 0 ∧ g' = 0 ∧ last = nI my ∧ h = tput g m0 τ hp ∧ nx = n') := ⟨_, rfl⟩
    refine ⟨P, ?_, goal P (by rw [hP]; exact ⟨rfl, rfl, rfl, rfl, rfl, rfl, rfl, rfl, rfl⟩)⟩
    intro a b c e f' g' last h n' hh
    rw [hP] at hh
    obtain ⟨rfl, rfl, rfl, rfl, rfl, rfl, rfl, rfl, rfl⟩ := hh
    refine ⟨fun n sum far least most good bad last i h nx' => ∃ ii τ1, ii ≤ L.2.2.2.1.length ∧ n = L.2.2.2.1.length - ii ∧ i = nI ii ∧ last = nI my ∧ h = tput g m0 τ1 hp ∧ nx = nx' ∧ tfr (dp + 1) tp τ τ1 ∧ τ1.1 26 = nI tp ∧ sum = (s_ac r (ii * my)).1 ∧ far = s_if (s_ac r (ii * my)).2.1 1 0 ∧ least = (s_ac r (ii * my)).2.2.1 ∧ most = (s_ac r (ii * my)).2.2.2.1 ∧ good = nI (s_ac r (ii * my)).2.2.2.2.1 ∧ bad = nI (s_ac r (ii * my)).2.2.2.2.2, ⟨_, 0, τ, by omega, rfl, rfl, rfl, rfl, rfl, tfr.rf, h26, ?_⟩, ?_⟩
    · rw [Nat.zero_mul]
      exact ⟨rfl, (s_if_n (fun h => h)).symm, rfl, rfl, rfl, rfl⟩
    rintro n _ _ _ _ _ _ _ _ _ _ ⟨ii, τ1, hii, hn, rfl, rfl, rfl, rfl, hf, k26, rfl, rfl, rfl, rfl, rfl, rfl⟩
    have k10 : τ1.2.2.1 10 0 (2 * t) = nI L.2.2.2.1.length := by rw [hf.I 10 (by decide)]; exact e10
    have k18 : τ1.1 18 = nI dp := by rw [hf.1 18 (by decide) (by decide) (by decide)]; exact h18
    simp only [tg_axisSizes, ta_axisSizes, tu_axisSizes, e2, c2, i2, true_implies, false_implies, implies_true, and_true, true_and, forall_eq, k10]
    refine pk_le L.2.2.2.1.length ii (fun hle => ?_) (fun hlt => ?_)
    · have hie : ii = L.2.2.2.1.length := by omega
      have eN : ii * my = s_nc L := by rw [hie, hnc]
      have h64 : s_nc L ≤ 64 := by rw [← eN]; exact hlen ii hii
      rw [eN]
      obtain ⟨B1, B2, B3, B4, B5⟩ := s_ac_B (r := r) (N := 800) hrB (s_nc L) (by omega) (by omega)
      have eTV : ∀ f, tTV τ t f = s_tv r (s_nc L) f := by
        intro f
        unfold tTV
        rw [hL, hr, hmy]
      have e5 : (5 : Int32) * nI t = nI (5 * t) := pk_mul 5 t
      have e51 : nI (5 * t) + 1 = nI (5 * t + 1) := nI_1 _
      have e52 : nI (5 * t) + 2 = nI (5 * t + 2) := nI_add (5 * t) 2
      have e53 : nI (5 * t) + 3 = nI (5 * t + 3) := nI_add (5 * t) 3
      have e54 : nI (5 * t) + 4 = nI (5 * t + 4) := nI_add (5 * t) 4
      have c5 : ∀ f, f < 5 → (nI (5 * t + f)).toNatClampNeg = 5 * t + f := fun f hf => nI_clamp (by omega)
      have i5 : ∀ f, f < 5 → vp_in (nI (5 * t + f)) 30 := fun f hf => vp_in_nI (by omega) (by decide)
      have c50 := c5 0 (by decide)
      have c51 := c5 1 (by decide)
      have c52 := c5 2 (by decide)
      have c53 := c5 3 (by decide)
      have c54 := c5 4 (by decide)
      have i50 := i5 0 (by decide)
      have i51 := i5 1 (by decide)
      have i52 := i5 2 (by decide)
      have i53 := i5 3 (by decide)
      have i54 := i5 4 (by decide)
      rw [Nat.add_zero] at c50 i50
      have g0 : ∀ h : (s_ac r (s_nc L)).2.2.2.2.1 ≠ 0, ¬ nI (s_ac r (s_nc L)).2.2.2.2.1 = 0 := fun h => nI_ne0 (by omega) (by omega)
      have fin : ∀ (m : UInt64) (w0 w1 w2 : Int32), (m, w1) = s_tv r (s_nc L) 1 → w0 = s_if (s_ac r (s_nc L)).2.1 3 0 → w2 = (if (s_ac r (s_nc L)).2.2.2.2.1 = 0 then 4 else 0) → K (tput g m0 (taI (taI (taD (taI (taD (taI (taD (taI (taD (taI (taD τ1 24 dp (va_up (τ1.2.2.2 24 dp) (5 * t) (s_ac r (s_nc L)).1)) 25 dp (va_up (τ1.2.2.1 25 dp) (5 * t) w0)) 24 dp (va_up (va_up (τ1.2.2.2 24 dp) (5 * t) (s_ac r (s_nc L)).1) (5 * t + 1) m)) 25 dp (va_up (va_up (τ1.2.2.1 25 dp) (5 * t) w0) (5 * t + 1) w1)) 24 dp (va_up (va_up (va_up (τ1.2.2.2 24 dp) (5 * t) (s_ac r (s_nc L)).1) (5 * t + 1) m) (5 * t + 2) (s_ac r (s_nc L)).2.2.1)) 25 dp (va_up (va_up (va_up (τ1.2.2.1 25 dp) (5 * t) w0) (5 * t + 1) w1) (5 * t + 2) w2)) 24 dp (va_up (va_up (va_up (va_up (τ1.2.2.2 24 dp) (5 * t) (s_ac r (s_nc L)).1) (5 * t + 1) m) (5 * t + 2) (s_ac r (s_nc L)).2.2.1) (5 * t + 3) (s_ac r (s_nc L)).2.2.2.1)) 25 dp (va_up (va_up (va_up (va_up (τ1.2.2.1 25 dp) (5 * t) w0) (5 * t + 1) w1) (5 * t + 2) w2) (5 * t + 3) w2)) 24 dp (tRw (τ1.2.2.2 24 dp) t (s_ac r (s_nc L)).1 m (s_ac r (s_nc L)).2.2.1 (s_ac r (s_nc L)).2.2.2.1 (FP.i2d (nI (s_ac r (s_nc L)).2.2.2.2.2)))) 25 dp (tRw (τ1.2.2.1 25 dp) t w0 w1 w2 w2 0)) 23 dp (va_up (τ1.2.2.1 23 dp) t 1)) hp) nx := by
        intro m w0 w1 w2 hm1 hw0 hw2
        have hf' := hf.wk (dp' := dp) (tp' := tp) (by omega) (Nat.le_refl _)
        have fr := ((((((((((hf'.aD (k := 24) (i := dp) (f := va_up (τ1.2.2.2 24 dp) (5 * t) (s_ac r (s_nc L)).1) ⟨by decide, Nat.le_refl _⟩).aI (k := 25) (i := dp) (f := va_up (τ1.2.2.1 25 dp) (5 * t) w0) ⟨by decide, Nat.le_refl _⟩).aD (k := 24) (i := dp) (f := va_up (va_up (τ1.2.2.2 24 dp) (5 * t) (s_ac r (s_nc L)).1) (5 * t + 1) m) ⟨by decide, Nat.le_refl _⟩).aI (k := 25) (i := dp) (f := va_up (va_up (τ1.2.2.1 25 dp) (5 * t) w0) (5 * t + 1) w1) ⟨by decide, Nat.le_refl _⟩).aD (k := 24) (i := dp) (f := va_up (va_up (va_up (τ1.2.2.2 24 dp) (5 * t) (s_ac r (s_nc L)).1) (5 * t + 1) m) (5 * t + 2) (s_ac r (s_nc L)).2.2.1) ⟨by decide, Nat.le_refl _⟩).aI (k := 25) (i := dp) (f := va_up (va_up (va_up (τ1.2.2.1 25 dp) (5 * t) w0) (5 * t + 1) w1) (5 * t + 2) w2) ⟨by decide, Nat.le_refl _⟩).aD (k := 24) (i := dp) (f := va_up (va_up (va_up (va_up (τ1.2.2.2 24 dp) (5 * t) (s_ac r (s_nc L)).1) (5 * t + 1) m) (5 * t + 2) (s_ac r (s_nc L)).2.2.1) (5 * t + 3) (s_ac r (s_nc L)).2.2.2.1) ⟨by decide, Nat.le_refl _⟩).aI (k := 25) (i := dp) (f := va_up (va_up (va_up (va_up (τ1.2.2.1 25 dp) (5 * t) w0) (5 * t + 1) w1) (5 * t + 2) w2) (5 * t + 3) w2) ⟨by decide, Nat.le_refl _⟩).aD (k := 24) (i := dp) (f := tRw (τ1.2.2.2 24 dp) t (s_ac r (s_nc L)).1 m (s_ac r (s_nc L)).2.2.1 (s_ac r (s_nc L)).2.2.2.1 (FP.i2d (nI (s_ac r (s_nc L)).2.2.2.2.2))) ⟨by decide, Nat.le_refl _⟩).aI (k := 25) (i := dp) (f := tRw (τ1.2.2.1 25 dp) t w0 w1 w2 w2 0) ⟨by decide, Nat.le_refl _⟩).aI (k := 23) (i := dp) (f := va_up (τ1.2.2.1 23 dp) t 1) ⟨by decide, Nat.le_refl _⟩
        have row : ∀ k, (k = 19 ∨ k = 21 ∨ k = 22 ∨ k = 23 ∨ k = 25) → τ1.2.2.1 k dp = τ.2.2.1 k dp := fun k hk => funext fun j => hf.2.2.1 k dp j (by omega) (by omega)
        have rowD : ∀ k, (k = 20 ∨ k = 24) → τ1.2.2.2 k dp = τ.2.2.2 k dp := fun k hk => funext fun j => hf.2.2.2 k dp j (by omega) (by omega)
        refine hK _ fr (by simp only [tq1, tq3, tq4, tq5, tq7, tq8, tq9, tqa, tqc, tqd, tqe, tqf, tqg, tqh, tqj, va_s, ne_eq, reduceCtorEq, not_false_eq_true, not_true_eq_false, if_true, if_false, Nat.reduceEqDiff]; exact k26) (tMem_sum (t := t) hm fr.pe ?_ ?_ ?_ ?_ (fun u hu => ?_) (fun u f hu hf5 => ?_) (fun u f hu hf5 => ?_) (fun f hf5 => ?_)) ?_
        · simp only [tq1, tq3, tq4, tq5, tq7, tq8, tq9, tqa, tqc, tqd, tqe, tqf, tqg, tqh, tqj, va_s, ne_eq, reduceCtorEq, not_false_eq_true, not_true_eq_false, if_true, if_false, Nat.reduceEqDiff]; exact row 19 (by decide)
        · simp only [tq1, tq3, tq4, tq5, tq7, tq8, tq9, tqa, tqc, tqd, tqe, tqf, tqg, tqh, tqj, va_s, ne_eq, reduceCtorEq, not_false_eq_true, not_true_eq_false, if_true, if_false, Nat.reduceEqDiff]; exact rowD 20 (by decide)
        · simp only [tq1, tq3, tq4, tq5, tq7, tq8, tq9, tqa, tqc, tqd, tqe, tqf, tqg, tqh, tqj, va_s, ne_eq, reduceCtorEq, not_false_eq_true, not_true_eq_false, if_true, if_false, Nat.reduceEqDiff]; exact row 21 (by decide)
        · simp only [tq1, tq3, tq4, tq5, tq7, tq8, tq9, tqa, tqc, tqd, tqe, tqf, tqg, tqh, tqj, va_s, ne_eq, reduceCtorEq, not_false_eq_true, not_true_eq_false, if_true, if_false, Nat.reduceEqDiff]; exact row 22 (by decide)
        · simp only [tq1, tq3, tq4, tq5, tq7, tq8, tq9, tqa, tqc, tqd, tqe, tqf, tqg, tqh, tqj, va_s, ne_eq, reduceCtorEq, not_false_eq_true, not_true_eq_false, if_true, if_false, Nat.reduceEqDiff]; rw [va_o hu, row 23 (by decide)]
        · simp only [tq1, tq3, tq4, tq5, tq7, tq8, tq9, tqa, tqc, tqd, tqe, tqf, tqg, tqh, tqj, va_s, ne_eq, reduceCtorEq, not_false_eq_true, not_true_eq_false, if_true, if_false, Nat.reduceEqDiff]; rw [tRw_o hu hf5, rowD 24 (by decide)]
        · simp only [tq1, tq3, tq4, tq5, tq7, tq8, tq9, tqa, tqc, tqd, tqe, tqf, tqg, tqh, tqj, va_s, ne_eq, reduceCtorEq, not_false_eq_true, not_true_eq_false, if_true, if_false, Nat.reduceEqDiff]; rw [tRw_o hu hf5, row 25 (by decide)]
        · simp only [tq1, tq3, tq4, tq5, tq7, tq8, tq9, tqa, tqc, tqd, tqe, tqf, tqg, tqh, tqj, va_s, ne_eq, reduceCtorEq, not_false_eq_true, not_true_eq_false, if_true, if_false, Nat.reduceEqDiff]
          rw [eTV]
          match f, hf5 with
          | 0, _ => rw [Nat.add_zero, tRw_0, tRw_0]; exact ⟨rfl, hw0⟩
          | 1, _ => rw [tRw_1, tRw_1, ← hm1]; exact ⟨rfl, rfl⟩
          | 2, _ => rw [tRw_2, tRw_2]; exact ⟨rfl, hw2⟩
          | 3, _ => rw [tRw_3, tRw_3]; exact ⟨rfl, hw2⟩
          | 4, _ => rw [tRw_4, tRw_4]; exact ⟨rfl, rfl⟩
        · simp only [tq1, tq3, tq4, tq5, tq7, tq8, tq9, tqa, tqc, tqd, tqe, tqf, tqg, tqh, tqj, va_s, ne_eq, reduceCtorEq, not_false_eq_true, not_true_eq_false, if_true, if_false, Nat.reduceEqDiff]; decide
      have hvf : (s_ac r (s_nc L)).2.2.2.2.1 ≠ 0 → vf_n64 (FP.ddiv (s_ac r (s_nc L)).1 (FP.i2d (nI (s_ac r (s_nc L)).2.2.2.2.1))) := fun h => fb_div B1.f fb_i2d.f (fb_i2nz h (by omega))
      have fF : ((1 : Int32) = 0) = False := by decide
      have eF : ∃ far : Int32, s_if (s_ac r (s_nc L)).2.1 (1 : Int32) 0 = far ∧ ((far = 1 ∧ (s_ac r (s_nc L)).2.1) ∨ (far = 0 ∧ ¬ (s_ac r (s_nc L)).2.1)) := by
        by_cases hF : (s_ac r (s_nc L)).2.1
        · exact ⟨1, s_if_p hF, Or.inl ⟨rfl, hF⟩⟩
        · exact ⟨0, s_if_n hF, Or.inr ⟨rfl, hF⟩⟩
      have gG : (nI (s_ac r (s_nc L)).2.2.2.2.1 = 0) = ((s_ac r (s_nc L)).2.2.2.2.1 = 0) := propext ⟨fun h => Classical.byContradiction (fun q => g0 q h), fun h => by rw [h]; rfl⟩
      obtain ⟨far, eF, hfar⟩ := eF
      rw [eF]
      rcases hfar with ⟨rfl, hF⟩ | ⟨rfl, hF⟩
      all_goals by_cases hG : (s_ac r (s_nc L)).2.2.2.2.1 = 0
      all_goals
        simp only [tg_sums, ta_sums, tg_sumErrors, ta_sumErrors, tg_summed, ta_summed, tg_deep, tp_deep, k18, cd, id, tb_sums ld, tv_sums ld, tb_sumErrors ld, tv_sumErrors ld, tb_summed ld, tv_summed ld, e5, e51, e52, e53, e54, c50, c51, c52, c53, c54, i50, i51, i52, i53, i54, hB3, ct, it, n1, true_implies, false_implies, implies_true, and_true, true_and, forall_eq, tq1, tq3, tq4, tq5, tq7, tq8, tq9, tqa, tqc, tqd, tqe, tqf, tqg, tqh, tqj, va_s, ne_eq, reduceCtorEq, not_false_eq_true, not_true_eq_false, if_true, if_false, Nat.reduceEqDiff, fF, gG, hG, nI_0]
        refine ⟨_, fun _ _ _ _ _ _ _ _ _ _ _ _ _ _ h => h, ?_⟩
        simp only [tg_sums, ta_sums, tg_sumErrors, ta_sumErrors, tg_summed, ta_summed, tg_deep, tp_deep, k18, cd, id, tb_sums ld, tv_sums ld, tb_sumErrors ld, tv_sumErrors ld, tb_summed ld, tv_summed ld, e5, e51, e52, e53, e54, c50, c51, c52, c53, c54, i50, i51, i52, i53, i54, hB3, ct, it, n1, true_implies, false_implies, implies_true, and_true, true_and, forall_eq, tq1, tq3, tq4, tq5, tq7, tq8, tq9, tqa, tqc, tqd, tqe, tqf, tqg, tqh, tqj, va_s, ne_eq, reduceCtorEq, not_false_eq_true, not_true_eq_false, if_true, if_false, Nat.reduceEqDiff, fF, gG, hG, nI_0]
        try simp only [hvf hG, tg_sums, ta_sums, tg_sumErrors, ta_sumErrors, tg_summed, ta_summed, tg_deep, tp_deep, k18, cd, id, tb_sums ld, tv_sums ld, tb_sumErrors ld, tv_sumErrors ld, tb_summed ld, tv_summed ld, e5, e51, e52, e53, e54, c50, c51, c52, c53, c54, i50, i51, i52, i53, i54, hB3, ct, it, n1, true_implies, false_implies, implies_true, and_true, true_and, forall_eq, tq1, tq3, tq4, tq5, tq7, tq8, tq9, tqa, tqc, tqd, tqe, tqf, tqg, tqh, tqj, va_s, ne_eq, reduceCtorEq, not_false_eq_true, not_true_eq_false, if_true, if_false, Nat.reduceEqDiff, fF, gG, hG, nI_0]
        refine ⟨_, fun _ _ _ _ _ _ _ _ _ _ _ _ _ _ h => h, ?_⟩
        simp only [tg_sums, ta_sums, tg_sumErrors, ta_sumErrors, tg_summed, ta_summed, tg_deep, tp_deep, k18, cd, id, tb_sums ld, tv_sums ld, tb_sumErrors ld, tv_sumErrors ld, tb_summed ld, tv_summed ld, e5, e51, e52, e53, e54, c50, c51, c52, c53, c54, i50, i51, i52, i53, i54, hB3, ct, it, n1, true_implies, false_implies, implies_true, and_true, true_and, forall_eq, tq1, tq3, tq4, tq5, tq7, tq8, tq9, tqa, tqc, tqd, tqe, tqf, tqg, tqh, tqj, va_s, ne_eq, reduceCtorEq, not_false_eq_true, not_true_eq_false, if_true, if_false, Nat.reduceEqDiff, fF, gG, hG, nI_0]
        refine ⟨_, fun _ _ _ _ _ _ _ _ _ _ _ _ _ _ h => h, ?_⟩
        simp only [tg_sums, ta_sums, tg_sumErrors, ta_sumErrors, tg_summed, ta_summed, tg_deep, tp_deep, k18, cd, id, tb_sums ld, tv_sums ld, tb_sumErrors ld, tv_sumErrors ld, tb_summed ld, tv_summed ld, e5, e51, e52, e53, e54, c50, c51, c52, c53, c54, i50, i51, i52, i53, i54, hB3, ct, it, n1, true_implies, false_implies, implies_true, and_true, true_and, forall_eq, tq1, tq3, tq4, tq5, tq7, tq8, tq9, tqa, tqc, tqd, tqe, tqf, tqg, tqh, tqj, va_s, ne_eq, reduceCtorEq, not_false_eq_true, not_true_eq_false, if_true, if_false, Nat.reduceEqDiff, fF, gG, hG, nI_0]
        refine ⟨_, fun _ _ _ _ _ _ _ _ _ _ _ _ _ _ h => h, ?_⟩
        simp only [tg_sums, ta_sums, tg_sumErrors, ta_sumErrors, tg_summed, ta_summed, tg_deep, tp_deep, k18, cd, id, tb_sums ld, tv_sums ld, tb_sumErrors ld, tv_sumErrors ld, tb_summed ld, tv_summed ld, e5, e51, e52, e53, e54, c50, c51, c52, c53, c54, i50, i51, i52, i53, i54, hB3, ct, it, n1, true_implies, false_implies, implies_true, and_true, true_and, forall_eq, tq1, tq3, tq4, tq5, tq7, tq8, tq9, tqa, tqc, tqd, tqe, tqf, tqg, tqh, tqj, va_s, ne_eq, reduceCtorEq, not_false_eq_true, not_true_eq_false, if_true, if_false, Nat.reduceEqDiff, fF, gG, hG, nI_0]
        refine ⟨_, fun _ _ _ _ _ _ _ _ _ _ _ _ _ _ h => h, ?_⟩
        simp only [tg_sums, ta_sums, tg_sumErrors, ta_sumErrors, tg_summed, ta_summed, tg_deep, tp_deep, k18, cd, id, tb_sums ld, tv_sums ld, tb_sumErrors ld, tv_sumErrors ld, tb_summed ld, tv_summed ld, e5, e51, e52, e53, e54, c50, c51, c52, c53, c54, i50, i51, i52, i53, i54, hB3, ct, it, n1, true_implies, false_implies, implies_true, and_true, true_and, forall_eq, tq1, tq3, tq4, tq5, tq7, tq8, tq9, tqa, tqc, tqd, tqe, tqf, tqg, tqh, tqj, va_s, ne_eq, reduceCtorEq, not_false_eq_true, not_true_eq_false, if_true, if_false, Nat.reduceEqDiff, fF, gG, hG, nI_0]
        refine fin _ _ _ _ ?_ ?_ ?_
        · unfold s_tv; rw [if_neg (by decide), if_pos rfl]; simp only [hG, if_true, if_false]; first | rfl | (rw [s_if_p hF]) | (rw [s_if_n hF])
        · first | (rw [s_if_p hF]) | (rw [s_if_n hF])
        · simp only [hG, if_true, if_false]
    · refine ⟨fun n sum far least most good bad last i j h nx' => ∃ jj τ3, jj ≤ my ∧ n = my - jj ∧ j = nI jj ∧ i = nI ii ∧ last = nI my ∧ h = tput g m0 τ3 hp ∧ nx = nx' ∧ tfr (dp + 1) tp τ τ3 ∧ τ3.1 26 = nI tp ∧ sum = (s_ac r (ii * my + jj)).1 ∧ far = s_if (s_ac r (ii * my + jj)).2.1 1 0 ∧ least = (s_ac r (ii * my + jj)).2.2.1 ∧ most = (s_ac r (ii * my + jj)).2.2.2.1 ∧ good = nI (s_ac r (ii * my + jj)).2.2.2.2.1 ∧ bad = nI (s_ac r (ii * my + jj)).2.2.2.2.2, ⟨_, 0, τ1, by omega, rfl, rfl, rfl, rfl, rfl, rfl, hf, k26, rfl, rfl, rfl, rfl, rfl, rfl⟩, ?_⟩
      rintro n2 _ _ _ _ _ _ _ _ _ _ _ ⟨jj, τ3, hjj, hn2, rfl, rfl, rfl, rfl, rfl, hf3, k26', rfl, rfl, rfl, rfl, rfl, rfl⟩
      refine pk_le my jj (fun hle => ?_) (fun hlt2 => ?_)
      · have hje : jj = my := by omega
        subst hje
        refine ⟨_, ?_, ii + 1, τ3, by omega, rfl, nI_1 ii, rfl, rfl, rfl, hf3, k26', ?_⟩
        · omega
        · rw [show (ii + 1) * jj = ii * jj + jj by rw [Nat.add_mul, Nat.one_mul]]
          exact ⟨rfl, rfl, rfl, rfl, rfl, rfl⟩
      · simp only [tw_zo]
        have hk : ii * my + jj < 64 := by
          have h1 := hlen (ii + 1) (by omega)
          rw [Nat.add_mul, Nat.one_mul] at h1
          omega
        refine t_tellCase (τ := τ3) (L := L) (dp := dp) (tp := tp) ih hB (hO.pe hf3.pe) ht (by rw [hf3.pe.ly]; exact hL) hrk (by omega) hdp (by rw [hf3.1 18 (by decide) (by decide) (by decide)]; exact h18) k26' htp hlt (by omega) fun τ4 f4 q26 qv => ?_
        have rv : r (ii * my + jj) = (τ4.2.1 30, τ4.1 31, τ4.1 32) := by
          rw [qv, hr, hf3.pe.fm, hf3.pe.ly, hf3.pe.kd, hf3.pe.ow]
          simp only
          rw [Nat.add_comm (ii * my) jj, Nat.add_mul_div_right _ _ (by omega), Nat.div_eq_of_lt hlt2, Nat.add_mul_mod_self_right, Nat.mod_eq_of_lt hlt2, Nat.zero_add]
        have v30 : τ4.2.1 30 = (r (ii * my + jj)).1 := by rw [rv]
        have v31 : τ4.1 31 = (r (ii * my + jj)).2.1 := by rw [rv]
        obtain ⟨B1, B2, B3, B4, B5⟩ := s_ac_B (r := r) (N := 800) hrB (ii * my + jj) (by omega) (by omega)
        have hbv := hrB (ii * my + jj) (by omega)
        obtain ⟨k, ek⟩ : ∃ k, k = ii * my + jj := ⟨_, rfl⟩
        rw [← ek] at v30 v31 B1 B2 B3 B4 B5 hbv ⊢
        simp only [tg_caseError, tp_caseError, v31]
        obtain ⟨P, hP⟩ : ∃ P : UInt64 → Int32 → UInt64 → UInt64 → Int32 → Int32 → Int32 → Int32 → Int32 → zHp → Nat → Prop, P = (fun sum far least most good bad last i j h nx' => sum = (s_ac r (k + 1)).1 ∧ far = s_if (s_ac r (k + 1)).2.1 1 0 ∧ least = (s_ac r (k + 1)).2.2.1 ∧ most = (s_ac r (k + 1)).2.2.2.1 ∧ good = nI (s_ac r (k + 1)).2.2.2.2.1 ∧ bad = nI (s_ac r (k + 1)).2.2.2.2.2 ∧ last = nI my ∧ i = nI ii ∧ j = nI jj ∧ h = tput g m0 τ4 hp ∧ nx = nx') := ⟨_, rfl⟩
        refine ⟨P, ?_, fun he => ?_, fun he => ?_⟩
        · intro a b c e f' h' q' i' j' hh n' hh'
          rw [hP] at hh'
          obtain ⟨rfl, rfl, rfl, rfl, rfl, rfl, rfl, rfl, rfl, rfl, rfl⟩ := hh'
          refine ⟨_, ?_, jj + 1, τ4, by omega, rfl, nI_1 jj, rfl, rfl, rfl, rfl, hf3.tr f4, q26, ?_⟩
          · omega
          · rw [ek, Nat.add_assoc]
            exact ⟨rfl, rfl, rfl, rfl, rfl, rfl⟩
        · have hv := hbv he
          have ea : s_ac r (k + 1) = (FP.dadd (s_ac r k).1 (r k).1, ((s_ac r k).2.1 ∨ s_far (FP.dadd (s_ac r k).1 (r k).1)), s_if ((s_ac r k).2.2.2.2.1 = 0 ∨ s_lt (r k).1 (s_ac r k).2.2.1) (r k).1 (s_ac r k).2.2.1, s_if ((s_ac r k).2.2.2.2.1 = 0 ∨ s_gt (r k).1 (s_ac r k).2.2.2.1) (r k).1 (s_ac r k).2.2.2.1, (s_ac r k).2.2.2.2.1 + 1, (s_ac r k).2.2.2.2.2) := by
            simp only [s_ac, he, ne_eq, not_true_eq_false, if_false]
          have gG : (nI (s_ac r k).2.2.2.2.1 = 0) = ((s_ac r k).2.2.2.2.1 = 0) := propext ⟨fun h => Classical.byContradiction (fun q => nI_ne0 (n := (s_ac r k).2.2.2.2.1) (by omega) (by omega) h), fun h => by rw [h]; rfl⟩
          simp only [tg_caseValue, tp_caseValue, v30, true_implies, false_implies, implies_true, and_true, true_and, forall_eq]
          refine ⟨fb_add B1.f hv.f, ?_⟩
          obtain ⟨far, efar⟩ : ∃ far : Int32, far = s_if (s_ac r k).2.1 1 0 := ⟨_, rfl⟩
          rw [← efar]
          refine ⟨fun a b c e f' h' q' i' j' w1 w2 hh n' => a = FP.dadd (s_ac r k).1 (r k).1 ∧ b = far ∧ c = (s_ac r k).2.2.1 ∧ e = (s_ac r k).2.2.2.1 ∧ f' = nI (s_ac r k).2.2.2.2.1 ∧ h' = nI (s_ac r k).2.2.2.2.2 ∧ q' = nI my ∧ i' = nI ii ∧ j' = nI jj ∧ w1 = far ∧ w2 = s_if (s_far (FP.dadd (s_ac r k).1 (r k).1)) 1 0 ∧ hh = tput g m0 τ4 hp ∧ nx = n', ?_, ?_⟩
          · rintro _ _ _ _ _ _ _ _ _ _ _ _ _ ⟨rfl, e2', rfl, rfl, rfl, rfl, rfl, rfl, rfl, rfl, rfl, rfl, rfl⟩
            try simp only [true_implies, false_implies, implies_true, and_true, true_and, forall_eq]
            rw [efar, s_or01]
            refine ⟨fun a b c e f' h' q' i' j' w hh n' => a = FP.dadd (s_ac r k).1 (r k).1 ∧ b = s_if ((s_ac r k).2.1 ∨ s_far (FP.dadd (s_ac r k).1 (r k).1)) 1 0 ∧ e = (s_ac r k).2.2.2.1 ∧ f' = nI (s_ac r k).2.2.2.2.1 ∧ h' = nI (s_ac r k).2.2.2.2.2 ∧ q' = nI my ∧ i' = nI ii ∧ j' = nI jj ∧ w = s_if ((s_ac r k).2.2.2.2.1 = 0 ∨ s_lt (r k).1 (s_ac r k).2.2.1) (r k).1 (s_ac r k).2.2.1 ∧ hh = tput g m0 τ4 hp ∧ nx = n', ?_, ?_⟩
            · rintro _ _ _ _ _ _ _ _ _ _ _ _ ⟨rfl, rfl, rfl, rfl, rfl, rfl, rfl, rfl, rfl, rfl, rfl⟩
              refine ⟨fun a b c e f' h' q' i' j' w hh n' => a = FP.dadd (s_ac r k).1 (r k).1 ∧ b = s_if ((s_ac r k).2.1 ∨ s_far (FP.dadd (s_ac r k).1 (r k).1)) 1 0 ∧ c = s_if ((s_ac r k).2.2.2.2.1 = 0 ∨ s_lt (r k).1 (s_ac r k).2.2.1) (r k).1 (s_ac r k).2.2.1 ∧ f' = nI (s_ac r k).2.2.2.2.1 ∧ h' = nI (s_ac r k).2.2.2.2.2 ∧ q' = nI my ∧ i' = nI ii ∧ j' = nI jj ∧ w = s_if ((s_ac r k).2.2.2.2.1 = 0 ∨ s_gt (r k).1 (s_ac r k).2.2.2.1) (r k).1 (s_ac r k).2.2.2.1 ∧ hh = tput g m0 τ4 hp ∧ nx = n', ?_, ?_⟩
              · rintro _ _ _ _ _ _ _ _ _ _ _ _ ⟨rfl, rfl, rfl, rfl, rfl, rfl, rfl, rfl, rfl, rfl, rfl⟩
                try simp only [true_implies, false_implies, implies_true, and_true, true_and, forall_eq]
                rw [hP, ea]
                exact ⟨rfl, rfl, rfl, rfl, nI_1 _, rfl, rfl, rfl, rfl, rfl, rfl⟩
              · refine ⟨_, fun _ _ _ _ _ _ _ _ _ _ _ h => h, ?_⟩
                simp only [tg_caseValue, tp_caseValue, v30, gG, true_implies, false_implies, implies_true, and_true, true_and, forall_eq]
                exact ⟨fun h => (s_if_p (Or.inl h)).symm, fun h => ⟨fun q => (s_if_n (fun z => z.elim h (fc_lle.mp q))).symm, fun q => (s_if_p (Or.inr (Classical.not_not.mp (fun z => q (fc_lle.mpr z))))).symm⟩⟩
            · refine ⟨_, fun _ _ _ _ _ _ _ _ _ _ _ h => h, ?_⟩
              simp only [tg_caseValue, tp_caseValue, v30, gG, true_implies, false_implies, implies_true, and_true, true_and, forall_eq]
              exact ⟨fun h => (s_if_p (Or.inl h)).symm, fun h => ⟨fun q => (s_if_n (fun z => z.elim h (fc_gle.mp q))).symm, fun q => (s_if_p (Or.inr (Classical.not_not.mp (fun z => q (fc_gle.mpr z))))).symm⟩⟩
          · refine ⟨_, fun _ _ _ _ _ _ _ _ _ _ _ _ h => h, ?_⟩
            refine ⟨fun q => ⟨rfl, rfl, rfl, rfl, rfl, rfl, rfl, rfl, rfl, rfl, (s_if_p (Or.inl (fc_llt.mp q))).symm, rfl, rfl⟩, fun q => ⟨fun q2 => ⟨rfl, rfl, rfl, rfl, rfl, rfl, rfl, rfl, rfl, rfl, (s_if_n (fun z => z.elim (fun z => q (fc_llt.mpr z)) (fc_gle.mp q2))).symm, rfl, rfl⟩, fun q2 => ⟨rfl, rfl, rfl, rfl, rfl, rfl, rfl, rfl, rfl, rfl, (s_if_p (Or.inr (Classical.not_not.mp (fun z => q2 (fc_gle.mpr z))))).symm, rfl, rfl⟩⟩⟩
        · have ea : s_ac r (k + 1) = ((s_ac r k).1, (s_ac r k).2.1, (s_ac r k).2.2.1, (s_ac r k).2.2.2.1, (s_ac r k).2.2.2.2.1, (s_ac r k).2.2.2.2.2 + 1) := by
            simp only [s_ac, he, ne_eq, not_false_eq_true, if_true]
          try simp only [true_implies, false_implies, implies_true, and_true, true_and, forall_eq]
          rw [hP, ea]
          exact ⟨rfl, rfl, rfl, rfl, rfl, nI_1 _, rfl, rfl, rfl, rfl, rfl⟩
end T5
