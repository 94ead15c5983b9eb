set_option maxRecDepth 100000
/-! NUMBERS: what is kept: bounded, kept again the same, alike ones have the same bits -/
section FK
theorem fk_norm {f : FP.Core.Fmt} (hp : 1 ≤ f.p) {A : Nat} {e : Int} (hA : A ≠ 0) (hl : A < 2 ^ f.p) (h1 : f.qmin ≤ e) (h2 : e ≤ f.qmax) : ∃ c q, fx_fit f c q ∧ q ≤ e ∧ c = A * 2 ^ (e - q).toNat := by
  have hlog : A.log2 < f.p := (Nat.log2_lt hA).mpr hl
  have a1 : A < 2 ^ (A.log2 + 1) := (Nat.log2_lt hA).mp (Nat.lt_succ_self _)
  have a2 : 2 ^ A.log2 ≤ A := (Nat.le_log2 hA).mp (Nat.le_refl _)
  by_cases h : f.p - 1 - A.log2 ≤ (e - f.qmin).toNat
  · generalize hj : f.p - 1 - A.log2 = j at h
    refine ⟨A * 2 ^ j, e - (j : Int), ⟨?_, by omega, by omega, Or.inr ?_⟩, by omega, ?_⟩
    · have h4 := Nat.mul_lt_mul_of_pos_right a1 (Nat.two_pow_pos j)
      rw [← Nat.pow_add, show A.log2 + 1 + j = f.p by omega] at h4
      exact h4
    · have h4 := Nat.mul_le_mul_right (2 ^ j) a2
      rw [← Nat.pow_add, show A.log2 + j = f.p - 1 by omega] at h4
      exact h4
    · rw [show (e - (e - (j : Int))).toNat = j by omega]
  · refine ⟨A * 2 ^ (e - f.qmin).toNat, f.qmin, ⟨?_, Int.le_refl _, by omega, Or.inl rfl⟩, h1, rfl⟩
    have h4 := Nat.mul_lt_mul_of_pos_right a1 (Nat.two_pow_pos (e - f.qmin).toNat)
    rw [← Nat.pow_add] at h4
    exact Nat.lt_of_lt_of_le h4 (Nat.pow_le_pow_right (by decide) (by omega))
/-- rounding keeps what is at most 2^M so -/
theorem fk_le {f : FP.Core.Fmt} {M : Nat} (hq1 : f.qmin ≤ 0) (hq2 : (M : Int) + 1 ≤ f.qmax) (hp : 1 ≤ f.p) {s : Bool} {A B : Nat} {e : Int} {N : Nat} (hB : 0 < B) (hN : 0 ≤ e + N) (hN2 : 0 ≤ f.qmin + N) (h : A * 2 ^ (e + N).toNat ≤ B * 2 ^ (M + N)) : ∃ c q, FP.Core.roundRatio f s A B e = .fin s c q ∧ c < 2 ^ f.p ∧ f.qmin ≤ q ∧ q ≤ f.qmax ∧ c * 2 ^ (q - f.qmin).toNat ≤ 2 ^ (M - f.qmin).toNat := by
  unfold FP.Core.roundRatio
  by_cases hA : A = 0
  · rw [if_pos hA]
    exact ⟨0, f.qmin, rfl, Nat.two_pow_pos _, Int.le_refl _, by omega, by rw [Nat.zero_mul]; exact Nat.zero_le _⟩
  · rw [if_neg hA]
    have l1 : 2 ^ A.log2 ≤ A := (Nat.le_log2 hA).mp (Nat.le_refl _)
    have l2 : B < 2 ^ (B.log2 + 1) := (Nat.log2_lt (by omega)).mp (Nat.lt_succ_self _)
    have l3 : A.log2 + (e + N).toNat < B.log2 + 1 + (M + N) := by
      refine (Nat.pow_lt_pow_iff_right (a := 2) (by decide)).mp ?_
      rw [Nat.pow_add, Nat.pow_add 2 (B.log2 + 1)]
      exact Nat.lt_of_le_of_lt (Nat.le_trans (Nat.mul_le_mul_right _ l1) h) (Nat.mul_lt_mul_of_pos_right l2 (Nat.two_pow_pos _))
    have l4 : FP.Core.leading A B ≤ (A.log2 : Int) - (B.log2 : Int) := by
      unfold FP.Core.leading
      simp only
      split <;> omega
    have q1 : f.qmin ≤ FP.Core.quantum f A B e := by unfold FP.Core.quantum; exact Int.le_max_left ..
    have q2 : FP.Core.quantum f A B e ≤ M := by
      unfold FP.Core.quantum
      rw [Int.max_def]
      split <;> omega
    generalize FP.Core.quantum f A B e = q at q1 q2 ⊢
    have hn : FP.Core.nearest (FP.Core.unitsNum A e q) (FP.Core.unitsDen B e q) ≤ 2 ^ (M - q).toNat := by
      apply fx_near_le (Nat.mul_pos hB (Nat.two_pow_pos _))
      show A * 2 ^ (e - q).toNat ≤ 2 ^ ((M : Int) - q).toNat * (B * 2 ^ (q - e).toNat)
      by_cases he : q ≤ e
      · rw [show (q - e).toNat = 0 by omega, Nat.pow_zero, Nat.mul_one]
        refine Nat.le_of_mul_le_mul_right (c := 2 ^ (q + N).toNat) ?_ (Nat.two_pow_pos _)
        rw [Nat.mul_assoc, ← Nat.pow_add, show (e - q).toNat + (q + N).toNat = (e + N).toNat by omega, Nat.mul_comm (2 ^ (M - q).toNat) B, Nat.mul_assoc, ← Nat.pow_add, show (M - q).toNat + (q + N).toNat = M + N by omega]
        exact h
      · rw [show (e - q).toNat = 0 by omega, Nat.pow_zero, Nat.mul_one]
        refine Nat.le_of_mul_le_mul_right (c := 2 ^ (e + N).toNat) ?_ (Nat.two_pow_pos _)
        rw [Nat.mul_comm (2 ^ (M - q).toNat), Nat.mul_assoc, Nat.mul_assoc, ← Nat.pow_add, ← Nat.pow_add, show (q - e).toNat + ((M - q).toNat + (e + N).toNat) = M + N by omega]
        exact h
    unfold FP.Core.roundAt FP.Core.settle FP.Core.bound
    generalize FP.Core.nearest (FP.Core.unitsNum A e q) (FP.Core.unitsDen B e q) = c at hn ⊢
    by_cases hc : c < 2 ^ f.p
    · rw [if_pos hc, if_pos (by omega)]
      refine ⟨c, q, rfl, hc, q1, by omega, ?_⟩
      have := Nat.mul_le_mul_right (2 ^ (q - f.qmin).toNat) hn
      rw [← Nat.pow_add, show (M - q).toNat + (q - f.qmin).toNat = (M - f.qmin).toNat by omega] at this
      exact this
    · have hpq : f.p ≤ (M - q).toNat := (Nat.pow_le_pow_iff_right (a := 2) (by decide)).mp (Nat.le_trans (Nat.le_of_not_lt hc) hn)
      rw [if_neg hc, if_pos (by omega)]
      refine ⟨f.tails, q + 1, rfl, ?_, by omega, by omega, ?_⟩
      · exact Nat.pow_lt_pow_right (by decide) (by omega)
      · unfold FP.Core.Fmt.tails
        rw [← Nat.pow_add]
        exact Nat.pow_le_pow_right (by decide) (by omega)
theorem fk_v {s : Bool} {c : Nat} {q : Int} (hf : fx_fit FP.Core.b64 c q) : fv (UInt64.ofNat (FP.Core.encode FP.Core.b64 (.fin s c q))) = .fin s c q := by
  unfold fv
  have h := fx_el fx_g64 (s := s) hf
  rw [fq_e64, fq_t64] at h
  rw [UInt64.toNat_ofNat', Nat.mod_eq_of_lt (by omega)]
  exact fx_de fx_g64 hf
theorem fk_w {s : Bool} {c : Nat} {q : Int} (hf : fx_fit FP.Core.b32 c q) : fw (UInt32.ofNat (FP.Core.encode FP.Core.b32 (.fin s c q))) = .fin s c q := by
  unfold fw
  have h := fx_el fx_g32 (s := s) hf
  rw [fq_e32, fq_t32] at h
  rw [UInt32.toNat_ofNat', Nat.mod_eq_of_lt (by omega)]
  exact fx_de fx_g32 hf
theorem fk_64 {v : UInt64} {s : Bool} {c : Nat} {q : Int} (h : fv v = .fin s c q) : UInt64.ofNat (FP.Core.encode FP.Core.b64 (.fin s c q)) = v := by
  rw [fx_ed fx_g64 (n := v.toNat) (by rw [fq_e64, fq_t64]; have := v.toNat_lt; omega) h]
  exact UInt64.ofNat_toNat
theorem fk_32 {v : UInt32} {s : Bool} {c : Nat} {q : Int} (h : fw v = .fin s c q) : UInt32.ofNat (FP.Core.encode FP.Core.b32 (.fin s c q)) = v := by
  rw [fx_ed fx_g32 (n := v.toNat) (by rw [fq_e32, fq_t32]; have := v.toNat_lt; omega) h]
  exact UInt32.ofNat_toNat
/-- at most 2^M -/
def s_Bn (M : Nat) (v : UInt64) : Prop := ∃ s c q, fv v = .fin s c q ∧ c * 2 ^ (q + 1074).toNat ≤ 2 ^ (1074 + M)
theorem s_Bn.f {M : Nat} {v : UInt64} (h : s_Bn M v) : s_F v := by obtain ⟨s, c, q, h, -⟩ := h; exact ⟨s, c, q, h⟩
theorem s_Bn.w {M M' : Nat} {v : UInt64} (h : s_Bn M v) (hM : M ≤ M') : s_Bn M' v := by
  obtain ⟨s, c, q, h, h2⟩ := h
  exact ⟨s, c, q, h, Nat.le_trans h2 (Nat.pow_le_pow_right (by decide) (by omega))⟩
theorem s_Bn40 {v : UInt64} : s_Bn 40 v ↔ s_B v := Iff.rfl
theorem fk_B {M : Nat} {s : Bool} {c : Nat} {q : Int} (hc : c < 2 ^ 53) (h1 : -1074 ≤ q) (h2 : q ≤ 971) (h : c * 2 ^ (q + 1074).toNat ≤ 2 ^ (1074 + M)) : s_Bn M (UInt64.ofNat (FP.Core.encode FP.Core.b64 (.fin s c q))) := by
  by_cases ht : c < FP.Core.b64.tails
  · have e : FP.Core.encode FP.Core.b64 (.fin s c q) = FP.Core.encode FP.Core.b64 (.fin s c (-1074)) := by
      unfold FP.Core.encode
      simp only [if_pos ht]
    rw [e]
    refine ⟨s, c, -1074, fk_v ⟨hc, by rw [fq_n64]; omega, by rw [fq_x64]; omega, Or.inl (by rw [fq_n64])⟩, ?_⟩
    refine Nat.le_trans (Nat.mul_le_mul_left c (Nat.pow_le_pow_right (by decide) ?_)) h
    omega
  · exact ⟨s, c, q, fk_v ⟨hc, by rw [fq_n64]; omega, by rw [fq_x64]; omega, Or.inr (by omega)⟩, h⟩
theorem fk_C {s : Bool} {c : Nat} {q : Int} (hc : c < 2 ^ 24) (h1 : -149 ≤ q) (h2 : q ≤ 104) (h : c * 2 ^ (q + 149).toNat ≤ 2 ^ 189) : s_C (UInt32.ofNat (FP.Core.encode FP.Core.b32 (.fin s c q))) := by
  by_cases ht : c < FP.Core.b32.tails
  · have e : FP.Core.encode FP.Core.b32 (.fin s c q) = FP.Core.encode FP.Core.b32 (.fin s c (-149)) := by
      unfold FP.Core.encode
      simp only [if_pos ht]
    rw [e]
    refine ⟨s, c, -149, fk_w ⟨hc, by rw [fq_n32]; omega, by rw [fq_x32]; omega, Or.inl (by rw [fq_n32])⟩, ?_⟩
    refine Nat.le_trans (Nat.mul_le_mul_left c (Nat.pow_le_pow_right (by decide) ?_)) h
    omega
  · exact ⟨s, c, q, fk_w ⟨hc, by rw [fq_n32]; omega, by rw [fq_x32]; omega, Or.inr (by omega)⟩, h⟩
theorem fk_rrn {M : Nat} (hM : M ≤ 900) {s : Bool} {A B : Nat} {e : Int} {N : Nat} (hB : 0 < B) (hN : 0 ≤ e + N) (hN2 : 1074 ≤ N) (h : A * 2 ^ (e + N).toNat ≤ B * 2 ^ (M + N)) : s_Bn M (UInt64.ofNat (FP.Core.encode FP.Core.b64 (FP.Core.roundRatio FP.Core.b64 s A B e))) := by
  obtain ⟨c, q, e1, e2, e3, e4, e5⟩ := fk_le (f := FP.Core.b64) (s := s) (by rw [fq_n64]; decide) (by rw [fq_x64]; omega) (by decide) hB hN (by rw [fq_n64]; omega) h
  rw [e1]
  rw [fq_n64] at e3 e5
  rw [fq_x64] at e4
  refine fk_B e2 e3 e4 ?_
  rw [show q - -1074 = q + 1074 by omega, show ((M : Int) - -1074).toNat = 1074 + M by omega] at e5
  exact e5
theorem fk_rr {s : Bool} {A B : Nat} {e : Int} {N : Nat} (hB : 0 < B) (hN : 0 ≤ e + N) (hN2 : 1074 ≤ N) (h : A * 2 ^ (e + N).toNat ≤ B * 2 ^ (40 + N)) : s_B (UInt64.ofNat (FP.Core.encode FP.Core.b64 (FP.Core.roundRatio FP.Core.b64 s A B e))) := fk_rrn (M := 40) (by decide) hB hN hN2 h
theorem fk_rr32 {s : Bool} {A B : Nat} {e : Int} {N : Nat} (hB : 0 < B) (hN : 0 ≤ e + N) (hN2 : 149 ≤ N) (h : A * 2 ^ (e + N).toNat ≤ B * 2 ^ (40 + N)) : s_C (UInt32.ofNat (FP.Core.encode FP.Core.b32 (FP.Core.roundRatio FP.Core.b32 s A B e))) := by
  obtain ⟨c, q, e1, e2, e3, e4, e5⟩ := fk_le (f := FP.Core.b32) (M := 40) (s := s) (by rw [fq_n32]; decide) (by rw [fq_x32]; decide) (by decide) hB hN (by rw [fq_n32]; omega) h
  rw [e1]
  rw [fq_n32] at e3 e5
  rw [fq_x32] at e4
  refine fk_C e2 e3 e4 ?_
  rw [show q - -149 = q + 149 by omega] at e5
  exact e5
theorem fk_nan {v : UInt64} (h : s_F v) : FP.Core.dIsNaN v = false := by
  obtain ⟨s, c, q, h⟩ := h
  unfold FP.Core.dIsNaN FP.Core.isNaN
  unfold fv at h
  rw [h]
  exact decide_eq_false (fun e => by cases e)
theorem fk_nan32 {v : UInt32} {s : Bool} {c : Nat} {q : Int} (h : fw v = .fin s c q) : FP.Core.fIsNaN v = false := by
  unfold FP.Core.fIsNaN FP.Core.isNaN
  unfold fw at h
  rw [h]
  exact decide_eq_false (fun e => by cases e)
theorem fk_d2fe {v : UInt64} {s : Bool} {c : Nat} {q : Int} (h : fv v = .fin s c q) : FP.d2f v = UInt32.ofNat (FP.Core.encode FP.Core.b32 (FP.Core.roundRatio FP.Core.b32 s c 1 q)) := by
  unfold FP.d2f
  rw [fk_nan ⟨s, c, q, h⟩]
  unfold fv at h
  show UInt32.ofNat (FP.Core.encode FP.Core.b32 (FP.Core.round FP.Core.b32 (FP.Core.decode FP.Core.b64 v.toNat))) = _
  rw [h]
  rfl
theorem fk_f2de {v : UInt32} {s : Bool} {c : Nat} {q : Int} (h : fw v = .fin s c q) : FP.f2d v = UInt64.ofNat (FP.Core.encode FP.Core.b64 (FP.Core.roundRatio FP.Core.b64 s c 1 q)) := by
  unfold FP.f2d
  rw [fk_nan32 h]
  unfold fw at h
  show UInt64.ofNat (FP.Core.encode FP.Core.b64 (FP.Core.round FP.Core.b64 (FP.Core.decode FP.Core.b32 v.toNat))) = _
  rw [h]
  rfl
theorem fb_d2f {v : UInt64} (h : s_B v) : s_C (FP.d2f v) := by
  obtain ⟨s, c, q, h, hb⟩ := h
  have hf := fq_fit h
  obtain ⟨f1, f2, f3, f4⟩ := hf
  rw [fq_n64] at f2
  rw [fk_d2fe h]
  refine fk_rr32 (N := 1074) (by decide) (by omega) (by decide) ?_
  rw [Nat.one_mul, show ((q + (1074 : Nat)) : Int).toNat = (q + 1074).toNat by omega]
  exact hb
theorem fb_f2d {a : UInt32} (h : s_C a) : s_B (FP.f2d a) := by
  obtain ⟨s, c, q, h, hb⟩ := h
  have hf := fq_fit32 h
  obtain ⟨f1, f2, f3, f4⟩ := hf
  rw [fq_n32] at f2
  rw [fk_f2de h]
  refine fk_rr (N := 1074) (by decide) (by omega) (by decide) ?_
  have hk := Nat.mul_le_mul_right (2 ^ 925) hb
  rw [Nat.mul_assoc, ← Nat.pow_add, ← Nat.pow_add] at hk
  rw [Nat.one_mul, show ((q + (1074 : Nat)) : Int).toNat = (q + 149).toNat + 925 by omega]
  exact hk
theorem fb_nn {v : UInt64} (h : s_B v) : vf_n64 v := fb_Fn h.f
theorem fb_nn32 {v : UInt32} (h : s_C v) : vf_n32 v := by obtain ⟨s, c, q, h, -⟩ := h; exact fb_Fn32 ⟨s, c, q, h⟩
theorem fk_360 : FP.Core.decode FP.Core.b32 (1135869952 : UInt32).toNat = .fin false 11796480 (-15) := by decide +kernel
theorem fk_frem {a : UInt32} {s : Bool} {c : Nat} {q : Int} (h : fw a = .fin s c q) : ∃ R m, FP.frem a 1135869952 = UInt32.ofNat (FP.Core.encode FP.Core.b32 (FP.Core.roundRatio FP.Core.b32 s R 1 m)) ∧ R < 2 ^ 24 ∧ -149 ≤ m ∧ m ≤ -15 ∧ m ≤ q ∧ R = (c * 2 ^ (q - m).toNat) % (11796480 * 2 ^ (-15 - m).toNat) := by
  have hf := fq_fit32 h
  obtain ⟨f1, f2, f3, f4⟩ := hf
  rw [fq_n32] at f2
  unfold fw at h
  refine ⟨FP.Core.inUnits c q (min q (-15)) % FP.Core.inUnits 11796480 (-15) (min q (-15)), min q (-15), ?_, ?_, by omega, by omega, by omega, rfl⟩
  · show UInt32.ofNat (FP.Core.encode FP.Core.b32 (FP.Core.round FP.Core.b32 (FP.Core.exactRemainder (FP.Core.decode FP.Core.b32 a.toNat) (FP.Core.decode FP.Core.b32 (1135869952 : UInt32).toNat)))) = _
    rw [h, fk_360]
    rfl
  · unfold FP.Core.inUnits
    by_cases hq : q ≤ -15
    · rw [show min q (-15) = q by omega, show (q - q).toNat = 0 by omega, Nat.pow_zero, Nat.mul_one]
      exact Nat.lt_of_le_of_lt (Nat.mod_le _ _) f1
    · rw [show min q (-15) = -15 by omega, show ((-15 : Int) - -15).toNat = 0 by omega, Nat.pow_zero, Nat.mul_one]
      exact Nat.lt_of_lt_of_le (Nat.mod_lt _ (by decide)) (by decide)
/-- the rest by 360: a number below 360 -/
theorem fk_frem2 {a : UInt32} {s : Bool} {c : Nat} {q : Int} (h : fw a = .fin s c q) : ∃ c' q', fw (FP.frem a 1135869952) = .fin s c' q' ∧ fx_fit FP.Core.b32 c' q' ∧ q' ≤ -15 ∧ c' < 11796480 * 2 ^ (-15 - q').toNat := by
  obtain ⟨R, m, e1, e2, e3, e4, e5, e6⟩ := fk_frem h
  have hR : R < 11796480 * 2 ^ (-15 - m).toNat := by rw [e6]; exact Nat.mod_lt _ (Nat.mul_pos (by decide) (Nat.two_pow_pos _))
  rw [e1]
  by_cases hz : R = 0
  · refine ⟨0, -149, ?_, ⟨by decide, by rw [fq_n32]; omega, by rw [fq_x32]; omega, Or.inl (by rw [fq_n32])⟩, by decide, Nat.mul_pos (by decide) (Nat.two_pow_pos _)⟩
    subst hz
    unfold FP.Core.roundRatio
    rw [if_pos rfl, fq_n32]
    exact fk_w ⟨by decide, by rw [fq_n32]; omega, by rw [fq_x32]; omega, Or.inl (by rw [fq_n32])⟩
  · obtain ⟨c', q', g1, g2, g3⟩ := fk_norm (f := FP.Core.b32) (by decide) hz e2 (by rw [fq_n32]; exact e3) (by rw [fq_x32]; omega)
    refine ⟨c', q', ?_, g1, by omega, ?_⟩
    · rw [fx_exact (by decide) hz g1 (Or.inr ⟨g2, g3⟩)]
      exact fk_w g1
    · rw [g3]
      have := Nat.mul_lt_mul_of_pos_right hR (Nat.two_pow_pos (m - q').toNat)
      rw [Nat.mul_assoc, ← Nat.pow_add, show (-15 - m).toNat + (m - q').toNat = (-15 - q').toNat by omega] at this
      exact this
theorem fb_frem {a : UInt32} (h : s_C a) : s_C (FP.frem a 1135869952) := by
  obtain ⟨s, c, q, h, -⟩ := h
  obtain ⟨c', q', h1, h2, h3, h4⟩ := fk_frem2 h
  have h2' := h2.2.1
  rw [fq_n32] at h2'
  refine ⟨s, c', q', h1, ?_⟩
  have := Nat.mul_le_mul_right (2 ^ (q' + 149).toNat) (Nat.le_of_lt h4)
  rw [Nat.mul_assoc, ← Nat.pow_add, show (-15 - q').toNat + (q' + 149).toNat = 134 by omega] at this
  exact Nat.le_trans this (by decide +kernel)
/-- the rest of the rest -/
theorem fk_frem3 {a : UInt32} {s : Bool} {c : Nat} {q : Int} (h : fw a = .fin s c q) (h2 : q ≤ -15) (h3 : c < 11796480 * 2 ^ (-15 - q).toNat) (hc : c ≠ 0) : FP.frem a 1135869952 = a := by
  have hf := fq_fit32 h
  obtain ⟨R, m, e1, e2, e3, e4, e5, e6⟩ := fk_frem h
  have hR : R = c * 2 ^ (q - m).toNat := by
    rw [e6]
    refine Nat.mod_eq_of_lt ?_
    have := Nat.mul_lt_mul_of_pos_right h3 (Nat.two_pow_pos (q - m).toNat)
    rw [Nat.mul_assoc, ← Nat.pow_add, show (-15 - q).toNat + (q - m).toNat = (-15 - m).toNat by omega] at this
    exact this
  have hz : R ≠ 0 := by rw [hR]; exact Nat.mul_ne_zero hc (by have := Nat.two_pow_pos (q - m).toNat; omega)
  rw [e1, fx_exact (by decide) hz hf (Or.inl ⟨e5, hR⟩)]
  exact fk_32 h
/-- a float as a double, as a float again -/
theorem fk_fdf {a : UInt32} {s : Bool} {c : Nat} {q : Int} (h : fw a = .fin s c q) (hc : c ≠ 0) : FP.d2f (FP.f2d a) = a ∧ ∃ c' q', fv (FP.f2d a) = .fin s c' q' ∧ c' ≠ 0 := by
  have hf := fq_fit32 h
  obtain ⟨f1, f2, f3, f4⟩ := hf
  rw [fq_n32] at f2
  rw [fq_x32] at f3
  obtain ⟨c', q', g1, g2, g3⟩ := fk_norm (f := FP.Core.b64) (A := c) (e := q) (by decide) hc (Nat.lt_trans f1 (by decide)) (by rw [fq_n64]; omega) (by rw [fq_x64]; omega)
  have hc' : c' ≠ 0 := by rw [g3]; exact Nat.mul_ne_zero hc (by have := Nat.two_pow_pos (q - q').toNat; omega)
  have hv : fv (FP.f2d a) = .fin s c' q' := by
    rw [fk_f2de h, fx_exact (by decide) hc g1 (Or.inr ⟨g2, g3⟩)]
    exact fk_v g1
  refine ⟨?_, c', q', hv, hc'⟩
  rw [fk_d2fe hv, fx_exact (by decide) hc' (fq_fit32 h) (Or.inl ⟨g2, g3⟩)]
  exact fk_32 h
theorem fk_tr {c : Nat} {q : Int} (h1 : -1074 ≤ q) (h : c * 2 ^ (q + 1074).toNat ≤ 2 ^ 1114) : c * 2 ^ q.toNat / 2 ^ (-q).toNat ≤ 2 ^ 40 := by
  by_cases hq : 0 ≤ q
  · rw [show (-q).toNat = 0 by omega, Nat.pow_zero, Nat.div_one]
    refine Nat.le_of_mul_le_mul_right (c := 2 ^ 1074) ?_ (Nat.two_pow_pos _)
    rw [Nat.mul_assoc, ← Nat.pow_add, ← Nat.pow_add, show q.toNat + 1074 = (q + 1074).toNat by omega]
    exact h
  · rw [show q.toNat = 0 by omega, Nat.pow_zero, Nat.mul_one]
    refine Nat.div_le_of_le_mul ?_
    refine Nat.le_of_mul_le_mul_right (c := 2 ^ (q + 1074).toNat) ?_ (Nat.two_pow_pos _)
    rw [← Nat.pow_add, ← Nat.pow_add, show (-q).toNat + 40 + (q + 1074).toNat = 1114 by omega]
    exact h
theorem fk_d2l {v : UInt64} (h : s_B v) : ∃ n : Int, FP.d2l v = Int64.ofInt n ∧ n.natAbs ≤ 2 ^ 40 := by
  obtain ⟨s, c, q, h, hb⟩ := h
  have hf := (fq_fit h).2.1
  rw [fq_n64] at hf
  have ht := fk_tr hf hb
  unfold fv at h
  refine ⟨_, show FP.Core.toL (FP.Core.decode FP.Core.b64 v.toNat) = _ by rw [h]; rfl, ?_⟩
  simp only [FP.Core.toInt, FP.Core.truncate, FP.Core.signed]
  generalize c * 2 ^ q.toNat / 2 ^ (-q).toNat = X at ht ⊢
  cases s <;> simp only [Bool.false_eq_true, if_false, if_true] <;> omega
theorem fk_ofI {n : Int} (hn : n.natAbs ≤ 2 ^ 40) (hz : n ≠ 0) : ∃ c q, fv (UInt64.ofNat (FP.Core.fromInt FP.Core.b64 n)) = .fin (decide (n < 0)) c q ∧ q ≤ 0 ∧ -1074 ≤ q ∧ c = n.natAbs * 2 ^ (0 - q).toNat ∧ c ≠ 0 := by
  have ha : n.natAbs ≠ 0 := by omega
  obtain ⟨c, q, g1, g2, g3⟩ := fk_norm (f := FP.Core.b64) (A := n.natAbs) (e := 0) (by decide) ha (Nat.lt_of_le_of_lt hn (by decide)) (by rw [fq_n64]; decide) (by rw [fq_x64]; decide)
  refine ⟨c, q, ?_, g2, by have := g1.2.1; rw [fq_n64] at this; exact this, g3, ?_⟩
  · unfold FP.Core.fromInt FP.Core.ofInt FP.Core.round
    simp only
    rw [fx_exact (by decide) ha g1 (Or.inr ⟨g2, g3⟩)]
    exact fk_v g1
  · rw [g3]
    exact Nat.mul_ne_zero ha (by have := Nat.two_pow_pos (0 - q).toNat; omega)
theorem fk_dld {n : Int} (hn : n.natAbs ≤ 2 ^ 40) (hz : n ≠ 0) : FP.d2l (UInt64.ofNat (FP.Core.fromInt FP.Core.b64 n)) = Int64.ofInt n := by
  obtain ⟨c, q, h, h1, h2, h3, h4⟩ := fk_ofI hn hz
  unfold fv at h
  show FP.Core.toL (FP.Core.decode FP.Core.b64 _) = _
  rw [h]
  unfold FP.Core.toL
  congr 1
  simp only [FP.Core.toInt, FP.Core.truncate, FP.Core.signed]
  have hx : c * 2 ^ q.toNat / 2 ^ (-q).toNat = n.natAbs := by
    rw [show q.toNat = 0 by omega, Nat.pow_zero, Nat.mul_one, h3, show (0 - q).toNat = (-q).toNat by omega]
    exact Nat.mul_div_cancel _ (Nat.two_pow_pos _)
  rw [hx]
  by_cases hl : n < 0
  · simp only [decide_eq_true hl, if_true]; omega
  · simp only [decide_eq_false hl, Bool.false_eq_true, if_false]; omega
theorem fk_fI {n : Int} (hn : n.natAbs ≤ 2 ^ 40) : s_B (UInt64.ofNat (FP.Core.fromInt FP.Core.b64 n)) := by
  unfold FP.Core.fromInt FP.Core.ofInt FP.Core.round
  simp only
  refine fk_rr (N := 1074) (by decide) (by decide) (by decide) ?_
  rw [Nat.one_mul, show ((0 : Int) + ((1074 : Nat) : Int)).toNat = 1074 by decide, Nat.pow_add]
  exact Nat.mul_le_mul_right _ hn
theorem fk_i64 {n : Int} (hn : n.natAbs ≤ 2 ^ 40) : (Int64.ofInt n).toInt = n := Int64.toInt_ofInt_of_le (by omega) (by omega)
theorem fb_i2d {x : Int32} : s_B (FP.i2d x) := by
  refine fk_fI (n := x.toInt) ?_
  have h1 := x.toInt_lt
  have h2 := x.le_toInt
  omega
theorem fk_z {w : UInt64} (h : s_eq w 0) : s_pl w = 0 := s_if_p h
theorem fk_nzp {w : UInt64} (h : ¬ s_eq w 0) : s_pl w = w := s_if_n h
theorem fk_B0 : s_B 0 := ⟨false, 0, -1074, fq_v0, by rw [Nat.zero_mul]; exact Nat.zero_le _⟩
theorem fk_pl {w : UInt64} (h : s_B w) : s_B (s_pl w) := by
  by_cases hz : s_eq w 0
  · rw [fk_z hz]; exact fk_B0
  · rw [fk_nzp hz]; exact h
theorem fk_1000p : s_B 4652007308841189376 := ⟨false, 8796093022208000, -43, by unfold fv; decide +kernel, by decide +kernel⟩
theorem fk_1000n : s_B 13875379345695965184 := ⟨true, 8796093022208000, -43, by unfold fv; decide +kernel, by decide +kernel⟩
theorem fb_ft {k : Int32} {v : UInt64} (h : s_B v) : s_B (s_ft k v) := by
  unfold s_ft
  by_cases h1 : k = 1
  · rw [if_pos h1]
    obtain ⟨n, e1, e2⟩ := fk_d2l h
    rw [e1]
    show s_B (UInt64.ofNat (FP.Core.fromInt FP.Core.b64 (Int64.ofInt n).toInt))
    rw [fk_i64 e2]
    exact fk_fI e2
  · rw [if_neg h1]
    by_cases h2 : k = 2
    · rw [if_pos h2]; exact fb_f2d (fb_d2f h)
    · rw [if_neg h2]
      by_cases h3 : k = 3
      · rw [if_pos h3]; exact fb_i2d
      · rw [if_neg h3]
        by_cases h4 : k = 4
        · rw [if_pos h4]; exact fb_f2d (fb_frem (fb_d2f h))
        · rw [if_neg h4]
          by_cases h5 : k = 5
          · rw [if_pos h5]
            unfold s_if
            split
            · exact fk_1000n
            · split
              · exact fk_1000p
              · exact h
          · rw [if_neg h5]; exact h
theorem fb_kp {k : Int32} {v : UInt64} (h : s_B v) : s_B (s_kp k v) := fk_pl (fb_ft h)
theorem fk_ft0 {k : Int32} : s_pl (s_ft k 0) = 0 := by
  have e00 : s_eq (0 : UInt64) 0 := by unfold s_eq; decide +kernel
  have p0 : s_pl 0 = 0 := fk_z e00
  unfold s_ft
  by_cases h1 : k = 1
  · rw [if_pos h1, show FP.l2d (FP.d2l 0) = 0 by decide +kernel]; exact p0
  · rw [if_neg h1]
    by_cases h2 : k = 2
    · rw [if_pos h2, show FP.f2d (FP.d2f 0) = 0 by decide +kernel]; exact p0
    · rw [if_neg h2]
      by_cases h3 : k = 3
      · rw [if_pos h3, show FP.i2d ((FP.d2l 0).toInt32.toInt8.toInt32) = 0 by decide +kernel]; exact p0
      · rw [if_neg h3]
        by_cases h4 : k = 4
        · rw [if_pos h4, show FP.f2d (FP.frem (FP.d2f 0) 1135869952) = 0 by decide +kernel]; exact p0
        · rw [if_neg h4]
          by_cases h5 : k = 5
          · rw [if_pos h5, s_if_n (by unfold s_lt; decide +kernel), s_if_n (by unfold s_gt; decide +kernel)]; exact p0
          · rw [if_neg h5]; exact p0
theorem fk_w0 {a : UInt32} {s : Bool} {q : Int} (h : fw a = .fin s 0 q) : s_eq (FP.f2d a) 0 := by
  have e : FP.f2d a = UInt64.ofNat (FP.Core.encode FP.Core.b64 (.fin s 0 (-1074))) := by
    rw [fk_f2de h]
    unfold FP.Core.roundRatio
    rw [if_pos rfl, fq_n64]
  rw [e]
  exact (fq_nz (fk_v ⟨by decide, by rw [fq_n64]; omega, by rw [fq_x64]; omega, Or.inl (by rw [fq_n64])⟩)).mpr rfl
theorem fk_ftft {k : Int32} {v : UInt64} (h : s_B v) (hz : ¬ s_eq (s_ft k v) 0) : s_ft k (s_ft k v) = s_ft k v := by
  by_cases h1 : k = 1
  · subst h1
    have e : ∀ x, s_ft 1 x = FP.l2d (FP.d2l x) := fun x => by unfold s_ft; rw [if_pos rfl]
    rw [e] at hz ⊢
    rw [e]
    obtain ⟨n, e1, e2⟩ := fk_d2l h
    have e3 : FP.l2d (FP.d2l v) = UInt64.ofNat (FP.Core.fromInt FP.Core.b64 n) := by
      rw [e1]
      show UInt64.ofNat (FP.Core.fromInt FP.Core.b64 (Int64.ofInt n).toInt) = _
      rw [fk_i64 e2]
    rw [e3] at hz ⊢
    have hn : n ≠ 0 := by
      intro hn
      subst hn
      exact hz (by unfold s_eq; decide +kernel)
    rw [fk_dld e2 hn]
    show UInt64.ofNat (FP.Core.fromInt FP.Core.b64 (Int64.ofInt n).toInt) = _
    rw [fk_i64 e2]
  · by_cases h2 : k = 2
    · subst h2
      have e : ∀ x, s_ft 2 x = FP.f2d (FP.d2f x) := fun x => by unfold s_ft; rw [if_neg (by decide), if_pos rfl]
      rw [e] at hz ⊢
      rw [e]
      obtain ⟨s, c, q, hw, -⟩ := fb_d2f h
      have hc : c ≠ 0 := by intro hc; subst hc; exact hz (fk_w0 hw)
      rw [(fk_fdf hw hc).1]
    · by_cases h3 : k = 3
      · subst h3
        have e : ∀ x, s_ft 3 x = FP.i2d (((FP.d2l x).toInt32).toInt8.toInt32) := fun x => by unfold s_ft; rw [if_neg (by decide), if_neg (by decide), if_pos rfl]
        rw [e] at hz ⊢
        rw [e]
        generalize (FP.d2l v).toInt32.toInt8 = b at hz ⊢
        have hb1 := b.toInt_lt
        have hb2 := b.le_toInt
        have hn : b.toInt ≠ 0 := by
          intro hn
          refine hz ?_
          show s_eq (UInt64.ofNat (FP.Core.fromInt FP.Core.b64 b.toInt32.toInt)) 0
          rw [Int8.toInt_toInt32, hn]
          unfold s_eq; decide +kernel
        have e3 : FP.d2l (FP.i2d b.toInt32) = Int64.ofInt b.toInt := by
          show FP.d2l (UInt64.ofNat (FP.Core.fromInt FP.Core.b64 b.toInt32.toInt)) = _
          rw [Int8.toInt_toInt32]
          exact fk_dld (by omega) hn
        rw [e3]
        congr 2
        apply Int8.toInt.inj
        rw [Int32.toInt_toInt8, Int64.toInt_toInt32, Int64.toInt_ofInt_of_le (by omega) (by omega)]
        have i1 : b.toInt.bmod (2 ^ 32) = b.toInt := Int.bmod_eq_of_le (by omega) (by omega)
        rw [i1]
        exact Int.bmod_eq_of_le (by omega) (by omega)
      · by_cases h4 : k = 4
        · subst h4
          have e : ∀ x, s_ft 4 x = FP.f2d (FP.frem (FP.d2f x) 1135869952) := fun x => by unfold s_ft; rw [if_neg (by decide), if_neg (by decide), if_neg (by decide), if_pos rfl]
          rw [e] at hz ⊢
          rw [e]
          obtain ⟨s, c, q, hw, -⟩ := fb_d2f h
          obtain ⟨c', q', g1, g2, g3, g4⟩ := fk_frem2 hw
          have hc : c' ≠ 0 := by intro hc; subst hc; exact hz (fk_w0 g1)
          rw [(fk_fdf g1 hc).1, fk_frem3 g1 g3 g4 hc]
        · by_cases h5 : k = 5
          · subst h5
            have e : ∀ x, s_ft 5 x = s_if (s_lt x 13875379345695965184) 13875379345695965184 (s_if (s_gt x 4652007308841189376) 4652007308841189376 x) := fun x => by unfold s_ft; rw [if_neg (by decide), if_neg (by decide), if_neg (by decide), if_neg (by decide), if_pos rfl]
            rw [e v]
            by_cases l1 : s_lt v 13875379345695965184
            · rw [s_if_p l1, e, s_if_n (by unfold s_lt; decide +kernel), s_if_n (by unfold s_gt; decide +kernel)]
            · rw [s_if_n l1]
              by_cases l2 : s_gt v 4652007308841189376
              · rw [s_if_p l2, e, s_if_n (by unfold s_lt; decide +kernel), s_if_n (by unfold s_gt; decide +kernel)]
              · rw [s_if_n l2, e, s_if_n l1, s_if_n l2]
          · have e : ∀ x, s_ft k x = x := fun x => by unfold s_ft; rw [if_neg h1, if_neg h2, if_neg h3, if_neg h4, if_neg h5]
            rw [e, e]
/-- kept again: the same -/
theorem fb_kp_kp {k : Int32} {v : UInt64} (h : s_B v) : s_kp k (s_kp k v) = s_kp k v := by
  unfold s_kp
  by_cases hz : s_eq (s_ft k v) 0
  · rw [fk_z hz]; exact fk_ft0
  · rw [fk_nzp hz, fk_ftft h hz, fk_nzp hz]
/-- no zero has a sign -/
def s_N (v : UInt64) : Prop := s_F v ∧ (s_eq v 0 → v = 0)
theorem s_N.mk' {v : UInt64} (h : s_B v) : s_N (s_pl v) := by
  refine ⟨(fk_pl h).f, fun h2 => ?_⟩
  by_cases hz : s_eq v 0
  · exact fk_z hz
  · rw [fk_nzp hz] at h2; exact absurd h2 hz
theorem fb_N {k : Int32} {v : UInt64} (h : s_B v) : s_N (s_kp k v) := s_N.mk' (fb_ft h)
theorem fk_ord {s t : Bool} {c d : Nat} {q r : Int} (h : FP.Core.order (.fin s c q) (.fin t d r) = some .eq) : c * 2 ^ (q - min q r).toNat = d * 2 ^ (r - min q r).toNat ∧ (s = t ∨ c * 2 ^ (q - min q r).toNat = 0) := by
  simp only [FP.Core.order, FP.Core.inUnits, Option.some.injEq, fq_cmp] at h
  generalize c * 2 ^ (q - min q r).toNat = X at h ⊢
  generalize d * 2 ^ (r - min q r).toNat = Y at h ⊢
  have key : FP.Core.signed s X = FP.Core.signed t Y := by
    by_cases h1 : FP.Core.signed s X < FP.Core.signed t Y
    · rw [if_pos h1] at h; cases h
    · rw [if_neg h1] at h
      by_cases h2 : FP.Core.signed s X = FP.Core.signed t Y
      · exact h2
      · rw [if_neg h2] at h; cases h
  unfold FP.Core.signed at key
  cases s <;> cases t <;> simp at key ⊢ <;> omega
theorem fb_same {a b : UInt64} (ha : s_N a) (hb : s_N b) (h : s_eq a b) : a = b := by
  obtain ⟨⟨s, c, q, h1⟩, h2⟩ := ha
  obtain ⟨⟨t, d, r, h3⟩, h4⟩ := hb
  unfold s_eq at h
  have ho : FP.Core.order (fv a) (fv b) = some .eq := h
  rw [h1, h3] at ho
  obtain ⟨o1, o2⟩ := fk_ord ho
  have pq := Nat.two_pow_pos (q - min q r).toNat
  have pr := Nat.two_pow_pos (r - min q r).toNat
  by_cases hc : c = 0
  · have hd : d = 0 := by
      rw [hc, Nat.zero_mul] at o1
      rcases Nat.mul_eq_zero.mp o1.symm with h | h
      · exact h
      · omega
    rw [h2 ((fq_nz h1).mpr hc), h4 ((fq_nz h3).mpr hd)]
  · have hd : d ≠ 0 := by
      intro hd
      rw [hd, Nat.zero_mul] at o1
      rcases Nat.mul_eq_zero.mp o1 with h | h
      · exact hc h
      · omega
    have hst : s = t := o2.resolve_right (Nat.mul_ne_zero hc (by omega))
    have hcd : c = d ∧ q = r := by
      by_cases hqr : q ≤ r
      · rw [show min q r = q by omega, show (q - q).toNat = 0 by omega, Nat.pow_zero, Nat.mul_one] at o1
        exact fx_uni fx_g64 (fq_fit h1) (fq_fit h3) hqr hc o1
      · rw [show min q r = r by omega, show (r - r).toNat = 0 by omega, Nat.pow_zero, Nat.mul_one] at o1
        obtain ⟨e1, e2⟩ := fx_uni fx_g64 (fq_fit h3) (fq_fit h1) (by omega) hd o1.symm
        exact ⟨e1.symm, e2.symm⟩
    obtain ⟨rfl, rfl⟩ := hcd
    subst hst
    rw [← fk_64 h1, ← fk_64 h3]
/-! what comes of bounded ones -/
theorem fb_neg {v : UInt64} (h : s_B v) : s_B (FP.dneg v) := by
  obtain ⟨s, c, q, h1, h2⟩ := h
  refine ⟨!s, c, q, ?_, h2⟩
  have e : FP.dneg v = UInt64.ofNat (FP.Core.encode FP.Core.b64 (.fin (!s) c q)) := by
    have e1 := fk_64 h1
    rw [← e1]
    unfold FP.dneg
    apply UInt64.toNat.inj
    have hl1 := fx_el fx_g64 (s := s) (fq_fit h1)
    have hl2 := fx_el fx_g64 (s := !s) (fq_fit h1)
    rw [fq_e64, fq_t64] at hl1 hl2
    rw [UInt64.toNat_xor, UInt64.toNat_ofNat', UInt64.toNat_ofNat', Nat.mod_eq_of_lt (by omega), Nat.mod_eq_of_lt (by omega)]
    have hx : ∀ n, n < 2 ^ 63 → n ^^^ (0x8000000000000000 : UInt64).toNat = n + 2 ^ 63 := by
      intro n hn
      rw [show (0x8000000000000000 : UInt64).toNat = 2 ^ 63 by decide]
      rw [Nat.xor_comm]
      have := Nat.two_pow_add_eq_or_of_lt hn 1
      rw [Nat.mul_one] at this
      rw [Nat.add_comm, this]
      apply Nat.eq_of_testBit_eq
      intro i
      rw [Nat.testBit_xor, Nat.testBit_or, Nat.testBit_two_pow]
      by_cases hi : 63 = i
      · subst hi
        rw [Nat.testBit_lt_two_pow hn]
        simp
      · simp [hi]
    have hx2 : ∀ n, n < 2 ^ 63 → (n + 2 ^ 63) ^^^ (0x8000000000000000 : UInt64).toNat = n := by
      intro n hn
      rw [← hx n hn, Nat.xor_assoc, Nat.xor_self, Nat.xor_zero]
    have hcl := (fq_fit h1).1
    have hql := (fq_fit h1).2.1
    have hqh := (fq_fit h1).2.2.1
    rw [fq_n64] at hql
    rw [fq_x64] at hqh
    rw [fq_p64] at hcl
    unfold FP.Core.encode FP.Core.assemble
    simp only [fq_t64, fq_e64, fq_n64]
    by_cases hc : c < 4503599627370496
    · simp only [if_pos hc]
      cases s
      · simp only [Bool.toNat_false, Bool.not_false, Bool.toNat_true]
        rw [hx _ (by omega)]; omega
      · simp only [Bool.toNat_false, Bool.not_true, Bool.toNat_true]
        rw [show (1 * 2048 + 0) * 4503599627370496 + c = c + 2 ^ 63 by omega, hx2 _ (by omega)]; omega
    · simp only [if_neg hc]
      cases s
      · simp only [Bool.toNat_false, Bool.not_false, Bool.toNat_true]
        rw [hx _ (by omega)]; omega
      · simp only [Bool.toNat_false, Bool.not_true, Bool.toNat_true]
        rw [show (1 * 2048 + ((q - -1074).toNat + 1)) * 4503599627370496 + (c - 4503599627370496) = (0 * 2048 + ((q - -1074).toNat + 1)) * 4503599627370496 + (c - 4503599627370496) + 2 ^ 63 by omega, hx2 _ (by omega)]
  rw [e]
  exact fk_v (fq_fit h1)
theorem fb_remB {a b : UInt64} (ha : s_B a) (hb : s_F b) (hz : ¬ s_eq b 0) : s_B (FP.drem a b) := by
  obtain ⟨s, c, q, h1, h2⟩ := ha
  obtain ⟨t, d, r, h3⟩ := hb
  have hd : d ≠ 0 := fun e => hz ((fq_nz h3).mpr e)
  have hf := (fq_fit h1).2.1
  have hr := (fq_fit h3).2.1
  rw [fq_n64] at hf hr
  unfold fv at h1 h3
  show s_B (UInt64.ofNat (FP.Core.encode _ (FP.Core.round _ (FP.Core.exactRemainder _ _))))
  rw [h1, h3]
  simp only [FP.Core.exactRemainder, if_neg hd, FP.Core.round]
  refine fk_rr (N := 1074) (by decide) (by omega) (by decide) ?_
  rw [Nat.one_mul]
  refine Nat.le_trans (Nat.mul_le_mul_right _ (Nat.mod_le _ _)) ?_
  unfold FP.Core.inUnits
  rw [Nat.mul_assoc, ← Nat.pow_add, show (q - min q r).toNat + (min q r + (1074 : Nat)).toNat = (q + 1074).toNat by omega]
  exact h2
/-- a bounded one by a whole number that isn't 0 -/
theorem fb_divI {a : UInt64} (ha : s_B a) {n : Int} (hn : n.natAbs ≤ 2 ^ 40) (hz : n ≠ 0) : s_B (FP.ddiv a (UInt64.ofNat (FP.Core.fromInt FP.Core.b64 n))) := by
  obtain ⟨s, c, q, h1, h2⟩ := ha
  obtain ⟨d, r, h3, h4, h5, h6, h7⟩ := fk_ofI hn hz
  have hf := (fq_fit h1).2.1
  rw [fq_n64] at hf
  unfold fv at h1 h3
  show s_B (UInt64.ofNat (FP.Core.encode _ (FP.Core.quotient _ _ _)))
  rw [h1, h3]
  simp only [FP.Core.quotient, if_neg h7]
  refine fk_rr (N := 1074) (Nat.pos_of_ne_zero h7) (by omega) (by decide) ?_
  rw [h6]
  have hn1 : 1 ≤ n.natAbs := by omega
  have h8 := Nat.mul_le_mul_right (2 ^ (0 - r).toNat) h2
  rw [Nat.mul_assoc, ← Nat.pow_add, show (q + 1074).toNat + (0 - r).toNat = (q - r + (1074 : Nat)).toNat by omega, ← Nat.pow_add] at h8
  refine Nat.le_trans h8 ?_
  rw [Nat.mul_assoc, ← Nat.pow_add, show (0 - r).toNat + (40 + 1074) = 1114 + (0 - r).toNat by omega]
  exact Nat.le_mul_of_pos_left _ hn1
theorem fb_addn {M : Nat} (hM : M ≤ 899) {a b : UInt64} (ha : s_Bn M a) (hb : s_Bn M b) : s_Bn (M + 1) (FP.dadd a b) := by
  obtain ⟨s, c, q, h1, h2⟩ := ha
  obtain ⟨t, d, r, h3, h4⟩ := hb
  have hq := (fq_fit h1).2.1
  have hr := (fq_fit h3).2.1
  rw [fq_n64] at hq hr
  unfold fv at h1 h3
  show s_Bn (M + 1) (UInt64.ofNat (FP.Core.encode _ (FP.Core.round _ (FP.Core.exactSum _ _))))
  rw [h1, h3]
  simp only [FP.Core.exactSum, FP.Core.round]
  refine fk_rrn (M := M + 1) (N := 1074) (by omega) (by decide) (by omega) (by decide) ?_
  have ex : (c * 2 ^ (q - min q r).toNat) * 2 ^ (min q r + (1074 : Nat)).toNat = c * 2 ^ (q + 1074).toNat := by
    rw [Nat.mul_assoc, ← Nat.pow_add, show (q - min q r).toNat + (min q r + (1074 : Nat)).toNat = (q + 1074).toNat by omega]
  have ey : (d * 2 ^ (r - min q r).toNat) * 2 ^ (min q r + (1074 : Nat)).toNat = d * 2 ^ (r + 1074).toNat := by
    rw [Nat.mul_assoc, ← Nat.pow_add, show (r - min q r).toNat + (min q r + (1074 : Nat)).toNat = (r + 1074).toNat by omega]
  have hs : (FP.Core.sumUnits s c q t d r (min q r)).natAbs ≤ c * 2 ^ (q - min q r).toNat + d * 2 ^ (r - min q r).toNat := by
    unfold FP.Core.sumUnits FP.Core.signed FP.Core.inUnits
    generalize c * 2 ^ (q - min q r).toNat = X
    generalize d * 2 ^ (r - min q r).toNat = Y
    cases s <;> cases t <;> simp only [Bool.false_eq_true, if_false, if_true] <;> omega
  refine Nat.le_trans (Nat.mul_le_mul_right _ hs) ?_
  rw [Nat.add_mul, ex, ey, Nat.one_mul, show M + 1 + 1074 = (1074 + M) + 1 by omega, Nat.pow_succ]
  omega
theorem fb_op {act : Nat} {a b : UInt64} (ha : s_B a) (hb : s_B b) (hz : act = 4 ∨ act = 5 → ¬ s_eq b 0) : vf_n64 (s_op act a b) := by
  unfold s_op s_if
  split
  · exact fb_add ha.f hb.f
  · split
    · exact fb_sub ha.f hb.f
    · split
      · exact fb_mul ha.f hb.f
      · split
        · exact fb_div ha.f hb.f (hz (Or.inl (by assumption)))
        · split
          · exact fb_rem ha.f hb.f (hz (Or.inr (by assumption)))
          · split
            · split
              · rw [fq_v64]; decide
              · rw [fq_v64]; decide
            · split
              · split
                · rw [fq_v64]; decide
                · rw [fq_v64]; decide
              · split
                · split
                  · exact fb_nn hb
                  · exact fb_nn ha
                · split
                  · exact fb_nn hb
                  · exact fb_nn ha
theorem fk_B1 : s_B FP.dconst1 := ⟨false, 4503599627370496, -52, by unfold fv; decide +kernel, by decide +kernel⟩
theorem fb_opB {act : Nat} {a b : UInt64} (ha : s_B a) (hb : s_B b) (hz : act = 4 ∨ act = 5 → ¬ s_eq b 0) (hf : act ≤ 4 → ¬ s_far (s_op act a b)) : s_B (s_op act a b) := by
  by_cases h4 : act ≤ 4
  · exact fb_near (fb_op ha hb hz) (hf h4)
  · unfold s_op s_if
    rw [if_neg (by omega), if_neg (by omega), if_neg (by omega), if_neg (by omega)]
    split
    · exact fb_remB ha hb.f (hz (Or.inr (by assumption)))
    · split
      · split
        · exact fk_B1
        · exact fk_B0
      · split
        · split
          · exact fk_B1
          · exact fk_B0
        · split
          · split
            · exact hb
            · exact ha
          · split
            · exact hb
            · exact ha
/-- an int by 8 -/
theorem fb_8 {x : Int32} : s_B (FP.ddiv (FP.i2d x) 4620693217682128896) := by
  have e : (4620693217682128896 : UInt64) = UInt64.ofNat (FP.Core.fromInt FP.Core.b64 8) := by decide +kernel
  rw [e]
  exact fb_divI fb_i2d (by decide) (by decide)
end FK
