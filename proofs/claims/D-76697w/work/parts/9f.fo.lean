set_option maxRecDepth 100000
/-! the order of finite doubles as that of whole numbers (units of 2^-1074); bounds of products, differences; what rounds to no zero -/
section FO
def fzd : FP.Core.Datum → Int
  | .fin s c q => FP.Core.signed s (c * 2 ^ (q + 1074).toNat)
  | _ => 0
def fz (v : UInt64) : Int := fzd (fv v)
theorem fo_sg {s : Bool} {X P : Nat} : FP.Core.signed s (X * P) = FP.Core.signed s X * (P : Int) := by
  unfold FP.Core.signed
  cases s
  · simp
  · simp [Int.neg_mul]
theorem fo_cmp {x y : Int} {P : Nat} (hP : 0 < P) : compare (x * (P : Int)) (y * (P : Int)) = compare x y := by
  rw [fq_cmp, fq_cmp]
  have hP' : (0 : Int) < (P : Int) := by omega
  have h1 : x * (P : Int) < y * (P : Int) ↔ x < y := ⟨fun h => Int.lt_of_mul_lt_mul_right h (by omega), fun h => Int.mul_lt_mul_of_pos_right h hP'⟩
  have h2 : x * (P : Int) = y * (P : Int) ↔ x = y := ⟨fun h => Int.eq_of_mul_eq_mul_right (by omega) h, fun h => by rw [h]⟩
  simp only [h1, h2]
theorem fo_ord {s t : Bool} {c d : Nat} {q r : Int} (h1 : -1074 ≤ q) (h2 : -1074 ≤ r) : FP.Core.order (.fin s c q) (.fin t d r) = some (compare (fzd (.fin s c q)) (fzd (.fin t d r))) := by
  simp only [FP.Core.order, FP.Core.inUnits, fzd]
  have e1 : c * 2 ^ (q + 1074).toNat = (c * 2 ^ (q - min q r).toNat) * 2 ^ (min q r + 1074).toNat := by
    rw [Nat.mul_assoc, ← Nat.pow_add, show (q - min q r).toNat + (min q r + 1074).toNat = (q + 1074).toNat by omega]
  have e2 : d * 2 ^ (r + 1074).toNat = (d * 2 ^ (r - min q r).toNat) * 2 ^ (min q r + 1074).toNat := by
    rw [Nat.mul_assoc, ← Nat.pow_add, show (r - min q r).toNat + (min q r + 1074).toNat = (r + 1074).toNat by omega]
  rw [e1, e2]
  generalize c * 2 ^ (q - min q r).toNat = X
  generalize d * 2 ^ (r - min q r).toNat = Y
  rw [fo_sg, fo_sg, fo_cmp (Nat.two_pow_pos _)]
theorem fo_q {v : UInt64} {s : Bool} {c : Nat} {q : Int} (h : fv v = .fin s c q) : -1074 ≤ q := by
  have := (fq_fit h).2.1
  rw [fq_n64] at this
  exact this
theorem fo_c {a b : UInt64} (ha : s_F a) (hb : s_F b) : FP.dcmp a b = some (compare (fz a) (fz b)) := by
  obtain ⟨s, c, q, h1⟩ := ha
  obtain ⟨t, d, r, h2⟩ := hb
  show FP.Core.order (fv a) (fv b) = _
  unfold fz
  rw [h1, h2, fo_ord (fo_q h1) (fo_q h2)]
theorem fo_lt {a b : UInt64} (ha : s_F a) (hb : s_F b) : s_lt a b ↔ fz a < fz b := by
  unfold s_lt
  rw [fo_c ha hb, fq_cmp]
  by_cases h : fz a < fz b
  · simp [h]
  · by_cases h2 : fz a = fz b
    · simp [h2]
    · simp [h, h2]
theorem fo_gt {a b : UInt64} (ha : s_F a) (hb : s_F b) : s_gt a b ↔ fz b < fz a := by
  unfold s_gt
  rw [fo_c ha hb, fq_cmp]
  by_cases h : fz a < fz b
  · simp [h]; omega
  · by_cases h2 : fz a = fz b
    · simp [h2]
    · simp [h, h2]; omega
theorem fo_eq {a b : UInt64} (ha : s_F a) (hb : s_F b) : s_eq a b ↔ fz a = fz b := by
  unfold s_eq
  rw [fo_c ha hb, fq_cmp]
  by_cases h : fz a < fz b
  · simp [h]; omega
  · by_cases h2 : fz a = fz b
    · simp [h2]
    · simp [h, h2]
theorem fo_ab {v : UInt64} {s : Bool} {c : Nat} {q : Int} (h : fv v = .fin s c q) : (fz v).natAbs = c * 2 ^ (q + 1074).toNat := by
  unfold fz
  rw [h]
  show (FP.Core.signed s (c * 2 ^ (q + 1074).toNat)).natAbs = _
  generalize c * 2 ^ (q + 1074).toNat = X
  unfold FP.Core.signed
  cases s <;> simp
theorem fo_B {v : UInt64} (h : s_F v) : s_B v ↔ (fz v).natAbs ≤ 2 ^ 1114 := by
  obtain ⟨s, c, q, h1⟩ := h
  rw [fo_ab h1]
  constructor
  · rintro ⟨s', c', q', h2, h3⟩
    rw [h1] at h2
    cases h2
    exact h3
  · intro h3
    exact ⟨s, c, q, h1, h3⟩
/-- between finite ones -/
theorem fo_in {m a b : UInt64} (hm : vf_n64 m) (ha : s_F a) (hb : s_F b) (h1 : s_gt m a) (h2 : s_lt m b) : s_F m := by
  obtain ⟨s, c, q, ha⟩ := ha
  obtain ⟨t, d, r, hb⟩ := hb
  have o1 : FP.Core.order (fv m) (fv a) = some .gt := h1
  have o2 : FP.Core.order (fv m) (fv b) = some .lt := h2
  rw [ha] at o1
  rw [hb] at o2
  cases hv : fv m with
  | nan => exact absurd hv (fb_nan hm)
  | inf u =>
    rw [hv] at o1 o2
    simp only [FP.Core.order, Option.some.injEq] at o1 o2
    rw [o1] at o2
    cases o2
  | fin u e z => exact ⟨u, e, z, hv⟩
theorem fo_inB {m a b : UInt64} (hm : vf_n64 m) (ha : s_B a) (hb : s_B b) (h1 : s_gt m a) (h2 : s_lt m b) : s_B m := by
  have hF := fo_in hm ha.f hb.f h1 h2
  rw [fo_gt hF ha.f] at h1
  rw [fo_lt hF hb.f] at h2
  have a1 := (fo_B ha.f).mp ha
  have b1 := (fo_B hb.f).mp hb
  rw [fo_B hF]
  generalize 2 ^ 1114 = N at a1 b1 ⊢
  omega
theorem fb_addF {a b : UInt64} (ha : s_F a) (hb : vf_n64 b) : vf_n64 (FP.dadd a b) := by
  obtain ⟨s, c, q, h1⟩ := ha
  have hn := fb_nan hb
  unfold fv at h1 hn
  show vf_n64 (UInt64.ofNat (FP.Core.encode _ (FP.Core.round _ (FP.Core.exactSum _ _))))
  rw [h1]
  cases h2 : FP.Core.decode FP.Core.b64 b.toNat with
  | nan => exact absurd h2 hn
  | inf u =>
    simp only [FP.Core.exactSum, FP.Core.round, FP.Core.encode, fq_e64]
    exact fq_asm (by omega) (Or.inr ⟨rfl, rfl⟩)
  | fin u e z => exact fq_rr
theorem fb_subn {M : Nat} (hM : M ≤ 899) {a b : UInt64} (ha : s_Bn M a) (hb : s_Bn M b) : s_Bn (M + 1) (FP.dsub a b) := by
  obtain ⟨s, c, q, h1, h2⟩ := ha
  obtain ⟨t, d, r, h3, h4⟩ := hb
  have hq := fo_q h1
  have hr := fo_q h3
  unfold fv at h1 h3
  show s_Bn (M + 1) (UInt64.ofNat (FP.Core.encode _ (FP.Core.round _ (FP.Core.exactSum _ (FP.Core.negate _)))))
  rw [h1, h3]
  simp only [FP.Core.exactSum, FP.Core.round, FP.Core.negate]
  refine fk_rrn (M := M + 1) (N := 1074) (by omega) (by decide) (by omega) (by decide) ?_
  have ex : (c * 2 ^ (q - min q r).toNat) * 2 ^ (min q r + (1074 : Nat)).toNat = c * 2 ^ (q + 1074).toNat := by
    rw [Nat.mul_assoc, ← Nat.pow_add, show (q - min q r).toNat + (min q r + (1074 : Nat)).toNat = (q + 1074).toNat by omega]
  have ey : (d * 2 ^ (r - min q r).toNat) * 2 ^ (min q r + (1074 : Nat)).toNat = d * 2 ^ (r + 1074).toNat := by
    rw [Nat.mul_assoc, ← Nat.pow_add, show (r - min q r).toNat + (min q r + (1074 : Nat)).toNat = (r + 1074).toNat by omega]
  have hs : (FP.Core.sumUnits s c q (!t) d r (min q r)).natAbs ≤ c * 2 ^ (q - min q r).toNat + d * 2 ^ (r - min q r).toNat := by
    unfold FP.Core.sumUnits FP.Core.signed FP.Core.inUnits
    generalize c * 2 ^ (q - min q r).toNat = X
    generalize d * 2 ^ (r - min q r).toNat = Y
    cases s <;> cases t <;> simp only [Bool.false_eq_true, if_false, if_true, Bool.not_false, Bool.not_true] <;> omega
  refine Nat.le_trans (Nat.mul_le_mul_right _ hs) ?_
  rw [Nat.add_mul, ex, ey, Nat.one_mul, show M + 1 + 1074 = (1074 + M) + 1 by omega, Nat.pow_succ]
  omega
theorem fb_muln {M N : Nat} (hM : M + N ≤ 900) {a b : UInt64} (ha : s_Bn M a) (hb : s_Bn N b) : s_Bn (M + N) (FP.dmul a b) := by
  obtain ⟨s, c, q, h1, h2⟩ := ha
  obtain ⟨t, d, r, h3, h4⟩ := hb
  have hq := fo_q h1
  have hr := fo_q h3
  unfold fv at h1 h3
  show s_Bn (M + N) (UInt64.ofNat (FP.Core.encode _ (FP.Core.round _ (FP.Core.exactProduct _ _))))
  rw [h1, h3]
  simp only [FP.Core.exactProduct, FP.Core.round]
  refine fk_rrn (M := M + N) (N := 2148) hM (by decide) (by omega) (by decide) ?_
  have h5 := Nat.mul_le_mul h2 h4
  rw [← Nat.pow_add] at h5
  rw [Nat.one_mul, show M + N + 2148 = 1074 + M + (1074 + N) by omega]
  refine Nat.le_trans (Nat.le_of_eq ?_) h5
  rw [show (q + r + (2148 : Nat)).toNat = (q + 1074).toNat + (r + 1074).toNat by omega, Nat.pow_add]
  generalize 2 ^ (q + 1074).toNat = X
  generalize 2 ^ (r + 1074).toNat = Y
  rw [Nat.mul_assoc, Nat.mul_assoc, Nat.mul_left_comm d X Y]
/-- what isn't 0 and is a whole number of the least units is rounded to no 0 -/
theorem fo_rr {s : Bool} {A : Nat} {e : Int} (hA : A ≠ 0) (he : -1074 ≤ e) : (∃ c q, FP.Core.roundRatio FP.Core.b64 s A 1 e = .fin s c q ∧ c ≠ 0 ∧ c < 2 ^ 53 ∧ -1074 ≤ q ∧ q ≤ 971) ∨ FP.Core.roundRatio FP.Core.b64 s A 1 e = .inf s := by
  unfold FP.Core.roundRatio FP.Core.roundAt
  rw [if_neg hA]
  have hl1 : 2 ^ A.log2 ≤ A := (Nat.le_log2 hA).mp (Nat.le_refl _)
  have hq0 : -1074 ≤ FP.Core.quantum FP.Core.b64 A 1 e := by
    unfold FP.Core.quantum
    rw [fq_n64]
    omega
  have hn : 1 ≤ FP.Core.nearest (FP.Core.unitsNum A e (FP.Core.quantum FP.Core.b64 A 1 e)) (FP.Core.unitsDen 1 e (FP.Core.quantum FP.Core.b64 A 1 e)) := by
    refine fx_near_ge ?_ ?_
    · unfold FP.Core.unitsDen
      rw [Nat.one_mul]
      exact Nat.two_pow_pos _
    · unfold FP.Core.unitsDen FP.Core.unitsNum
      rw [Nat.one_mul, Nat.one_mul]
      refine Nat.le_trans ?_ (Nat.le_mul_of_pos_right _ (Nat.two_pow_pos _))
      refine Nat.le_trans (Nat.pow_le_pow_right (by decide) ?_) hl1
      unfold FP.Core.quantum
      rw [fx_lead hA, fq_n64, fq_p64]
      omega
  generalize FP.Core.quantum FP.Core.b64 A 1 e = q at hn hq0 ⊢
  generalize FP.Core.nearest _ _ = c at hn ⊢
  unfold FP.Core.settle FP.Core.bound
  rw [fq_p64, fq_x64, fq_t64]
  by_cases h1 : c < 2 ^ 53
  · rw [if_pos h1]
    by_cases h2 : q ≤ 971
    · rw [if_pos h2]
      exact Or.inl ⟨c, q, rfl, by omega, h1, hq0, h2⟩
    · rw [if_neg h2]
      exact Or.inr rfl
  · rw [if_neg h1]
    by_cases h2 : q + 1 ≤ 971
    · rw [if_pos h2]
      exact Or.inl ⟨_, q + 1, rfl, by decide, by decide, by omega, h2⟩
    · rw [if_neg h2]
      exact Or.inr rfl
theorem fo_enc {s : Bool} {c : Nat} {q : Int} (hc : c ≠ 0) (h53 : c < 2 ^ 53) (h1 : -1074 ≤ q) (h2 : q ≤ 971) : ∃ d r, fv (UInt64.ofNat (FP.Core.encode FP.Core.b64 (.fin s c q))) = .fin s d r ∧ d ≠ 0 := by
  by_cases hl : c < 4503599627370496
  · have e : FP.Core.encode FP.Core.b64 (.fin s c q) = FP.Core.encode FP.Core.b64 (.fin s c (-1074)) := by
      unfold FP.Core.encode
      simp only [fq_t64, if_pos hl]
    rw [e]
    exact ⟨c, -1074, fk_v ⟨by rw [fq_p64]; exact h53, by rw [fq_n64]; omega, by rw [fq_x64]; omega, Or.inl (by rw [fq_n64])⟩, hc⟩
  · exact ⟨c, q, fk_v ⟨by rw [fq_p64]; exact h53, by rw [fq_n64]; omega, by rw [fq_x64]; omega, Or.inr (by rw [fq_t64]; omega)⟩, hc⟩
theorem fo_inf {s : Bool} : fv (UInt64.ofNat (FP.Core.encode FP.Core.b64 (.inf s))) = .inf s := by
  unfold fv
  cases s <;> decide +kernel
theorem fo_nz {v : UInt64} {s : Bool} (h : (∃ c q, fv v = .fin s c q ∧ c ≠ 0) ∨ fv v = .inf s) : ¬ s_eq v 0 := by
  rcases h with ⟨c, q, h1, h2⟩ | h1
  · exact fun h => h2 ((fq_nz h1).mp h)
  · intro h
    have o : FP.Core.order (fv v) (FP.Core.decode FP.Core.b64 (0 : UInt64).toNat) = some .eq := h
    rw [h1, fq_v0] at o
    cases s
    · exact absurd o (by decide)
    · exact absurd o (by decide)
/-- unlike ones have a difference -/
theorem fb_subnz {a b : UInt64} (ha : s_F a) (hb : s_F b) (h : ¬ s_eq a b) : ¬ s_eq (FP.dsub a b) 0 := by
  rw [fo_eq ha hb] at h
  obtain ⟨s, c, q, h1⟩ := ha
  obtain ⟨t, d, r, h3⟩ := hb
  have hq := fo_q h1
  have hr := fo_q h3
  have hv : FP.Core.sumUnits s c q (!t) d r (min q r) ≠ 0 := by
    intro h0
    apply h
    unfold fz
    rw [h1, h3]
    show FP.Core.signed s (c * 2 ^ (q + 1074).toNat) = FP.Core.signed t (d * 2 ^ (r + 1074).toNat)
    have e1 : c * 2 ^ (q + 1074).toNat = (c * 2 ^ (q - min q r).toNat) * 2 ^ (min q r + 1074).toNat := by
      rw [Nat.mul_assoc, ← Nat.pow_add, show (q - min q r).toNat + (min q r + 1074).toNat = (q + 1074).toNat by omega]
    have e2 : d * 2 ^ (r + 1074).toNat = (d * 2 ^ (r - min q r).toNat) * 2 ^ (min q r + 1074).toNat := by
      rw [Nat.mul_assoc, ← Nat.pow_add, show (r - min q r).toNat + (min q r + 1074).toNat = (r + 1074).toNat by omega]
    rw [e1, e2]
    unfold FP.Core.sumUnits FP.Core.inUnits at h0
    generalize c * 2 ^ (q - min q r).toNat = X at h0 ⊢
    generalize d * 2 ^ (r - min q r).toNat = Y at h0 ⊢
    rw [fo_sg, fo_sg]
    congr 1
    unfold FP.Core.signed at h0 ⊢
    cases s <;> cases t <;> simp at h0 ⊢ <;> omega
  unfold fv at h1 h3
  have e : FP.dsub a b = UInt64.ofNat (FP.Core.encode FP.Core.b64 (FP.Core.roundRatio FP.Core.b64 (FP.Core.sumSign s (!t) (FP.Core.sumUnits s c q (!t) d r (min q r))) (FP.Core.sumUnits s c q (!t) d r (min q r)).natAbs 1 (min q r))) := by
    show UInt64.ofNat (FP.Core.encode _ (FP.Core.round _ (FP.Core.exactSum _ (FP.Core.negate _)))) = _
    rw [h1, h3]
    rfl
  rw [e]
  rcases fo_rr (s := FP.Core.sumSign s (!t) (FP.Core.sumUnits s c q (!t) d r (min q r))) (A := (FP.Core.sumUnits s c q (!t) d r (min q r)).natAbs) (e := min q r) (by omega) (by omega) with ⟨c', q', w1, w2, w3, w4, w5⟩ | w
  · rw [w1]
    obtain ⟨d', r', v1, v2⟩ := fo_enc (s := FP.Core.sumSign s (!t) (FP.Core.sumUnits s c q (!t) d r (min q r))) w2 w3 w4 w5
    exact fo_nz (Or.inl ⟨d', r', v1, v2⟩)
  · rw [w]
    exact fo_nz (Or.inr fo_inf)
theorem fb_divIn {M : Nat} (hM : M ≤ 900) {a : UInt64} (ha : s_Bn M a) {n : Int} (hn : n.natAbs ≤ 2 ^ 40) (hz : n ≠ 0) : s_Bn M (FP.ddiv a (UInt64.ofNat (FP.Core.fromInt FP.Core.b64 n))) := by
  obtain ⟨s, c, q, h1, h2⟩ := ha
  obtain ⟨d, r, h3, h4, h5, h6, h7⟩ := fk_ofI hn hz
  have hf := (fq_fit h1).2.1
  rw [fq_n64] at hf
  unfold fv at h1 h3
  show s_Bn M (UInt64.ofNat (FP.Core.encode _ (FP.Core.quotient _ _ _)))
  rw [h1, h3]
  simp only [FP.Core.quotient, if_neg h7]
  refine fk_rrn (M := M) (N := 1074) hM (Nat.pos_of_ne_zero h7) (by omega) (by decide) ?_
  rw [h6]
  have hn1 : 1 ≤ n.natAbs := by omega
  have h8 := Nat.mul_le_mul_right (2 ^ (0 - r).toNat) h2
  rw [Nat.mul_assoc, ← Nat.pow_add, show (q + 1074).toNat + (0 - r).toNat = (q - r + (1074 : Nat)).toNat by omega, ← Nat.pow_add] at h8
  refine Nat.le_trans h8 ?_
  rw [Nat.mul_assoc, ← Nat.pow_add, show (0 - r).toNat + (M + 1074) = 1074 + M + (0 - r).toNat by omega]
  exact Nat.le_mul_of_pos_left _ hn1
theorem fb_half {M : Nat} (hM : M ≤ 900) {a : UInt64} (ha : s_Bn M a) : s_Bn M (FP.ddiv a 4611686018427387904) := by
  have e : (4611686018427387904 : UInt64) = UInt64.ofNat (FP.Core.fromInt FP.Core.b64 2) := by decide +kernel
  rw [e]
  exact fb_divIn hM ha (by decide) (by decide)
theorem fc_gg {a b : UInt64} (ha : s_F a) (hb : s_F b) : 0 < (Op.cmpValue (FP.dcmp a b) .g) ↔ s_gt a b := by
  unfold s_gt
  rw [fo_c ha hb]
  cases compare (fz a) (fz b) <;> decide
theorem fc_ll {a b : UInt64} (ha : s_F a) (hb : s_F b) : (Op.cmpValue (FP.dcmp a b) .l) < 0 ↔ s_lt a b := by
  unfold s_lt
  rw [fo_c ha hb]
  cases compare (fz a) (fz b) <;> decide
end FO
