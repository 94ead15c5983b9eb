set_option maxRecDepth 100000
/-! the sign of a difference; no program in sight -/
section FS
def e63 (s : Bool) : Nat := if s then 9223372036854775808 else 0
theorem fs_x64 : FP.Core.b64.exps = 2048 := by decide +kernel
theorem fs_asm {s : Bool} {e t : Nat} : FP.Core.assemble FP.Core.b64 s e t = FP.Core.assemble FP.Core.b64 false e t + e63 s := by
  unfold FP.Core.assemble e63
  rw [fs_x64, fq_t64]
  cases s
  · simp
  · simp only [Bool.toNat_true, Bool.toNat_false, if_true]
    omega
theorem fs_enc {s : Bool} {c : Nat} {q : Int} : FP.Core.encode FP.Core.b64 (.fin s c q) = FP.Core.encode FP.Core.b64 (.fin false c q) + e63 s := by
  unfold FP.Core.encode
  by_cases h : c < FP.Core.b64.tails
  · simp only [if_pos h]; exact fs_asm
  · simp only [if_neg h]; exact fs_asm
theorem fs_enI {s : Bool} : FP.Core.encode FP.Core.b64 (.inf s) = FP.Core.encode FP.Core.b64 (.inf false) + e63 s := by
  unfold FP.Core.encode
  exact fs_asm
theorem fs_rr {s : Bool} {A : Nat} {e : Int} : FP.Core.encode FP.Core.b64 (FP.Core.roundRatio FP.Core.b64 s A 1 e) = FP.Core.encode FP.Core.b64 (FP.Core.roundRatio FP.Core.b64 false A 1 e) + e63 s := by
  unfold FP.Core.roundRatio FP.Core.roundAt FP.Core.settle FP.Core.bound
  by_cases h : A = 0
  · simp only [if_pos h]; exact fs_enc
  · simp only [if_neg h]
    generalize FP.Core.nearest (FP.Core.unitsNum A e (FP.Core.quantum FP.Core.b64 A 1 e)) (FP.Core.unitsDen 1 e (FP.Core.quantum FP.Core.b64 A 1 e)) = C
    generalize FP.Core.quantum FP.Core.b64 A 1 e = Q
    by_cases h1 : C < 2 ^ FP.Core.b64.p
    · simp only [if_pos h1]
      by_cases h2 : Q ≤ FP.Core.b64.qmax
      · simp only [if_pos h2]; exact fs_enc
      · simp only [if_neg h2]; exact fs_enI
    · simp only [if_neg h1]
      by_cases h2 : Q + 1 ≤ FP.Core.b64.qmax
      · simp only [if_pos h2]; exact fs_enc
      · simp only [if_neg h2]; exact fs_enI
theorem fs_fin {c : Nat} {q : Int} (hc : c < 9007199254740992) (h1 : -1074 ≤ q) (h2 : q ≤ 971) : FP.Core.encode FP.Core.b64 (.fin false c q) < 9223372036854775808 := by
  unfold FP.Core.encode FP.Core.assemble
  rw [fs_x64, fq_t64, fq_n64]
  simp only [Bool.toNat_false, Nat.zero_mul, Nat.zero_add]
  by_cases h : c < 4503599627370496
  · rw [if_pos h]; omega
  · rw [if_neg h]
    have : (q - -1074).toNat + 1 ≤ 2046 := by omega
    have h3 := Nat.mul_le_mul_right 4503599627370496 this
    omega
theorem fs_lt {A : Nat} {e : Int} (he : -1074 ≤ e) : FP.Core.encode FP.Core.b64 (FP.Core.roundRatio FP.Core.b64 false A 1 e) < 9223372036854775808 := by
  by_cases h : A = 0
  · have : FP.Core.roundRatio FP.Core.b64 false A 1 e = .fin false 0 FP.Core.b64.qmin := by unfold FP.Core.roundRatio; rw [if_pos h]
    rw [this, fq_n64]
    exact fs_fin (by decide) (by decide) (by decide)
  · rcases fo_rr (s := false) h he with ⟨c, q, w1, w2, w3, w4, w5⟩ | w
    · rw [w1]; exact fs_fin w3 w4 w5
    · rw [w]
      decide +kernel
theorem fs_ab {X : Nat} (h : X < 9223372036854775808) (s : Bool) : s_ab (UInt64.ofNat (X + e63 s)) = UInt64.ofNat X := by
  apply UInt64.toNat_inj.mp
  unfold s_ab
  rw [UInt64.toNat_and, UInt64.toNat_ofNat', UInt64.toNat_ofNat', show (0x7fffffffffffffff : UInt64).toNat = 2 ^ 63 - 1 by decide, Nat.and_two_pow_sub_one_eq_mod]
  unfold e63
  cases s
  · simp only [Bool.false_eq_true, if_false]; omega
  · simp only [if_true]; omega
theorem fs_sub {a b : UInt64} {s t : Bool} {c d : Nat} {q r : Int} (ha : fv a = .fin s c q) (hb : fv b = .fin t d r) : FP.dsub a b = UInt64.ofNat (FP.Core.encode FP.Core.b64 (FP.Core.roundRatio FP.Core.b64 (FP.Core.sumSign s (!t) (FP.Core.sumUnits s c q (!t) d r (min q r))) (FP.Core.sumUnits s c q (!t) d r (min q r)).natAbs 1 (min q r))) := by
  unfold fv at ha hb
  show UInt64.ofNat (FP.Core.encode _ (FP.Core.round _ (FP.Core.exactSum _ (FP.Core.negate _)))) = _
  rw [ha, hb]
  rfl
theorem fs_neg {s t : Bool} {c d : Nat} {q r e : Int} : FP.Core.sumUnits t d r (!s) c q e = - FP.Core.sumUnits s c q (!t) d r e := by
  unfold FP.Core.sumUnits FP.Core.signed
  cases s <;> cases t <;> simp <;> omega
/-- the units of a difference are those of what the two stand for -/
theorem fs_fz {a b : UInt64} {s t : Bool} {c d : Nat} {q r : Int} (ha : fv a = .fin s c q) (hb : fv b = .fin t d r) : FP.Core.sumUnits s c q (!t) d r (min q r) * ((2 ^ (min q r + 1074).toNat : Nat) : Int) = fz a - fz b := by
  have hq := fo_q ha
  have hr := fo_q hb
  unfold fz
  rw [ha, hb]
  show _ = FP.Core.signed s (c * 2 ^ (q + 1074).toNat) - FP.Core.signed t (d * 2 ^ (r + 1074).toNat)
  have e1 : c * 2 ^ (q + 1074).toNat = (c * 2 ^ (q - min q r).toNat) * 2 ^ (min q r + 1074).toNat := by
    rw [Nat.mul_assoc, ← Nat.pow_add, show (q - min q r).toNat + (min q r + 1074).toNat = (q + 1074).toNat by omega]
  have e2 : d * 2 ^ (r + 1074).toNat = (d * 2 ^ (r - min q r).toNat) * 2 ^ (min q r + 1074).toNat := by
    rw [Nat.mul_assoc, ← Nat.pow_add, show (r - min q r).toNat + (min q r + 1074).toNat = (r + 1074).toNat by omega]
  rw [e1, e2]
  unfold FP.Core.sumUnits FP.Core.inUnits
  generalize c * 2 ^ (q - min q r).toNat = X
  generalize d * 2 ^ (r - min q r).toNat = Y
  rw [fo_sg, fo_sg, ← Int.sub_mul]
  congr 1
  unfold FP.Core.signed
  cases s <;> cases t <;> simp <;> omega
theorem fs_lt0 {a b : UInt64} {s t : Bool} {c d : Nat} {q r : Int} (ha : fv a = .fin s c q) (hb : fv b = .fin t d r) : s_lt a b ↔ FP.Core.sumUnits s c q (!t) d r (min q r) < 0 := by
  rw [fo_lt ⟨s, c, q, ha⟩ ⟨t, d, r, hb⟩]
  have h := fs_fz ha hb
  have hp : (0 : Int) < ((2 ^ (min q r + 1074).toNat : Nat) : Int) := by
    have : 0 < 2 ^ (min q r + 1074).toNat := Nat.pow_pos (by decide)
    omega
  generalize FP.Core.sumUnits s c q (!t) d r (min q r) = V at h ⊢
  generalize ((2 ^ (min q r + 1074).toNat : Nat) : Int) = N at h hp
  constructor
  · intro h1
    have : V * N < 0 := by omega
    rcases (show V < 0 ∨ 0 ≤ V by omega) with y | y
    · exact y
    · have := Int.mul_nonneg y (Int.le_of_lt hp)
      omega
  · intro h1
    have := Int.mul_neg_of_neg_of_pos h1 hp
    omega
theorem fb_ab1 {a b : UInt64} (ha : s_F a) (hb : s_F b) (h : s_lt a b) : s_ab (FP.dsub a b) = FP.dsub b a := by
  obtain ⟨s, c, q, h1⟩ := ha
  obtain ⟨t, d, r, h2⟩ := hb
  have hl := (fs_lt0 h1 h2).mp h
  have hq := fo_q h1
  have hr := fo_q h2
  rw [fs_sub h1 h2, fs_sub h2 h1, fs_rr, fs_ab (fs_lt (by omega))]
  rw [Int.min_comm r q, fs_neg, Int.natAbs_neg]
  have hn := fs_neg (s := s) (t := t) (c := c) (d := d) (q := q) (r := r) (e := min q r)
  have : FP.Core.sumSign t (!s) (FP.Core.sumUnits t d r (!s) c q (min q r)) = false := by
    unfold FP.Core.sumSign
    rw [hn, if_neg (by omega)]
    exact decide_eq_false (by omega)
  rw [this]
theorem fb_ab2 {a b : UInt64} (ha : s_F a) (hb : s_F b) (hN : ∀ s q, fv a = .fin s 0 q → s = false) (h : ¬ s_lt a b) : s_ab (FP.dsub a b) = FP.dsub a b := by
  obtain ⟨s, c, q, h1⟩ := ha
  obtain ⟨t, d, r, h2⟩ := hb
  have hl : ¬ FP.Core.sumUnits s c q (!t) d r (min q r) < 0 := fun z => h ((fs_lt0 h1 h2).mpr z)
  have hq := fo_q h1
  have hr := fo_q h2
  have hs : FP.Core.sumSign s (!t) (FP.Core.sumUnits s c q (!t) d r (min q r)) = false := by
    unfold FP.Core.sumSign
    by_cases h0 : FP.Core.sumUnits s c q (!t) d r (min q r) = 0
    · rw [if_pos h0]
      cases hs : s
      · rfl
      · cases ht : t
        · exfalso
          subst hs
          subst ht
          unfold FP.Core.sumUnits FP.Core.signed FP.Core.inUnits at h0
          have key : ∀ X Y : Nat, -(X : Int) + -(Y : Int) = 0 → X = 0 := by omega
          have hc : c * 2 ^ (q - min q r).toNat = 0 := key _ (d * 2 ^ (r - min q r).toNat) h0
          have hc0 : c = 0 := by
            rcases Nat.mul_eq_zero.mp hc with z | z
            · exact z
            · have := Nat.pow_pos (n := (q - min q r).toNat) (show 0 < 2 by decide)
              omega
          subst hc0
          have := hN _ _ h1
          cases this
        · rfl
    · rw [if_neg h0]
      exact decide_eq_false hl
  rw [fs_sub h1 h2, hs, fs_rr]
  have := fs_ab (X := FP.Core.encode FP.Core.b64 (FP.Core.roundRatio FP.Core.b64 false (FP.Core.sumUnits s c q (!t) d r (min q r)).natAbs 1 (min q r))) (fs_lt (by omega)) false
  rw [this]
  rfl
/-- an int by 8 is 0 for 0 alone -/
theorem fo_rr8 {s : Bool} {A : Nat} {e : Int} (hA : A ≠ 0) (hA2 : A < 9007199254740992) (he : -900 ≤ e) : (∃ c q, FP.Core.roundRatio FP.Core.b64 s A 4503599627370496 e = .fin s c q ∧ c ≠ 0 ∧ c < 2 ^ 53 ∧ -1074 ≤ q ∧ q ≤ 971) ∨ FP.Core.roundRatio FP.Core.b64 s A 4503599627370496 e = .inf s := by
  unfold FP.Core.roundRatio FP.Core.roundAt
  rw [if_neg hA]
  have hl1 : A.log2 ≤ 52 := by
    have := (Nat.log2_lt hA (k := 53)).mpr (by omega)
    omega
  have hd : Nat.log2 4503599627370496 = 52 := by decide +kernel
  have hq0 : -1074 ≤ FP.Core.quantum FP.Core.b64 A 4503599627370496 e := by
    unfold FP.Core.quantum
    rw [fq_n64]
    omega
  have hq1 : FP.Core.quantum FP.Core.b64 A 4503599627370496 e + 52 ≤ e := by
    unfold FP.Core.quantum FP.Core.leading
    rw [fq_n64, fq_p64, hd]
    simp only []
    split <;> omega
  have hn : 1 ≤ FP.Core.nearest (FP.Core.unitsNum A e (FP.Core.quantum FP.Core.b64 A 4503599627370496 e)) (FP.Core.unitsDen 4503599627370496 e (FP.Core.quantum FP.Core.b64 A 4503599627370496 e)) := by
    refine fx_near_ge ?_ ?_
    · unfold FP.Core.unitsDen
      exact Nat.mul_pos (by decide) (Nat.two_pow_pos _)
    · unfold FP.Core.unitsDen FP.Core.unitsNum
      rw [show (FP.Core.quantum FP.Core.b64 A 4503599627370496 e - e).toNat = 0 by omega, Nat.one_mul, Nat.pow_zero, Nat.mul_one]
      have h1 : 2 ^ 52 ≤ 2 ^ (e - FP.Core.quantum FP.Core.b64 A 4503599627370496 e).toNat := Nat.pow_le_pow_right (by decide) (by omega)
      exact Nat.le_trans (by decide) (Nat.le_trans h1 (Nat.le_mul_of_pos_left _ (Nat.pos_of_ne_zero hA)))
  generalize FP.Core.quantum FP.Core.b64 A 4503599627370496 e = q at hn hq0 ⊢
  generalize FP.Core.nearest _ _ = c at hn ⊢
  unfold FP.Core.settle FP.Core.bound
  rw [fq_p64, fq_x64, fq_t64]
  by_cases h1 : c < 2 ^ 53
  · rw [if_pos h1]
    by_cases h2 : q ≤ 971
    · rw [if_pos h2]
      exact Or.inl ⟨c, q, rfl, by omega, h1, hq0, h2⟩
    · rw [if_neg h2]
      exact Or.inr rfl
  · rw [if_neg h1]
    by_cases h2 : q + 1 ≤ 971
    · rw [if_pos h2]
      exact Or.inl ⟨_, q + 1, rfl, by decide, by decide, by omega, h2⟩
    · rw [if_neg h2]
      exact Or.inr rfl
theorem fs_8 : FP.Core.decode FP.Core.b64 (4620693217682128896 : UInt64).toNat = .fin false 4503599627370496 (-49) := by decide +kernel
theorem fs_8nz {x : Int32} (h : x ≠ 0) : ¬ s_eq (o_8 x) 0 := by
  have h1 : x.toInt.natAbs ≤ 2 ^ 40 := by
    have a := x.toInt_le
    have b := x.le_toInt
    have e1 : Int32.maxValue.toInt = 2147483647 := by decide
    rw [e1] at a
    have : x.toInt.natAbs ≤ 2147483648 := by omega
    exact Nat.le_trans this (by decide)
  have hz : x.toInt ≠ 0 := fun z => h (Int32.toInt_inj.mp (by rw [z]; rfl))
  obtain ⟨d, r, h3, h4, h5, h6, h7⟩ := fk_ofI h1 hz
  have hfit := fq_fit h3
  have e2 : FP.i2d x = UInt64.ofNat (FP.Core.fromInt FP.Core.b64 x.toInt) := rfl
  have hd53 : d < 9007199254740992 := by have := hfit.1; rw [fq_p64] at this; omega
  have hr : (0 - r).toNat < 53 := by
    rcases Nat.lt_or_ge (0 - r).toNat 53 with y | y
    · exact y
    · exfalso
      have h9 : (9007199254740992 : Nat) ≤ 2 ^ (0 - r).toNat := Nat.le_trans (by decide) (Nat.pow_le_pow_right (by decide) y)
      have h10 : 2 ^ (0 - r).toNat ≤ x.toInt.natAbs * 2 ^ (0 - r).toNat := Nat.le_mul_of_pos_left _ (by omega)
      rw [← h6] at h10
      omega
  unfold fv at h3
  show ¬ s_eq (UInt64.ofNat (FP.Core.encode _ (FP.Core.quotient _ (FP.Core.decode _ (FP.i2d x).toNat) _))) 0
  rw [e2, h3, fs_8]
  simp only [FP.Core.quotient, if_neg (show ¬ (4503599627370496 : Nat) = 0 by decide)]
  rcases fo_rr8 (s := (decide (x.toInt < 0) != false)) (A := d) (e := r - -49) h7 hd53 (by omega) with ⟨c', q', w1, w2, w3, w4, w5⟩ | w
  · rw [w1]
    obtain ⟨d', r', v1, v2⟩ := fo_enc (s := (decide (x.toInt < 0) != false)) w2 w3 w4 w5
    exact fo_nz (Or.inl ⟨d', r', v1, v2⟩)
  · rw [w]
    exact fo_nz (Or.inr fo_inf)
theorem o8_N {x : Int32} : s_N (o_8 x) := by
  refine ⟨s_Bn.f fb_8n, fun h => ?_⟩
  by_cases e : x = 0
  · subst e; unfold o_8; decide +kernel
  · exact absurd h (fs_8nz e)
end FS
