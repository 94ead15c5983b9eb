set_option maxRecDepth 100000
/-! NUMBERS: what is no NaN, what is bounded, what is kept -/
section FPQ
def fv (a : UInt64) : FP.Core.Datum := FP.Core.decode FP.Core.b64 a.toNat
def fw (a : UInt32) : FP.Core.Datum := FP.Core.decode FP.Core.b32 a.toNat
def s_F (v : UInt64) : Prop := ∃ s c q, fv v = .fin s c q
def s_B (v : UInt64) : Prop := ∃ s c q, fv v = .fin s c q ∧ c * 2 ^ (q + 1074).toNat ≤ 2 ^ 1114
def s_C (a : UInt32) : Prop := ∃ s c q, fw a = .fin s c q ∧ c * 2 ^ (q + 149).toNat ≤ 2 ^ 189
theorem s_B.f {v : UInt64} (h : s_B v) : s_F v := by obtain ⟨s, c, q, h, -⟩ := h; exact ⟨s, c, q, h⟩
theorem fq_t64 : FP.Core.b64.tails = 4503599627370496 := by decide +kernel
theorem fq_e64 : FP.Core.b64.exps = 2048 := by decide +kernel
theorem fq_p64 : FP.Core.b64.p = 53 := rfl
theorem fq_n64 : FP.Core.b64.qmin = -1074 := by decide +kernel
theorem fq_x64 : FP.Core.b64.qmax = 971 := by decide +kernel
theorem fq_t32 : FP.Core.b32.tails = 8388608 := by decide +kernel
theorem fq_e32 : FP.Core.b32.exps = 256 := by decide +kernel
theorem fq_p32 : FP.Core.b32.p = 24 := rfl
theorem fq_n32 : FP.Core.b32.qmin = -149 := by decide +kernel
theorem fq_x32 : FP.Core.b32.qmax = 104 := by decide +kernel
theorem fq_v64 {v : UInt64} : vf_n64 v ↔ v.toNat % 9223372036854775808 ≤ 9218868437227405312 := by
  unfold vf_n64
  rw [UInt64.le_iff_toNat_le, UInt64.toNat_and]
  have e : (0x7fffffffffffffff : UInt64).toNat = 2 ^ 63 - 1 := by decide
  rw [e, Nat.and_two_pow_sub_one_eq_mod]
  exact Iff.rfl
theorem fq_v32 {v : UInt32} : vf_n32 v ↔ v.toNat % 2147483648 ≤ 2139095040 := by
  unfold vf_n32
  rw [UInt32.le_iff_toNat_le, UInt32.toNat_and]
  have e : (0x7fffffff : UInt32).toNat = 2 ^ 31 - 1 := by decide
  rw [e, Nat.and_two_pow_sub_one_eq_mod]
  exact Iff.rfl
theorem fq_asm {s : Bool} {e t : Nat} (ht : t < 4503599627370496) (he : e ≤ 2046 ∨ (e = 2047 ∧ t = 0)) : vf_n64 (UInt64.ofNat (FP.Core.assemble FP.Core.b64 s e t)) := by
  rw [fq_v64]
  unfold FP.Core.assemble
  rw [fq_t64, fq_e64, UInt64.toNat_ofNat']
  cases s <;> simp only [Bool.toNat_true, Bool.toNat_false] <;> omega
theorem fq_asm32 {s : Bool} {e t : Nat} (ht : t < 8388608) (he : e ≤ 254 ∨ (e = 255 ∧ t = 0)) : vf_n32 (UInt32.ofNat (FP.Core.assemble FP.Core.b32 s e t)) := by
  rw [fq_v32]
  unfold FP.Core.assemble
  rw [fq_t32, fq_e32, UInt32.toNat_ofNat']
  cases s <;> simp only [Bool.toNat_true, Bool.toNat_false] <;> omega
theorem fq_bound {s : Bool} {c : Nat} {q : Int} (hc : c < 2 ^ 53) : vf_n64 (UInt64.ofNat (FP.Core.encode FP.Core.b64 (FP.Core.bound FP.Core.b64 s c q))) := by
  unfold FP.Core.bound
  rw [fq_x64]
  split
  · unfold FP.Core.encode
    simp only [fq_t64, fq_n64]
    split
    · exact fq_asm (by omega) (Or.inl (by omega))
    · exact fq_asm (by omega) (Or.inl (by omega))
  · unfold FP.Core.encode
    simp only [fq_e64]
    exact fq_asm (by omega) (Or.inr ⟨rfl, rfl⟩)
theorem fq_bound32 {s : Bool} {c : Nat} {q : Int} (hc : c < 2 ^ 24) : vf_n32 (UInt32.ofNat (FP.Core.encode FP.Core.b32 (FP.Core.bound FP.Core.b32 s c q))) := by
  unfold FP.Core.bound
  rw [fq_x32]
  split
  · unfold FP.Core.encode
    simp only [fq_t32, fq_n32]
    split
    · exact fq_asm32 (by omega) (Or.inl (by omega))
    · exact fq_asm32 (by omega) (Or.inl (by omega))
  · unfold FP.Core.encode
    simp only [fq_e32]
    exact fq_asm32 (by omega) (Or.inr ⟨rfl, rfl⟩)
theorem fq_rr {s : Bool} {A B : Nat} {e : Int} : vf_n64 (UInt64.ofNat (FP.Core.encode FP.Core.b64 (FP.Core.roundRatio FP.Core.b64 s A B e))) := by
  unfold FP.Core.roundRatio
  split
  · unfold FP.Core.encode
    simp only [fq_t64]
    rw [if_pos (by omega)]
    exact fq_asm (by omega) (Or.inl (by omega))
  · unfold FP.Core.roundAt FP.Core.settle
    rw [fq_p64]
    split
    · exact fq_bound (by assumption)
    · exact fq_bound (by rw [fq_t64]; omega)
theorem fq_rr32 {s : Bool} {A B : Nat} {e : Int} : vf_n32 (UInt32.ofNat (FP.Core.encode FP.Core.b32 (FP.Core.roundRatio FP.Core.b32 s A B e))) := by
  unfold FP.Core.roundRatio
  split
  · unfold FP.Core.encode
    simp only [fq_t32]
    rw [if_pos (by omega)]
    exact fq_asm32 (by omega) (Or.inl (by omega))
  · unfold FP.Core.roundAt FP.Core.settle
    rw [fq_p32]
    split
    · exact fq_bound32 (by assumption)
    · exact fq_bound32 (by rw [fq_t32]; omega)
/-! no NaN comes of finite ones -/
theorem fb_add {a b : UInt64} (ha : s_F a) (hb : s_F b) : vf_n64 (FP.dadd a b) := by
  obtain ⟨s, c, q, ha⟩ := ha
  obtain ⟨t, d, r, hb⟩ := hb
  unfold fv at ha hb
  show vf_n64 (UInt64.ofNat (FP.Core.encode _ (FP.Core.round _ (FP.Core.exactSum _ _))))
  rw [ha, hb]
  exact fq_rr
theorem fb_sub {a b : UInt64} (ha : s_F a) (hb : s_F b) : vf_n64 (FP.dsub a b) := by
  obtain ⟨s, c, q, ha⟩ := ha
  obtain ⟨t, d, r, hb⟩ := hb
  unfold fv at ha hb
  show vf_n64 (UInt64.ofNat (FP.Core.encode _ (FP.Core.round _ (FP.Core.exactSum _ (FP.Core.negate _)))))
  rw [ha, hb]
  exact fq_rr
theorem fb_mul {a b : UInt64} (ha : s_F a) (hb : s_F b) : vf_n64 (FP.dmul a b) := by
  obtain ⟨s, c, q, ha⟩ := ha
  obtain ⟨t, d, r, hb⟩ := hb
  unfold fv at ha hb
  show vf_n64 (UInt64.ofNat (FP.Core.encode _ (FP.Core.round _ (FP.Core.exactProduct _ _))))
  rw [ha, hb]
  exact fq_rr
theorem fq_cmp (a b : Int) : compare a b = if a < b then .lt else if a = b then .eq else .gt := rfl
theorem fq_v0 : FP.Core.decode FP.Core.b64 (0 : UInt64).toNat = .fin false 0 (-1074) := by decide +kernel
theorem fq_nz {b : UInt64} {t : Bool} {d : Nat} {r : Int} (hb : fv b = .fin t d r) : s_eq b 0 ↔ d = 0 := by
  unfold s_eq
  show FP.Core.order (fv b) (FP.Core.decode FP.Core.b64 (0 : UInt64).toNat) = _ ↔ _
  rw [hb, fq_v0]
  have h2 := Nat.two_pow_pos (r - min r (-1074)).toNat
  simp only [FP.Core.order, FP.Core.inUnits, Nat.zero_mul, FP.Core.signed, Option.some.injEq, fq_cmp]
  constructor
  · intro h
    by_cases hd : d = 0
    · exact hd
    · exfalso
      have : 0 < d * 2 ^ (r - min r (-1074)).toNat := Nat.mul_pos (by omega) h2
      generalize d * 2 ^ (r - min r (-1074)).toNat = X at this h
      cases t
      · simp at h
        split at h
        · cases h
        · split at h
          · omega
          · cases h
      · simp at h
        split at h
        · cases h
        · cases h
  · intro h
    subst h
    simp
theorem fb_div {a b : UInt64} (ha : s_F a) (hb : s_F b) (hz : ¬ s_eq b 0) : vf_n64 (FP.ddiv a b) := by
  obtain ⟨s, c, q, ha⟩ := ha
  obtain ⟨t, d, r, hb⟩ := hb
  have hd : d ≠ 0 := fun e => hz ((fq_nz hb).mpr e)
  unfold fv at ha hb
  show vf_n64 (UInt64.ofNat (FP.Core.encode _ (FP.Core.quotient _ _ _)))
  rw [ha, hb]
  simp only [FP.Core.quotient, if_neg hd]
  exact fq_rr
theorem fb_rem {a b : UInt64} (ha : s_F a) (hb : s_F b) (hz : ¬ s_eq b 0) : vf_n64 (FP.drem a b) := by
  obtain ⟨s, c, q, ha⟩ := ha
  obtain ⟨t, d, r, hb⟩ := hb
  have hd : d ≠ 0 := fun e => hz ((fq_nz hb).mpr e)
  unfold fv at ha hb
  show vf_n64 (UInt64.ofNat (FP.Core.encode _ (FP.Core.round _ (FP.Core.exactRemainder _ _))))
  rw [ha, hb]
  simp only [FP.Core.exactRemainder, if_neg hd]
  exact fq_rr
theorem fb_nan {v : UInt64} (h : vf_n64 v) : fv v ≠ .nan := by
  rw [fq_v64] at h
  unfold fv FP.Core.decode FP.Core.fieldE FP.Core.fieldT
  rw [fq_t64, fq_e64]
  have hl := v.toNat_lt
  intro e
  split at e
  · split at e
    · cases e
    · omega
  · split at e <;> cases e
theorem fb_Fn {v : UInt64} (h : s_F v) : vf_n64 v := by
  obtain ⟨s, c, q, h⟩ := h
  rw [fq_v64]
  unfold fv FP.Core.decode FP.Core.fieldE FP.Core.fieldT at h
  rw [fq_t64, fq_e64] at h
  have hl := v.toNat_lt
  split at h
  · split at h <;> cases h
  · omega
theorem fb_Fn32 {v : UInt32} (h : ∃ s c q, fw v = .fin s c q) : vf_n32 v := by
  obtain ⟨s, c, q, h⟩ := h
  rw [fq_v32]
  unfold fw FP.Core.decode FP.Core.fieldE FP.Core.fieldT at h
  rw [fq_t32, fq_e32] at h
  have hl := v.toNat_lt
  split at h
  · split at h <;> cases h
  · omega
theorem fq_fit {v : UInt64} {s : Bool} {c : Nat} {q : Int} (h : fv v = .fin s c q) : fx_fit FP.Core.b64 c q := fx_dfit fx_g64 (by decide +kernel) h
theorem fq_fit32 {v : UInt32} {s : Bool} {c : Nat} {q : Int} (h : fw v = .fin s c q) : fx_fit FP.Core.b32 c q := fx_dfit fx_g32 (by decide +kernel) h
/-- what isn't far is bounded -/
theorem fb_near {v : UInt64} (h : vf_n64 v) (hf : ¬ s_far v) : s_B v := by
  have hn := fb_nan h
  have d1 : FP.Core.decode FP.Core.b64 (4786511204640096256 : UInt64).toNat = .fin false 8192000000000000 (-13) := by decide +kernel
  have d2 : FP.Core.decode FP.Core.b64 (14009883241494872064 : UInt64).toNat = .fin true 8192000000000000 (-13) := by decide +kernel
  have o1 : ¬ FP.Core.order (fv v) (.fin false 8192000000000000 (-13)) = some .gt := fun e => hf (Or.inl (by unfold s_gt; show FP.Core.order (fv v) (FP.Core.decode FP.Core.b64 (4786511204640096256 : UInt64).toNat) = _; rw [d1]; exact e))
  have o2 : ¬ FP.Core.order (fv v) (.fin true 8192000000000000 (-13)) = some .lt := fun e => hf (Or.inr (by unfold s_lt; show FP.Core.order (fv v) (FP.Core.decode FP.Core.b64 (14009883241494872064 : UInt64).toNat) = _; rw [d2]; exact e))
  cases hv : fv v with
  | nan => exact absurd hv hn
  | inf s =>
    rw [hv] at o1 o2
    cases s
    · exact absurd (by decide +kernel) o1
    · exact absurd (by decide +kernel) o2
  | fin s c q =>
    rw [hv] at o1 o2
    have hfit := fq_fit hv
    obtain ⟨f1, f2, f3, f4⟩ := hfit
    rw [fq_n64] at f2
    refine ⟨s, c, q, hv, ?_⟩
    simp only [FP.Core.order, FP.Core.inUnits, FP.Core.signed, Option.some.injEq, fq_cmp] at o1 o2
    have hX : c * 2 ^ (q - min q (-13)).toNat ≤ 8192000000000000 * 2 ^ (-13 - min q (-13)).toNat := by
      generalize c * 2 ^ (q - min q (-13)).toNat = X at o1 o2 ⊢
      generalize 8192000000000000 * 2 ^ (-13 - min q (-13)).toNat = Y at o1 o2 ⊢
      cases s
      · simp at o1 o2
        apply Decidable.byContradiction
        intro hc
        apply o1
        rw [if_neg (by omega), if_neg (by omega)]
      · simp at o1 o2
        apply Decidable.byContradiction
        intro hc
        exact hc o2.1
    have hk := Nat.mul_le_mul_right (2 ^ (min q (-13) + 1074).toNat) hX
    rw [Nat.mul_assoc, Nat.mul_assoc, ← Nat.pow_add, ← Nat.pow_add] at hk
    rw [show (q - min q (-13)).toNat + (min q (-13) + 1074).toNat = (q + 1074).toNat by omega, show (-13 - min q (-13)).toNat + (min q (-13) + 1074).toNat = 1061 by omega] at hk
    refine Nat.le_trans hk ?_
    rw [show (1114 : Nat) = 53 + 1061 by rfl, Nat.pow_add]
    exact Nat.mul_le_mul_right _ (by decide)
end FPQ
