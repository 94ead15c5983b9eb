set_option maxRecDepth 100000
/-! NUMBERS, own laws over the model's definitions: rounding that is exact, encodings -/
section FPA
theorem fx_lead {A : Nat} (h : A ≠ 0) : FP.Core.leading A 1 = (A.log2 : Int) := by
  have h1 : (1 : Nat).log2 = 0 := by decide
  unfold FP.Core.leading
  simp only [h1]
  have e1 : ((A.log2 : Int) - ((0 : Nat) : Int)).toNat = A.log2 := by omega
  have e2 : (-((A.log2 : Int) - ((0 : Nat) : Int))).toNat = 0 := by omega
  rw [e1, e2, if_pos (by simpa using Nat.log2_self_le h)]
  omega
theorem fx_log {c k : Nat} (h : c ≠ 0) : (c * 2 ^ k).log2 = c.log2 + k := by
  have h2 := Nat.two_pow_pos k
  refine (Nat.log2_eq_iff (Nat.mul_ne_zero h (by omega))).mpr ⟨?_, ?_⟩
  · rw [Nat.pow_add]
    exact Nat.mul_le_mul_right _ (Nat.log2_self_le h)
  · rw [show c.log2 + k + 1 = (c.log2 + 1) + k by omega, Nat.pow_add]
    exact Nat.mul_lt_mul_of_pos_right Nat.lt_log2_self h2
theorem fx_near {c D : Nat} (h : 0 < D) : FP.Core.nearest (c * D) D = c := by
  unfold FP.Core.nearest
  rw [Nat.mul_mod_left, if_pos (by omega), Nat.mul_div_cancel _ h]
theorem fx_near_le {A D M : Nat} (hD : 0 < D) (h : A ≤ M * D) : FP.Core.nearest A D ≤ M := by
  unfold FP.Core.nearest
  have hq : A / D ≤ M := Nat.div_le_of_le_mul (by rw [Nat.mul_comm]; exact h)
  have hdm := Nat.div_add_mod A D
  by_cases e : A / D = M
  · have h0 : A % D = 0 := by
      rw [e, Nat.mul_comm] at hdm
      omega
    rw [h0, if_pos (by omega)]
    omega
  · split
    · omega
    · split <;> omega
theorem fx_near_ge {A D M : Nat} (hD : 0 < D) (h : M * D ≤ A) : M ≤ FP.Core.nearest A D := by
  unfold FP.Core.nearest
  have hq : M ≤ A / D := (Nat.le_div_iff_mul_le hD).mpr h
  split
  · exact hq
  · split <;> omega
/-- it is a number of the format, as it's written -/
def fx_fit (f : FP.Core.Fmt) (c : Nat) (q : Int) : Prop := c < 2 ^ f.p ∧ f.qmin ≤ q ∧ q ≤ f.qmax ∧ (q = f.qmin ∨ f.tails ≤ c)
theorem fx_quant {f : FP.Core.Fmt} (hp : 1 ≤ f.p) {A : Nat} {e : Int} (hA : A ≠ 0) {c : Nat} {q : Int} (hf : fx_fit f c q) (hv : (e ≤ q ∧ A = c * 2 ^ (q - e).toNat) ∨ (q ≤ e ∧ c = A * 2 ^ (e - q).toNat)) : FP.Core.quantum f A 1 e = q := by
  obtain ⟨h1, h2, h3, h4⟩ := hf
  have hc : c ≠ 0 := by
    rcases hv with ⟨_, rfl⟩ | ⟨_, rfl⟩
    · intro h; subst h; simp at hA
    · exact Nat.mul_ne_zero hA (by have := Nat.two_pow_pos (e - q).toNat; omega)
  have hl : (A.log2 : Int) + e = (c.log2 : Int) + q := by
    rcases hv with ⟨h, rfl⟩ | ⟨h, rfl⟩
    · rw [fx_log hc]; omega
    · rw [fx_log hA]; omega
  have hl2 : c.log2 < f.p := (Nat.log2_lt hc).mpr h1
  unfold FP.Core.quantum
  rw [fx_lead hA, Int.max_def]
  rcases h4 with h4 | h4
  · split <;> omega
  · unfold FP.Core.Fmt.tails at h4
    have := (Nat.le_log2 hc).mpr h4
    split <;> omega
theorem fx_exact {f : FP.Core.Fmt} (hp : 1 ≤ f.p) {s : Bool} {A : Nat} {e : Int} (hA : A ≠ 0) {c : Nat} {q : Int} (hf : fx_fit f c q) (hv : (e ≤ q ∧ A = c * 2 ^ (q - e).toNat) ∨ (q ≤ e ∧ c = A * 2 ^ (e - q).toNat)) : FP.Core.roundRatio f s A 1 e = .fin s c q := by
  have hq := fx_quant hp hA hf hv
  unfold FP.Core.roundRatio
  rw [if_neg hA, hq]
  unfold FP.Core.roundAt
  have hn : FP.Core.nearest (FP.Core.unitsNum A e q) (FP.Core.unitsDen 1 e q) = c := by
    unfold FP.Core.unitsNum FP.Core.unitsDen
    rcases hv with ⟨h, rfl⟩ | ⟨h, rfl⟩
    · rw [show (e - q).toNat = 0 by omega, Nat.pow_zero, Nat.mul_one, Nat.one_mul]
      exact fx_near (Nat.two_pow_pos _)
    · rw [show (q - e).toNat = 0 by omega, Nat.pow_zero, Nat.mul_one]
      have := @fx_near (A * 2 ^ (e - q).toNat) 1 (by decide)
      rw [Nat.mul_one] at this
      exact this
  rw [hn]
  unfold FP.Core.settle FP.Core.bound
  rw [if_pos hf.1, if_pos hf.2.2.1]
/-! encodings -/
theorem fx_T {f : FP.Core.Fmt} {s : Bool} {e t : Nat} (ht : t < f.tails) : FP.Core.fieldT f (FP.Core.assemble f s e t) = t := by
  unfold FP.Core.fieldT FP.Core.assemble
  rw [Nat.add_comm, Nat.add_mul_mod_self_right, Nat.mod_eq_of_lt ht]
theorem fx_div {f : FP.Core.Fmt} {s : Bool} {e t : Nat} (ht : t < f.tails) : FP.Core.assemble f s e t / f.tails = s.toNat * f.exps + e := by
  unfold FP.Core.assemble
  have h0 : 0 < f.tails := by omega
  rw [Nat.add_comm, Nat.add_mul_div_right _ _ h0, Nat.div_eq_of_lt ht, Nat.zero_add]
theorem fx_E {f : FP.Core.Fmt} {s : Bool} {e t : Nat} (ht : t < f.tails) (he : e < f.exps) : FP.Core.fieldE f (FP.Core.assemble f s e t) = e := by
  unfold FP.Core.fieldE
  rw [fx_div ht, Nat.add_comm, Nat.add_mul_mod_self_right, Nat.mod_eq_of_lt he]
theorem fx_S {f : FP.Core.Fmt} {s : Bool} {e t : Nat} (ht : t < f.tails) (he : e < f.exps) : FP.Core.fieldS f (FP.Core.assemble f s e t) = s := by
  unfold FP.Core.fieldS
  have h0 : 0 < f.exps := by omega
  rw [fx_div ht, Nat.add_comm, Nat.add_mul_div_right _ _ h0, Nat.div_eq_of_lt he, Nat.zero_add]
  cases s <;> rfl
/-- a good format: its numbers' exponents are below the greatest -/
def fx_good (f : FP.Core.Fmt) : Prop := 2 ≤ f.p ∧ 2 < f.exps ∧ (f.qmax - f.qmin).toNat + 1 < f.exps - 1 ∧ 2 ^ f.p = f.tails + f.tails ∧ 0 < f.tails
theorem fx_g64 : fx_good FP.Core.b64 := by unfold fx_good; decide +kernel
theorem fx_g32 : fx_good FP.Core.b32 := by unfold fx_good; decide +kernel
theorem fx_de {f : FP.Core.Fmt} (hg : fx_good f) {s : Bool} {c : Nat} {q : Int} (hf : fx_fit f c q) : FP.Core.decode f (FP.Core.encode f (.fin s c q)) = .fin s c q := by
  obtain ⟨g1, g2, g3, g4, g5⟩ := hg
  obtain ⟨h1, h2, h3, h4⟩ := hf
  unfold FP.Core.encode
  by_cases hc : c < f.tails
  · have hq : q = f.qmin := h4.elim id (fun h => absurd h (by omega))
    simp only [if_pos hc]
    unfold FP.Core.decode
    rw [fx_E hc (by omega), if_neg (by omega), if_pos rfl, fx_T hc, fx_S hc (by omega), hq]
  · simp only [if_neg hc]
    have ht : c - f.tails < f.tails := by omega
    have he : (q - f.qmin).toNat + 1 < f.exps - 1 := by omega
    unfold FP.Core.decode
    rw [fx_E ht (by omega), if_neg (by omega), if_neg (by omega), fx_T ht, fx_S ht (by omega)]
    have e1 : f.tails + (c - f.tails) = c := by omega
    have e2 : f.qmin + ((((q - f.qmin).toNat + 1 : Nat) : Int) - 1) = q := by omega
    rw [e1, e2]
theorem fx_lt {f : FP.Core.Fmt} (hg : fx_good f) {s : Bool} {e t : Nat} (ht : t < f.tails) (he : e < f.exps) : FP.Core.assemble f s e t < 2 * f.exps * f.tails := by
  unfold FP.Core.assemble
  have h1 : s.toNat ≤ 1 := by cases s <;> decide
  have h2 : s.toNat * f.exps + e + 1 ≤ 2 * f.exps := by
    have := Nat.mul_le_mul_right f.exps h1
    omega
  have h3 := Nat.mul_le_mul_right f.tails h2
  rw [Nat.add_mul, Nat.one_mul] at h3
  omega
theorem fx_el {f : FP.Core.Fmt} (hg : fx_good f) {s : Bool} {c : Nat} {q : Int} (hf : fx_fit f c q) : FP.Core.encode f (.fin s c q) < 2 * f.exps * f.tails := by
  have hg' := hg
  obtain ⟨g1, g2, g3, g4, g5⟩ := hg
  obtain ⟨h1, h2, h3, h4⟩ := hf
  unfold FP.Core.encode
  by_cases hc : c < f.tails
  · simp only [if_pos hc]
    exact fx_lt hg' hc (by omega)
  · simp only [if_neg hc]
    exact fx_lt hg' (by omega) (by omega)
/-- what an encoding stands for, if it's a number -/
theorem fx_dfit {f : FP.Core.Fmt} (hg : fx_good f) (hq : f.qmax = f.qmin + ((f.exps : Int) - 3)) {n : Nat} {s : Bool} {c : Nat} {q : Int} (h : FP.Core.decode f n = .fin s c q) : fx_fit f c q := by
  obtain ⟨g1, g2, g3, g4, g5⟩ := hg
  have hT : FP.Core.fieldT f n < f.tails := Nat.mod_lt _ g5
  have hE : FP.Core.fieldE f n < f.exps := Nat.mod_lt _ (by omega)
  unfold FP.Core.decode at h
  split at h
  · split at h <;> cases h
  · split at h
    · cases h
      exact ⟨by omega, Int.le_refl _, by omega, Or.inl rfl⟩
    · cases h
      exact ⟨by omega, by omega, by omega, Or.inr (by omega)⟩
theorem fx_ed {f : FP.Core.Fmt} (hg : fx_good f) {n : Nat} (hn : n < 2 * f.exps * f.tails) {s : Bool} {c : Nat} {q : Int} (h : FP.Core.decode f n = .fin s c q) : FP.Core.encode f (.fin s c q) = n := by
  obtain ⟨g1, g2, g3, g4, g5⟩ := hg
  have hT : FP.Core.fieldT f n < f.tails := Nat.mod_lt _ g5
  have hE : FP.Core.fieldE f n < f.exps := Nat.mod_lt _ (by omega)
  have h1 := Nat.div_add_mod n f.tails
  have h2 := Nat.div_add_mod (n / f.tails) f.exps
  have h3 : n / f.tails / f.exps < 2 := by
    rw [Nat.div_div_eq_div_mul]
    refine Nat.div_lt_of_lt_mul ?_
    rw [show f.tails * f.exps * 2 = 2 * f.exps * f.tails by rw [Nat.mul_comm, Nat.mul_comm f.tails, Nat.mul_assoc]]
    exact hn
  have key : FP.Core.assemble f (FP.Core.fieldS f n) (FP.Core.fieldE f n) (FP.Core.fieldT f n) = n := by
    unfold FP.Core.assemble
    have hs : (FP.Core.fieldS f n).toNat = n / f.tails / f.exps := by
      unfold FP.Core.fieldS
      generalize n / f.tails / f.exps = k at h3
      have : k = 0 ∨ k = 1 := by omega
      rcases this with rfl | rfl <;> rfl
    rw [hs]
    unfold FP.Core.fieldE FP.Core.fieldT
    rw [Nat.mul_comm (n / f.tails / f.exps), h2, Nat.mul_comm, h1]
  unfold FP.Core.decode at h
  split at h
  · split at h <;> cases h
  · split at h
    · rename_i hE0
      cases h
      unfold FP.Core.encode
      simp only [if_pos hT]
      rw [hE0] at key
      exact key
    · cases h
      unfold FP.Core.encode
      have hnc : ¬ f.tails + FP.Core.fieldT f n < f.tails := by omega
      simp only [if_neg hnc]
      rw [show f.tails + FP.Core.fieldT f n - f.tails = FP.Core.fieldT f n by omega]
      rename_i hE1 hE2
      rw [show (f.qmin + ((FP.Core.fieldE f n : Int) - 1) - f.qmin).toNat + 1 = FP.Core.fieldE f n by omega]
      exact key
/-- two numbers of a format of one value are one -/
theorem fx_uni {f : FP.Core.Fmt} (hg : fx_good f) {c d : Nat} {q r : Int} (h1 : fx_fit f c q) (h2 : fx_fit f d r) (hqr : q ≤ r) (hc : c ≠ 0) (h : c = d * 2 ^ (r - q).toNat) : c = d ∧ q = r := by
  obtain ⟨g1, g2, g3, g4, g5⟩ := hg
  obtain ⟨a1, a2, a3, a4⟩ := h1
  obtain ⟨b1, b2, b3, b4⟩ := h2
  by_cases e : q = r
  · subst e
    refine ⟨?_, rfl⟩
    rw [show (q - q).toNat = 0 by omega, Nat.pow_zero, Nat.mul_one] at h
    exact h
  · exfalso
    have hd : f.tails ≤ d := b4.elim (fun h => by omega) id
    obtain ⟨k, hk⟩ : ∃ k, (r - q).toNat = k + 1 := ⟨(r - q).toNat - 1, by omega⟩
    rw [hk, Nat.pow_succ, Nat.mul_comm (2 ^ k), ← Nat.mul_assoc] at h
    have h3 := Nat.mul_le_mul_left (d * 2) (Nat.two_pow_pos k)
    rw [Nat.mul_one] at h3
    omega
end FPA
