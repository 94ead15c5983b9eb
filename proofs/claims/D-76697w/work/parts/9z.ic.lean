set_option maxRecDepth 100000
/-! keeping a number below 2^39 keeps it there: for swing -/
section IC
def s_C9 (a : UInt32) : Prop := ∃ s c q, fw a = .fin s c q ∧ c * 2 ^ (q + 149).toNat ≤ 2 ^ 188
theorem s_C9.c {a : UInt32} (h : s_C9 a) : s_C a := by
  obtain ⟨s, c, q, h, hb⟩ := h
  exact ⟨s, c, q, h, Nat.le_trans hb (by decide +kernel)⟩
theorem fk_C9 {s : Bool} {c : Nat} {q : Int} (hc : c < 2 ^ 24) (h1 : -149 ≤ q) (h2 : q ≤ 104) (h : c * 2 ^ (q + 149).toNat ≤ 2 ^ 188) : s_C9 (UInt32.ofNat (FP.Core.encode FP.Core.b32 (.fin s c q))) := by
  by_cases ht : c < FP.Core.b32.tails
  · have e : FP.Core.encode FP.Core.b32 (.fin s c q) = FP.Core.encode FP.Core.b32 (.fin s c (-149)) := by
      unfold FP.Core.encode
      simp only [if_pos ht]
    rw [e]
    refine ⟨s, c, -149, fk_w ⟨hc, by rw [fq_n32]; omega, by rw [fq_x32]; omega, Or.inl (by rw [fq_n32])⟩, ?_⟩
    refine Nat.le_trans (Nat.mul_le_mul_left c (Nat.pow_le_pow_right (by decide) ?_)) h
    omega
  · exact ⟨s, c, q, fk_w ⟨hc, by rw [fq_n32]; omega, by rw [fq_x32]; omega, Or.inr (by omega)⟩, h⟩
theorem fk_rr9 {s : Bool} {A B : Nat} {e : Int} {N : Nat} (hB : 0 < B) (hN : 0 ≤ e + N) (hN2 : 149 ≤ N) (h : A * 2 ^ (e + N).toNat ≤ B * 2 ^ (39 + N)) : s_C9 (UInt32.ofNat (FP.Core.encode FP.Core.b32 (FP.Core.roundRatio FP.Core.b32 s A B e))) := by
  obtain ⟨c, q, e1, e2, e3, e4, e5⟩ := fk_le (f := FP.Core.b32) (M := 39) (s := s) (by rw [fq_n32]; decide) (by rw [fq_x32]; decide) (by decide) hB hN (by rw [fq_n32]; omega) h
  rw [e1]
  rw [fq_n32] at e3 e5
  rw [fq_x32] at e4
  refine fk_C9 e2 e3 e4 ?_
  rw [show q - -149 = q + 149 by omega] at e5
  exact e5
theorem fb_d2f9 {v : UInt64} (h : s_Bn 39 v) : s_C9 (FP.d2f v) := by
  obtain ⟨s, c, q, h, hb⟩ := h
  have hf := fq_fit h
  obtain ⟨f1, f2, f3, f4⟩ := hf
  rw [fq_n64] at f2
  rw [fk_d2fe h]
  refine fk_rr9 (N := 1074) (by decide) (by omega) (by decide) ?_
  rw [Nat.one_mul, show ((q + (1074 : Nat)) : Int).toNat = (q + 1074).toNat by omega]
  exact hb
theorem fb_f2d9 {a : UInt32} (h : s_C9 a) : s_Bn 39 (FP.f2d a) := by
  obtain ⟨s, c, q, h, hb⟩ := h
  have hf := fq_fit32 h
  obtain ⟨f1, f2, f3, f4⟩ := hf
  rw [fq_n32] at f2
  rw [fk_f2de h]
  refine fk_rrn (M := 39) (N := 1074) (by decide) (by decide) (by omega) (by decide) ?_
  have hk := Nat.mul_le_mul_right (2 ^ 925) hb
  rw [Nat.mul_assoc, ← Nat.pow_add, ← Nat.pow_add] at hk
  rw [Nat.one_mul, show ((q + (1074 : Nat)) : Int).toNat = (q + 149).toNat + 925 by omega]
  exact hk
theorem fb_frem9 {a : UInt32} (h : s_C9 a) : s_C9 (FP.frem a 1135869952) := by
  obtain ⟨s, c, q, h, -⟩ := h
  obtain ⟨c', q', h1, h2, h3, h4⟩ := fk_frem2 h
  have h2' := h2.2.1
  rw [fq_n32] at h2'
  refine ⟨s, c', q', h1, ?_⟩
  have := Nat.mul_le_mul_right (2 ^ (q' + 149).toNat) (Nat.le_of_lt h4)
  rw [Nat.mul_assoc, ← Nat.pow_add, show (-15 - q').toNat + (q' + 149).toNat = 134 by omega] at this
  exact Nat.le_trans this (by decide +kernel)
theorem fk_tr9 {c : Nat} {q : Int} (h1 : -1074 ≤ q) (h : c * 2 ^ (q + 1074).toNat ≤ 2 ^ 1113) : c * 2 ^ q.toNat / 2 ^ (-q).toNat ≤ 2 ^ 39 := by
  by_cases hq : 0 ≤ q
  · rw [show (-q).toNat = 0 by omega, Nat.pow_zero, Nat.div_one]
    refine Nat.le_of_mul_le_mul_right (c := 2 ^ 1074) ?_ (Nat.two_pow_pos _)
    rw [Nat.mul_assoc, ← Nat.pow_add, ← Nat.pow_add, show q.toNat + 1074 = (q + 1074).toNat by omega]
    exact h
  · rw [show q.toNat = 0 by omega, Nat.pow_zero, Nat.mul_one]
    refine Nat.div_le_of_le_mul ?_
    refine Nat.le_of_mul_le_mul_right (c := 2 ^ (q + 1074).toNat) ?_ (Nat.two_pow_pos _)
    rw [← Nat.pow_add, ← Nat.pow_add, show (-q).toNat + 39 + (q + 1074).toNat = 1113 by omega]
    exact h
theorem fk_d2l9 {v : UInt64} (h : s_Bn 39 v) : ∃ n : Int, FP.d2l v = Int64.ofInt n ∧ n.natAbs ≤ 2 ^ 39 := by
  obtain ⟨s, c, q, h, hb⟩ := h
  have hf := (fq_fit h).2.1
  rw [fq_n64] at hf
  have ht := fk_tr9 hf hb
  unfold fv at h
  refine ⟨_, show FP.Core.toL (FP.Core.decode FP.Core.b64 v.toNat) = _ by rw [h]; rfl, ?_⟩
  simp only [FP.Core.toInt, FP.Core.truncate, FP.Core.signed]
  generalize c * 2 ^ q.toNat / 2 ^ (-q).toNat = X at ht ⊢
  cases s <;> simp only [Bool.false_eq_true, if_false, if_true] <;> omega
theorem fk_fI9 {n : Int} (hn : n.natAbs ≤ 2 ^ 39) : s_Bn 39 (UInt64.ofNat (FP.Core.fromInt FP.Core.b64 n)) := by
  unfold FP.Core.fromInt FP.Core.ofInt FP.Core.round
  simp only
  refine fk_rrn (M := 39) (N := 1074) (by decide) (by decide) (by decide) (by decide) ?_
  rw [Nat.one_mul, show ((0 : Int) + ((1074 : Nat) : Int)).toNat = 1074 by decide, Nat.pow_add]
  exact Nat.mul_le_mul_right _ hn
theorem fb_i2d9 {x : Int32} : s_Bn 39 (FP.i2d x) := by
  refine fk_fI9 (n := x.toInt) ?_
  have h1 := x.toInt_lt
  have h2 := x.le_toInt
  omega
theorem fk_B09 : s_Bn 39 0 := ⟨false, 0, -1074, fq_v0, by rw [Nat.zero_mul]; exact Nat.zero_le _⟩
theorem fk_pl9 {w : UInt64} (h : s_Bn 39 w) : s_Bn 39 (s_pl w) := by
  by_cases hz : s_eq w 0
  · rw [fk_z hz]; exact fk_B09
  · rw [fk_nzp hz]; exact h
theorem fk_1000p9 : s_Bn 39 4652007308841189376 := ⟨false, 8796093022208000, -43, by unfold fv; decide +kernel, by decide +kernel⟩
theorem fk_1000n9 : s_Bn 39 13875379345695965184 := ⟨true, 8796093022208000, -43, by unfold fv; decide +kernel, by decide +kernel⟩
theorem fb_ft9 {k : Int32} {v : UInt64} (h : s_Bn 39 v) : s_Bn 39 (s_ft k v) := by
  unfold s_ft
  by_cases h1 : k = 1
  · rw [if_pos h1]
    obtain ⟨n, e1, e2⟩ := fk_d2l9 h
    rw [e1]
    show s_Bn 39 (UInt64.ofNat (FP.Core.fromInt FP.Core.b64 (Int64.ofInt n).toInt))
    rw [fk_i64 (Nat.le_trans e2 (by decide))]
    exact fk_fI9 e2
  · rw [if_neg h1]
    by_cases h2 : k = 2
    · rw [if_pos h2]; exact fb_f2d9 (fb_d2f9 h)
    · rw [if_neg h2]
      by_cases h3 : k = 3
      · rw [if_pos h3]; exact fb_i2d9
      · rw [if_neg h3]
        by_cases h4 : k = 4
        · rw [if_pos h4]; exact fb_f2d9 (fb_frem9 (fb_d2f9 h))
        · rw [if_neg h4]
          by_cases h5 : k = 5
          · rw [if_pos h5]
            unfold s_if
            split
            · exact fk_1000n9
            · split
              · exact fk_1000p9
              · exact h
          · rw [if_neg h5]; exact h
theorem fb_kp9 {k : Int32} {v : UInt64} (h : s_Bn 39 v) : s_Bn 39 (s_kp k v) := fk_pl9 (fb_ft9 h)
end IC
