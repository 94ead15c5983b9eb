set_option maxRecDepth 100000
/-! the next bit of a BitSet -/
section NB
variable {l : Launch} {g : zG} {d : Nat} {nx : Nat} {hp : zHp}
def nz1 (x : Int32) : Int32 × Int32 := if x ≤ 65536 then (x, 1) else ((x.toUInt32 >>> ((16 : Int32).toUInt32 &&& Int32.toUInt32 31)).toInt32, 1 + 16)
def nz2 (p : Int32 × Int32) : Int32 × Int32 := if p.1 ≤ 256 then p else ((p.1.toUInt32 >>> ((8 : Int32).toUInt32 &&& Int32.toUInt32 31)).toInt32, p.2 + 8)
def nz3 (p : Int32 × Int32) : Int32 × Int32 := if p.1 ≤ 16 then p else ((p.1.toUInt32 >>> ((4 : Int32).toUInt32 &&& Int32.toUInt32 31)).toInt32, p.2 + 4)
def nz4 (p : Int32 × Int32) : Int32 × Int32 := if p.1 ≤ 4 then p else ((p.1.toUInt32 >>> ((2 : Int32).toUInt32 &&& Int32.toUInt32 31)).toInt32, p.2 + 2)
def nzr (x : Int32) : Int32 := if 0 < x then (nz4 (nz3 (nz2 (nz1 x)))).2 + (((nz4 (nz3 (nz2 (nz1 x)))).1.toUInt32 >>> ((1 : Int32).toUInt32 &&& Int32.toUInt32 31)).toInt32) else x &&& 32
theorem nz_all : ∀ k, k < 31 → nzr (nI (2 ^ k - 1)) = nI k := by decide +kernel
theorem j_ntz {x : Int32} {k : Nat} (hk : k < 31) (hx : (x ^^^ (-1 : Int32)) &&& (x - (1 : Int32)) = nI (2 ^ k - 1)) (hd : 1 ≤ d) {K : Int32 → zHp → Nat → Prop} (hK : K (nI k) hp nx) : zMt l g yJ15_numberOfTrailingZeros cJ15_numberOfTrailingZeros 2 (some .int) d 0 0 [.int x] hp nx (zQi g K) := by
  obtain ⟨d, rfl⟩ := Nat.exists_eq_add_of_le' (show 1 ≤ d by omega)
  have e := nz_all k hk
  apply met_J15_numberOfTrailingZeros
  unfold wp_J15_numberOfTrailingZeros
  rintro x1 rfl
  rw [hx]
  unfold nzr at e
  generalize nI (2 ^ k - 1) = y at e ⊢
  refine ⟨fun z => ?_, fun z => ?_⟩
  · rw [if_pos z] at e
    refine ⟨fun p q => (p, q) = nz1 y, fun p q h1 => ?_, fun z1 => ?_, fun z1 => ?_⟩
    · refine ⟨fun p q => (p, q) = nz2 (nz1 y), fun p q h2 => ?_, fun z1 => ?_, fun z1 => ?_⟩
      · refine ⟨fun p q => (p, q) = nz3 (nz2 (nz1 y)), fun p q h3 => ?_, fun z1 => ?_, fun z1 => ?_⟩
        · refine ⟨fun p q => (p, q) = nz4 (nz3 (nz2 (nz1 y))), fun p q h4 => ?_, fun z1 => ?_, fun z1 => ?_⟩
          · rw [← h4] at e
            simp only [] at e
            rw [e]
            exact hK
          · rw [← h3]; unfold nz4; rw [if_pos z1]
          · rintro x10 rfl x11 rfl
            rw [← h3]; unfold nz4; rw [if_neg z1]
        · rw [← h2]; unfold nz3; rw [if_pos z1]
        · rintro x10 rfl x11 rfl
          rw [← h2]; unfold nz3; rw [if_neg z1]
      · rw [← h1]; unfold nz2; rw [if_pos z1]
      · rintro x10 rfl x11 rfl
        rw [← h1]; unfold nz2; rw [if_neg z1]
    · unfold nz1; rw [if_pos z1]
    · rintro x10 rfl x11 rfl
      unfold nz1; rw [if_neg z1]
  · rw [if_neg z] at e
    rw [e]
    exact hK
/-- the lowest bit -/
theorem nz_low {n k : Nat} (h1 : n.testBit k = true) (h0 : ∀ q, q < k → n.testBit q = false) (i : Nat) : (!n.testBit i && (n - 1).testBit i) = decide (i < k) := by
  have hm : n % 2 ^ k = 0 := by
    refine Nat.eq_of_testBit_eq (fun j => ?_)
    rw [Nat.testBit_mod_two_pow, Nat.zero_testBit]
    by_cases e : j < k
    · rw [h0 j e, Bool.and_false]
    · rw [decide_eq_false e, Bool.false_and]
  obtain ⟨m', e⟩ : ∃ m', n = 2 ^ k * m' := ⟨n / 2 ^ k, by have := Nat.div_add_mod n (2 ^ k); omega⟩
  have hp : 0 < 2 ^ k := Nat.two_pow_pos k
  have ho : m' % 2 = 1 := by
    have := Nat.testBit_div_two_pow (n := k) n 0
    rw [Nat.zero_add, h1, e, Nat.mul_div_cancel_left _ hp, Nat.testBit_zero, decide_eq_true_eq] at this
    exact this
  obtain ⟨m, rfl⟩ : ∃ m, m' = 2 * m + 1 := ⟨m' / 2, by omega⟩
  have e2 : n - 1 = 2 ^ k * (2 * m) + (2 ^ k - 1) := by rw [e, Nat.mul_add, Nat.mul_one]; omega
  have e1 : n = 2 ^ k * (2 * m + 1) + 0 := e
  rw [e2, Nat.testBit_two_pow_mul_add _ (by omega), e1, Nat.testBit_two_pow_mul_add _ hp]
  by_cases hi : i < k
  · rw [if_pos hi, if_pos hi, Nat.zero_testBit, Nat.testBit_two_pow_sub_one, decide_eq_true hi]
    rfl
  · rw [if_neg hi, if_neg hi, decide_eq_false hi]
    cases hj : i - k with
    | zero =>
      rw [Nat.testBit_zero, Nat.testBit_zero, show (2 * m) % 2 = 0 by omega]
      simp
    | succ j =>
      rw [Nat.testBit_succ, Nat.testBit_succ, show (2 * m + 1) / 2 = m by omega, show 2 * m / 2 = m by omega]
      cases m.testBit j <;> rfl
theorem nz_i32 {x : Int32} {k : Nat} (hk : k < 32) (h1 : x.toBitVec.getLsbD k = true) (h0 : ∀ q, q < k → x.toBitVec.getLsbD q = false) : (x ^^^ (-1 : Int32)) &&& (x - (1 : Int32)) = nI (2 ^ k - 1) := by
  have hb : x.toBitVec.toNat ≠ 0 := by
    intro z
    rw [← BitVec.testBit_toNat, z, Nat.zero_testBit] at h1
    cases h1
  have hs : (x.toBitVec - 1#32).toNat = x.toBitVec.toNat - 1 := by
    rw [BitVec.toNat_sub_of_le]
    · rfl
    · rw [BitVec.le_def]; show 1 ≤ _; omega
  have h2k : 2 ^ k - 1 < 2 ^ 32 := by
    have : 2 ^ k ≤ 2 ^ 31 := Nat.pow_le_pow_right (by decide) (by omega)
    omega
  have en : (nI (2 ^ k - 1)).toBitVec.toNat = 2 ^ k - 1 := pk_tn h2k
  apply Int32.toBitVec_inj.mp
  refine BitVec.eq_of_getLsbD_eq (fun i hi => ?_)
  rw [Int32.toBitVec_and, Int32.toBitVec_xor, Int32.toBitVec_sub, BitVec.getLsbD_and, BitVec.getLsbD_xor]
  have m1 : (-1 : Int32).toBitVec.getLsbD i = true := (show ∀ i, i < 32 → (-1 : Int32).toBitVec.getLsbD i = true by decide +kernel) i hi
  rw [m1]
  have hr : (nI (2 ^ k - 1)).toBitVec.getLsbD i = decide (i < k) := by rw [← BitVec.testBit_toNat, en, Nat.testBit_two_pow_sub_one]
  have hsub : (x.toBitVec - (1 : Int32).toBitVec).getLsbD i = (x.toBitVec.toNat - 1).testBit i := by
    rw [← BitVec.testBit_toNat]
    show (x.toBitVec - 1#32).toNat.testBit i = _
    rw [hs]
  rw [hr, hsub, ← nz_low (n := x.toBitVec.toNat) (k := k) h1 h0 i, Bool.xor_true]
  rfl
theorem lb_32 {w : Int64} {q : Nat} (hq : q < 32) : w.toInt32.toBitVec.getLsbD q = lb w q := by
  unfold lb
  show (w.toBitVec.signExtend 32).getLsbD q = _
  rw [BitVec.getLsbD_signExtend]
  simp [hq, show q < 64 by omega]
theorem j_ntzl {w : Int64} {k : Nat} (hk : k < 31) (h1 : lb w k = true) (h0 : ∀ q, q < k → lb w q = false) (hd : 2 ≤ d) {K : Int32 → zHp → Nat → Prop} (hK : K (nI k) hp nx) : zMt l g yJ19_numberOfTrailingZeros cJ19_numberOfTrailingZeros 3 (some .int) d 0 0 [.long w] hp nx (zQi g K) := by
  obtain ⟨d, rfl⟩ := Nat.exists_eq_add_of_le' (show 1 ≤ d by omega)
  have b1 : w.toInt32.toBitVec.getLsbD k = true := by rw [lb_32 (by omega)]; exact h1
  have b0 : ∀ q, q < k → w.toInt32.toBitVec.getLsbD q = false := fun q hq => by rw [lb_32 (by omega)]; exact h0 q hq
  apply met_J19_numberOfTrailingZeros
  unfold wp_J19_numberOfTrailingZeros
  rintro x1 rfl
  refine ⟨_, fun _ _ _ _ h => h, ?_⟩
  refine ⟨fun z => ?_, fun z => ?_⟩
  · rw [z] at b1
    have : (0 : Int32).toBitVec.getLsbD k = false := by show (0#32).getLsbD k = false; simp
    rw [this] at b1
    cases b1
  · exact j_ntz hk (nz_i32 (by omega) b1 b0) (by omega) hK
/-- bits from i on -/
theorem lb_sl : ∀ i, i < 64 → ∀ q, q < 64 → lb ((-1 : Int64) <<< ((nI i).toInt64 &&& 63)) q = decide (i ≤ q) := by decide +kernel
theorem least_bit {p : Nat → Bool} : ∀ n, (∃ q, q < n ∧ p q = true) → ∃ k, k < n ∧ p k = true ∧ ∀ q, q < k → p q = false := by
  intro n
  induction n with
  | zero => rintro ⟨q, h, _⟩; exact absurd h (Nat.not_lt_zero _)
  | succ n ih =>
    rintro ⟨q, hq, hp⟩
    by_cases h : ∃ q, q < n ∧ p q = true
    · obtain ⟨k, k1, k2, k3⟩ := ih h
      exact ⟨k, by omega, k2, k3⟩
    · have no : ∀ q, q < n → p q = false := fun q hq => by
        cases hb : p q with
        | false => rfl
        | true => exact absurd ⟨q, hq, hb⟩ h
      refine ⟨n, by omega, ?_, no⟩
      have : q = n := by
        by_cases e : q = n
        · exact e
        · have := no q (by omega)
          rw [this] at hp; cases hp
      rw [← this]; exact hp
/-- the next bit: bits below 24 alone -/
theorem b_next {a i : Nat} {w : Int64} (hb : cBo g hp a w) (h24 : ∀ q, q < 64 → lb w q = true → q < 24) (hi : i ≤ 24) (hd : 3 ≤ d) {K : Int32 → zHp → Nat → Prop} (h1 : ∀ k, i ≤ k → k < 24 → lb w k = true → (∀ q, i ≤ q → q < k → lb w q = false) → K (nI k) hp nx) (h0 : (∀ q, i ≤ q → q < 64 → lb w q = false) → K (-1) hp nx) : zMt l g yJ0_nextSetBit cJ0_nextSetBit 5 (some .int) d 0 0 [.ref a, .int (nI i)] hp nx (zQi g K) := by
  obtain ⟨d, rfl⟩ := Nat.exists_eq_add_of_le' (show 1 ≤ d by omega)
  have i0 : vp_in (0 : Int32) 1 := vp_in_nI (n := 0) (by decide) (by decide)
  have c0 : (0 : Int32).toNatClampNeg = 0 := by decide
  obtain ⟨b, f, q1, q2, q3⟩ := hb
  apply met_J0_nextSetBit
  unfold wp_J0_nextSetBit
  refine ⟨fun _ => ?_, fun z => absurd (nI_pos' (by omega)) z⟩
  rw [hz_o q1 (by decide)]
  refine b_inv (by omega) ?_
  refine b_wi (by omega) (by omega) ?_
  rw [hz_I q1 (x := if w = 0 then 0 else 1) rfl (by decide)]
  refine ⟨fun z => ?_, fun z => ?_⟩
  · have hw : w ≠ 0 := by intro y; rw [if_pos y] at z; exact absurd z (by decide)
    rw [hz_R q1 (r := some b) rfl (by decide), hz_aJ q2]
    refine ⟨i0, ?_⟩
    intro x17 e17
    rw [c0, q3] at e17
    subst e17
    rintro x18 rfl
    obtain ⟨v, ev⟩ : ∃ v, v = x17 &&& ((-1 : Int64) <<< ((nI i).toInt64 &&& 63)) := ⟨_, rfl⟩
    have hv : ∀ q, q < 64 → lb v q = (lb x17 q && decide (i ≤ q)) := fun q hq => by rw [ev, lb_an, lb_sl i (by omega) q hq]
    rw [← ev]
    refine ⟨fun n x y hp1 nx1 => x = 0 ∧ y = v ∧ hp1 = hp ∧ nx = nx1, ⟨0, rfl, rfl, rfl, rfl⟩, ?_⟩
    rintro n x y hp1 nx1 ⟨rfl, rfl, rfl, rfl⟩
    refine ⟨fun z1 => ?_, fun z1 => ?_⟩
    · have hv0 := (lg_cmp_eq _ _).mp z1
      rintro x24 rfl
      rw [hz_I q1 (x := if x17 = 0 then 0 else 1) rfl (by decide), if_neg hw]
      refine ⟨fun _ => h0 (fun q a1 a2 => ?_), fun z2 => absurd (show (0 : Int32) + 1 = 1 by decide) z2⟩
      have := hv q a2
      rw [hv0, lb_z, decide_eq_true a1, Bool.and_true] at this
      exact this.symm
    · have hv0 : y ≠ 0 := fun e => z1 ((lg_cmp_eq _ _).mpr e)
      obtain ⟨k, k1, k2, k3⟩ := least_bit 64 (lb_some hv0)
      have k4 := hv k k1
      rw [k2] at k4
      have k5 : lb x17 k = true ∧ i ≤ k := by
        have := k4.symm
        rw [Bool.and_eq_true, decide_eq_true_eq] at this
        exact this
      have k6 := h24 k k1 k5.1
      refine j_ntzl (k := k) (by omega) k2 k3 (by omega) ?_
      rw [show (0 : Int32) * 64 + nI k = nI k by rw [show (0 : Int32) * 64 = 0 by decide, Int32.zero_add]]
      refine h1 k k5.2 k6 k5.1 (fun q a1 a2 => ?_)
      have := hv q (by omega)
      rw [k3 q a2, decide_eq_true a1, Bool.and_true] at this
      exact this.symm
  · have hw : w = 0 := by
      by_cases y : w = 0
      · exact y
      · rw [if_neg y] at z; exact absurd (by decide) z
    exact h0 (fun q _ _ => by rw [hw]; exact lb_z q)
end NB
