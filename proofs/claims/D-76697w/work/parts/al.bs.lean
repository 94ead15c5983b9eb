set_option maxRecDepth 100000
/-! BitSets of one word: what changes them, the next bit -/
section BS
variable {l : Launch} {g : zG} {d : Nat} {nx : Nat} {hp : zHp} {H : (Nat → Int64) → Int32 → zHp} {a b : Nat}
/-- a heap with a BitSet that changes -/
def bHf (g : zG) (H : (Nat → Int64) → Int32 → zHp) (a b : Nat) : Prop := zB g ≤ a ∧ zB g ≤ b ∧ (∀ f n, H f n a = some (.inr (34, [.ref b, .int n, .int 1]))) ∧ (∀ f n, H f n b = some (.inl (g.2.1 4, 1, .inr (.inl f)))) ∧ (∀ f n f', va_up (H f n) b (some (.inl (g.2.1 4, 1, .inr (.inl f')))) = H f' n) ∧ (∀ f n n', va_up (H f n) a (some (.inr (34, [.ref b, .int n', .int 1]))) = H f n')
/-- words in use -/
def bU (f : Nat → Int64) (n : Int32) : Prop := n = if f 0 = 0 then 0 else 1
theorem bU.c {f : Nat → Int64} {n : Int32} (h : bU f n) : (n = 0 ∧ f 0 = 0) ∨ (n = 1 ∧ f 0 ≠ 0) := by
  unfold bU at h
  by_cases e : f 0 = 0
  · rw [if_pos e] at h; exact Or.inl ⟨h, e⟩
  · rw [if_neg e] at h; exact Or.inr ⟨h, e⟩
theorem hz_p {a ci k : Nat} {fs : List Value} (h : hp a = some (.inr (ci, fs))) {v : Value} {S : List Nat} (hS : ci ∈ S) (hk : k < fs.length) {K : zHp → Prop} : zpt g hp (some a) S k v K = (zB g ≤ a ∧ K (va_up hp a (some (.inr (ci, fs.set k v))))) := by
  unfold zpt; rw [hz_o h hS]; simp only [hk, true_and]
theorem bH_n (hH : bHf g H a b) {f : Nat → Int64} {n v : Int32} {K : zHp → Prop} : zpt g (H f n) (some a) [34] 1 (.int v) K = (zB g ≤ a ∧ K (H f v)) := by
  rw [hz_p (hH.2.2.1 f n) (by decide) (show 1 < 3 by decide)]
  show (zB g ≤ a ∧ K (va_up (H f n) a (some (.inr (34, [.ref b, .int v, .int 1]))))) = _
  rw [hH.2.2.2.2.2]
theorem bH_g (hH : bHf g H a b) {f : Nat → Int64} {n : Int32} {K : Int32 → Prop} : zgI (H f n) (some a) [34] 1 K = K n := hz_I (hH.2.2.1 f n) rfl (by decide)
theorem bH_r (hH : bHf g H a b) {f : Nat → Int64} {n : Int32} {K : Option Nat → Prop} : zgR (H f n) (some a) [34] 0 K = K (some b) := hz_R (hH.2.2.1 f n) (r := some b) rfl (by decide)
theorem bH_o (hH : bHf g H a b) {f : Nat → Int64} {n : Int32} {K : Nat → Nat → List Value → Prop} : zo (H f n) (some a) [34] K = K a 34 [.ref b, .int n, .int 1] := hz_o (hH.2.2.1 f n) (by decide)
theorem bH_a (hH : bHf g H a b) {f : Nat → Int64} {n : Int32} {K : Nat → Nat → (Nat → Int64) → Prop} : zaJ (g.2.1 4) (H f n) (some b) K = K b 1 f := hz_aJ (hH.2.2.2.1 f n)
theorem b_clear (hH : bHf g H a b) {f : Nat → Int64} {n : Int32} (hU : bU f n) (hd : 1 ≤ d) {K : zHp → Nat → Prop} (hK : ∀ f', f' 0 = 0 → K (H f' 0) nx) : zMt l g yJ0_clear cJ0_clear 1 none d 0 0 [.ref a] (H f n) nx (zQv g K) := by
  obtain ⟨d, rfl⟩ := Nat.exists_eq_add_of_le' (show 1 ≤ d by omega)
  have i0 : vp_in (0 : Int32) 1 := vp_in_nI (n := 0) (by decide) (by decide)
  have c0 : (0 : Int32).toNatClampNeg = 0 := by decide
  apply met_J0_clear
  unfold wp_J0_clear
  refine ⟨fun k hp1 => ∃ f n, bU f n ∧ (n = 1 → k = 1) ∧ hp1 = H f n, ⟨1, f, n, hU, fun _ => rfl, rfl⟩, ?_⟩
  rintro k hp1 ⟨f, n, hU, hk, rfl⟩
  rw [bH_g hH]
  rcases hU.c with ⟨rfl, e⟩ | ⟨rfl, e⟩
  · exact ⟨fun _ => hK f e, fun z => absurd (by decide) z⟩
  · refine ⟨fun z => absurd z (by decide), fun _ => ?_⟩
    rw [bH_r hH, bH_g hH, bH_n hH]
    refine ⟨hH.1, ?_⟩
    rw [bH_a hH]
    refine ⟨i0, hH.2.1, ?_⟩
    intro hp1 e1
    rw [hH.2.2.2.2.1] at e1
    subst e1
    refine ⟨0, by rw [hk rfl]; decide, _, _, ?_, fun z => absurd z (by decide), rfl⟩
    unfold bU
    rw [show ((1 : Int32) - 1).toNatClampNeg = 0 by decide, va_s, if_pos rfl]
    decide
theorem b_ensure (hH : bHf g H a b) {f : Nat → Int64} {n : Int32} (hd : 1 ≤ d) {K : zHp → Nat → Prop} (hK : K (H f n) nx) : zMt l g yJ0_ensureCapacity cJ0_ensureCapacity 3 none d 0 0 [.ref a, .int 1] (H f n) nx (zQv g K) := by
  obtain ⟨d, rfl⟩ := Nat.exists_eq_add_of_le' (show 1 ≤ d by omega)
  apply met_J0_ensureCapacity
  unfold wp_J0_ensureCapacity
  rw [bH_r hH, hz_ln (hH.2.2.2.1 f n)]
  refine ⟨_, fun _ _ _ _ h => h, ?_⟩
  refine ⟨fun _ => ⟨Nat.le_refl _, Nat.le_refl _, hK⟩, fun z => absurd (show (1 : Int32) ≤ 1 by decide) z⟩
/-- one bit -/
def lbit (k : Nat) : Int64 := (1 : Int64) <<< ((nI k).toInt64 &&& 63)
theorem lb_or {x y : Int64} {q : Nat} : lb (x ||| y) q = (lb x q || lb y q) := by unfold lb; rw [Int64.toBitVec_or, BitVec.getLsbD_or]
theorem lb_an {x y : Int64} {q : Nat} : lb (x &&& y) q = (lb x q && lb y q) := by unfold lb; rw [Int64.toBitVec_and, BitVec.getLsbD_and]
theorem lb_xo {x y : Int64} {q : Nat} : lb (x ^^^ y) q = (lb x q ^^ lb y q) := by unfold lb; rw [Int64.toBitVec_xor, BitVec.getLsbD_xor]
theorem lb_bit {k q : Nat} (hk : k < 64) : lb (lbit k) q = decide (q = k) := by
  unfold lb lbit
  rw [lb_sh k hk, BitVec.getLsbD_twoPow]
  by_cases e : q = k
  · subst e; simp [hk]
  · rw [decide_eq_false e]
    simp
    omega
theorem lb_m1 {q : Nat} (hq : q < 64) : lb (-1) q = true := (show ∀ q, q < 64 → lb (-1) q = true by decide +kernel) q hq
theorem lb_ext0 {x : Int64} (h : ∀ q, q < 64 → lb x q = false) : x = 0 := by
  rw [lb_0]
  refine BitVec.eq_of_getLsbD_eq (fun i hi => ?_)
  have := h i hi
  unfold lb at this
  rw [this]
  simp
theorem lb_some {x : Int64} (h : x ≠ 0) : ∃ q, q < 64 ∧ lb x q = true := by
  by_cases e : ∃ q, q < 64 ∧ lb x q = true
  · exact e
  · refine absurd (lb_ext0 (fun q hq => ?_)) h
    cases hb : lb x q with
    | false => rfl
    | true => exact absurd ⟨q, hq, hb⟩ e
theorem b_set (hH : bHf g H a b) {f : Nat → Int64} {n : Int32} (hU : bU f n) {k : Nat} (hk : k < 64) (hd : 3 ≤ d) {K : zHp → Nat → Prop} (hK : ∀ f', f' 0 = f 0 ||| lbit k → bU f' 1 → K (H f' 1) nx) : zMt l g yJ0_set cJ0_set 3 none d 0 0 [.ref a, .int (nI k)] (H f n) nx (zQv g K) := by
  obtain ⟨d, rfl⟩ := Nat.exists_eq_add_of_le' (show 1 ≤ d by omega)
  have i0 : vp_in (0 : Int32) 1 := vp_in_nI (n := 0) (by decide) (by decide)
  have c0 : (0 : Int32).toNatClampNeg = 0 := by decide
  apply met_J0_set
  unfold wp_J0_set
  refine ⟨fun _ => ?_, fun z => absurd (nI_pos' (by omega)) z⟩
  refine ⟨Nat.le_refl _, Nat.le_refl _, b_wi (by omega) hk ?_⟩
  refine ⟨0, 0, Nat.le_refl _, Nat.le_refl _, ?_⟩
  rw [bH_o hH]
  obtain ⟨d, rfl⟩ := Nat.exists_eq_add_of_le' (show 1 ≤ d by omega)
  apply met_J0_expandTo
  unfold wp_J0_expandTo
  rintro x1 rfl
  rw [bH_g hH]
  have rest : ∀ n', n' = 1 → zgR (H f n') (some a) [34] 0 fun r_11 => zaJ (g.2.1 4) (H f n') r_11 fun a_12 n_13 f_14 => vp_in 0 n_13 ∧ ∀ x_15 : Int64, x_15 = f_14 (0 : Int32).toNatClampNeg → zaJ (g.2.1 4) (H f n') r_11 fun a_16 n_17 f_18 => vp_in 0 n_17 ∧ zB g ≤ a_16 ∧ ∀ hp_19 : zHp, hp_19 = va_up (H f n') a_16 (some (.inl (g.2.1 4, n_17, .inr (.inl (va_up f_18 (0 : Int32).toNatClampNeg (x_15 ||| ((1 : Int64) <<< ((nI k).toInt64 &&& 63)))))))) → ((0 + 0) ≤ 0 ∧ (0 + 0) ≤ 0 ∧ zo hp_19 (some a) [34] fun a_22 ci_23 fs_24 => zMt l g yJ0_checkInvariants cJ0_checkInvariants 1 none (d + 1) 0 0 (.ref a_22 :: []) hp_19 nx (zQv g fun hp_20 nx_21 => ((0 + 0) ≤ 0 ∧ (0 + 0) ≤ 0 ∧ K hp_20 nx_21))) := by
    rintro n' rfl
    rw [bH_r hH, bH_a hH]
    refine ⟨i0, ?_⟩
    rintro x15 rfl
    rw [bH_a hH]
    refine ⟨i0, hH.2.1, ?_⟩
    intro hp1 e1
    rw [hH.2.2.2.2.1, c0] at e1
    subst e1
    refine ⟨Nat.le_refl _, Nat.le_refl _, ?_⟩
    rw [bH_o hH]
    refine b_inv (by omega) ⟨Nat.le_refl _, Nat.le_refl _, hK _ (by rw [va_s]; rfl) ?_⟩
    unfold bU
    rw [va_s, if_neg]
    intro z
    have := congrArg (fun x => lb x k) z
    have e2 : lb ((1 : Int64) <<< ((nI k).toInt64 &&& 63)) k = true := by have := lb_bit (q := k) hk; unfold lbit at this; rw [this]; simp
    simp only [lb_or, e2, lb_z, Bool.or_true] at this
    cases this
  refine ⟨fun x hp1 nx1 kc ks => x = 1 ∧ kc = 0 ∧ ks = 0 ∧ hp1 = H f 1 ∧ nx = nx1, ?_, fun z => ?_, fun z => ?_⟩
  · rintro x hp1 nx1 kc ks ⟨rfl, rfl, rfl, rfl, rfl⟩
    exact ⟨Nat.le_refl _, Nat.le_refl _, rest 1 rfl⟩
  · have : n = 1 := by
      rcases hU.c with h | h
      · rw [h.1] at z; exact absurd z (by decide)
      · exact h.1
    subst this
    exact ⟨rfl, rfl, rfl, rfl, rfl⟩
  · refine ⟨0, 0, Nat.le_refl _, Nat.le_refl _, ?_⟩
    rw [bH_o hH]
    refine b_ensure hH (by omega) ?_
    rw [bH_n hH]
    exact ⟨hH.1, rfl, rfl, rfl, rfl, rfl⟩
theorem b_recalc (hH : bHf g H a b) {f : Nat → Int64} (hd : 1 ≤ d) {K : zHp → Nat → Prop} (hK : ∀ n, bU f n → K (H f n) nx) : zMt l g yJ0_recalculateWordsInUse cJ0_recalculateWordsInUse 2 none d 0 0 [.ref a] (H f 1) nx (zQv g K) := by
  obtain ⟨d, rfl⟩ := Nat.exists_eq_add_of_le' (show 1 ≤ d by omega)
  have i0 : vp_in (0 : Int32) 1 := vp_in_nI (n := 0) (by decide) (by decide)
  have c0 : (0 : Int32).toNatClampNeg = 0 := by decide
  apply met_J0_recalculateWordsInUse
  unfold wp_J0_recalculateWordsInUse
  rw [bH_g hH]
  rintro x5 rfl
  refine ⟨fun k x hp1 => ((x = 0 ∧ k = 1) ∨ (x = -1 ∧ f 0 = 0)) ∧ hp1 = H f 1, ⟨1, Or.inl ⟨by decide, rfl⟩, rfl⟩, ?_⟩
  rintro k x hp1 ⟨hx, rfl⟩
  refine ⟨fun x hp1 => ((x = 0 ∧ f 0 ≠ 0) ∨ (x = -1 ∧ f 0 = 0)) ∧ hp1 = H f 1, ?_, fun z => ?_, fun z => ?_⟩
  · rintro x hp1 ⟨hx, rfl⟩
    rw [bH_n hH]
    refine ⟨hH.1, hK _ ?_⟩
    unfold bU
    rcases hx with ⟨rfl, h⟩ | ⟨rfl, h⟩
    · rw [if_neg h]; decide
    · rw [if_pos h]; decide
  · rcases hx with ⟨rfl, -⟩ | h
    · exact absurd z (by decide)
    · exact ⟨Or.inr h, rfl⟩
  · rcases hx with ⟨rfl, hk⟩ | ⟨rfl, -⟩
    · rw [bH_r hH, bH_a hH]
      refine ⟨i0, ?_⟩
      rintro x22 rfl
      rw [c0]
      refine ⟨fun z => ?_, fun z => ?_⟩
      · rintro x23 rfl
        exact ⟨0, by omega, Or.inr ⟨by decide, (lg_cmp_eq _ _).mp z⟩, rfl⟩
      · exact ⟨Or.inl ⟨rfl, fun y => z ((lg_cmp_eq _ _).mpr y)⟩, rfl⟩
    · exact absurd (show (-1 : Int32) < 0 by decide) z
theorem b_clr (hH : bHf g H a b) {f : Nat → Int64} {n : Int32} (hU : bU f n) {k : Nat} (hk : k < 64) (hd : 2 ≤ d) {K : zHp → Nat → Prop} (hK : ∀ f' n', bU f' n' → (∀ q, q < 64 → (lb (f' 0) q = true ↔ lb (f 0) q = true ∧ q ≠ k)) → K (H f' n') nx) : zMt l g yJ0_clear_2 cJ0_clear_2 3 none d 0 0 [.ref a, .int (nI k)] (H f n) nx (zQv g K) := by
  obtain ⟨d, rfl⟩ := Nat.exists_eq_add_of_le' (show 1 ≤ d by omega)
  have i0 : vp_in (0 : Int32) 1 := vp_in_nI (n := 0) (by decide) (by decide)
  have c0 : (0 : Int32).toNatClampNeg = 0 := by decide
  apply met_J0_clear_2
  unfold wp_J0_clear_2
  refine ⟨fun _ => ?_, fun z => absurd (nI_pos' (by omega)) z⟩
  refine b_wi (by omega) hk ?_
  rw [bH_g hH]
  rcases hU.c with ⟨rfl, e⟩ | ⟨rfl, e⟩
  · refine ⟨fun z => absurd z (by decide), fun _ => hK f 0 hU (fun q _ => ?_)⟩
    rw [e, lb_z]
    exact ⟨fun z => (by cases z), fun z => by cases z.1⟩
  · refine ⟨fun _ => ?_, fun z => absurd (show (0 : Int32) < 1 by decide) z⟩
    rw [bH_r hH, bH_a hH]
    refine ⟨i0, ?_⟩
    rintro x15 rfl
    rw [bH_a hH]
    refine ⟨i0, hH.2.1, ?_⟩
    intro hp1 e1
    rw [hH.2.2.2.2.1, c0] at e1
    subst e1
    rw [bH_o hH]
    refine b_recalc hH (by omega) (fun n' hn => ?_)
    rw [bH_o hH]
    refine b_inv (by omega) (hK _ n' hn (fun q hq => ?_))
    have e2 : lb ((1 : Int64) <<< ((nI k).toInt64 &&& 63)) q = decide (q = k) := lb_bit hk
    rw [va_s, lb_an, lb_xo, lb_m1 hq, e2]
    by_cases ek : q = k
    · subst ek; simp
    · simp [ek]
/-- a second BitSet of the same heap -/
theorem b_join (hH : bHf g H a b) {f : Nat → Int64} {n : Int32} (hU : bU f n) {a2 : Nat} {w : Int64} (ha : a2 ≠ a) (h2 : ∀ f n, cBo g (H f n) a2 w) (hd : 2 ≤ d) {K : zHp → Nat → Prop} (hK : ∀ f' n', f' 0 = f 0 ||| w → bU f' n' → K (H f' n') nx) : zMt l g yJ0_or cJ0_or 4 none d 0 0 [.ref a, va_rf (some a2)] (H f n) nx (zQv g K) := by
  obtain ⟨d, rfl⟩ := Nat.exists_eq_add_of_le' (show 1 ≤ d by omega)
  have i0 : vp_in (0 : Int32) 1 := vp_in_nI (n := 0) (by decide) (by decide)
  have c0 : (0 : Int32).toNatClampNeg = 0 := by decide
  have g2 : ∀ {f : Nat → Int64} {n : Int32} {Q : Int32 → Prop}, zgI (H f n) (some a2) [34] 1 Q = Q (if w = 0 then 0 else 1) := fun {f n Q} => by obtain ⟨b2, f2, q1, -⟩ := h2 f n; exact hz_I q1 rfl (by decide)
  have fin : ∀ {f' : Nat → Int64} {n' : Int32}, f' 0 = f 0 ||| w → bU f' n' → (0 ≤ 0 ∧ 0 ≤ 0 ∧ zo (H f' n') (some a) [34] fun a_44 ci_45 fs_46 => zMt l g yJ0_checkInvariants cJ0_checkInvariants 1 none d 0 0 (.ref a_44 :: []) (H f' n') nx (zQv g fun hp_42 nx_43 => (0 ≤ 0 ∧ 0 ≤ 0 ∧ K hp_42 nx_43))) := by
    intro f' n' q1 q2
    refine ⟨Nat.le_refl _, Nat.le_refl _, ?_⟩
    rw [bH_o hH]
    exact b_inv (by omega) ⟨Nat.le_refl _, Nat.le_refl _, hK f' n' q1 q2⟩
  apply met_J0_or
  unfold wp_J0_or
  refine ⟨fun z => absurd (Option.some.inj z).symm ha, fun _ => ?_⟩
  rw [bH_g hH, g2]
  refine ⟨Nat.le_refl _, Nat.le_refl _, ?_⟩
  obtain ⟨d, rfl⟩ := Nat.exists_eq_add_of_le' (show 1 ≤ d by omega)
  apply met_J10_min
  unfold wp_J10_min
  obtain ⟨nw, enw⟩ : ∃ nw : Int32, nw = if w = 0 then 0 else 1 := ⟨_, rfl⟩
  have hnw : (nw = 0 ∧ w = 0) ∨ (nw = 1 ∧ w ≠ 0) := by
    by_cases e : w = 0
    · rw [if_pos e] at enw; exact Or.inl ⟨enw, e⟩
    · rw [if_neg e] at enw; exact Or.inr ⟨enw, e⟩
  obtain ⟨mn, emn⟩ : ∃ mn : Int32, mn = if n = 1 ∧ nw = 1 then 1 else 0 := ⟨_, rfl⟩
  rw [← enw]
  refine ⟨fun x => mn = x, ?_, fun z => ?_, fun z => ?_⟩
  rotate_left
  · rcases hU.c with h | h <;> rcases hnw with k | k <;> rw [h.1, k.1] at z <;> first | exact absurd z (by decide) | (rw [emn, h.1, k.1]; decide)
  · rcases hU.c with h | h <;> rcases hnw with k | k <;> rw [h.1, k.1] at z <;> first | exact absurd (by decide) z | (rw [emn, h.1, k.1]; decide)
  rintro x rfl
  rw [bH_g hH, g2, ← enw]
  -- what stands ahead of the loop
  refine ⟨fun x hp1 nx1 kc ks => mn = x ∧ kc = 0 ∧ ks = 0 ∧ hp1 = H f (if n = 1 ∨ nw = 1 then 1 else 0) ∧ nx = nx1, ?_, fun z => ?_, fun z => ?_⟩
  · rintro x hp1 nx1 kc ks ⟨rfl, rfl, rfl, rfl, rfl⟩
    obtain ⟨n1, en1⟩ : ∃ n1 : Int32, n1 = if n = 1 ∨ nw = 1 then 1 else 0 := ⟨_, rfl⟩
    rw [← en1]
    refine ⟨fun k x y hp1 nx1 kc ks => ∃ f1, mn = x ∧ ((y = 0 ∧ k = 1 ∧ f1 = f) ∨ (y = 1 ∧ mn = 1 ∧ f1 0 = f 0 ||| w)) ∧ kc = 0 ∧ ks = 0 ∧ hp1 = H f1 n1 ∧ nx = nx1, ⟨1, f, rfl, Or.inl ⟨rfl, rfl, rfl⟩, rfl, rfl, rfl, rfl⟩, ?_⟩
    rintro k x y hp1 nx1 kc ks ⟨f1, rfl, hy, rfl, rfl, rfl, rfl⟩
    refine ⟨fun z => ?_, fun z => ?_⟩
    · rw [g2, ← enw]
      refine ⟨fun x y hp1 nx1 kc ks => ∃ f2 n2, f2 0 = f 0 ||| w ∧ bU f2 n2 ∧ kc = 0 ∧ ks = 0 ∧ hp1 = H f2 n2 ∧ nx = nx1, ?_, fun z2 => ?_, fun z2 => ?_⟩
      · rintro x y hp1 nx1 kc ks ⟨f2, n2, q1, q2, rfl, rfl, rfl, rfl⟩
        exact fin q1 q2
      · -- nothing more in the other one
        refine ⟨f1, n1, ?_, ?_, rfl, rfl, rfl, rfl⟩
        · rcases hy with ⟨rfl, -, rfl⟩ | ⟨-, -, h⟩
          · rcases hnw with ⟨k0, k1⟩ | ⟨k0, k1⟩
            · rw [k1]; exact (Int64.or_zero).symm
            · rw [k0] at z2
              have : mn ≠ 0 := by intro y; rw [y] at z2; exact absurd z2 (by decide)
              exfalso
              have m1 : mn = 1 := by
                rw [emn] at this ⊢
                by_cases c : n = 1 ∧ nw = 1
                · rw [if_pos c]
                · rw [if_neg c] at this; exact absurd rfl this
              rw [m1] at z
              exact absurd z (by decide)
          · exact h
        · unfold bU
          rcases hU.c with h | h <;> rcases hnw with k | k
          · have hf1 : f1 0 = 0 := by
              rcases hy with ⟨-, -, rfl⟩ | ⟨-, m1, -⟩
              · exact h.2
              · rw [emn, h.1, k.1] at m1; exact absurd m1 (by decide)
            rw [en1, h.1, k.1, hf1]; decide
          · exfalso
            rw [k.1, emn, h.1, k.1] at z2
            exact absurd z2 (by decide)
          · have hf1 : f1 0 ≠ 0 := by
              rcases hy with ⟨-, -, rfl⟩ | ⟨-, m1, -⟩
              · exact h.2
              · rw [emn, k.1] at m1
                exact absurd m1 (by rw [if_neg (fun q => absurd q.2 (by decide))]; decide)
            rw [en1, h.1, if_neg hf1, if_pos (Or.inl rfl)]
          · have m1 : mn = 1 := by rw [emn, if_pos ⟨h.1, k.1⟩]
            have hf1 : f1 0 = f 0 ||| w := by
              rcases hy with ⟨rfl, -, -⟩ | ⟨-, -, q⟩
              · rw [m1] at z; exact absurd z (by decide)
              · exact q
            obtain ⟨q, q1, q2⟩ := lb_some h.2
            have : f1 0 ≠ 0 := by
              intro y
              have := congrArg (fun x => lb x q) y
              simp only [hf1, lb_or, q2, Bool.true_or, lb_z] at this
              cases this
            rw [en1, h.1, if_neg this, if_pos (Or.inl rfl)]
      · -- the other one's word is copied
        have hw : nw = 1 ∧ w ≠ 0 := by
          rcases hnw with k | k
          · rw [k.1] at z2
            exfalso
            have : mn = 0 ∨ mn = 1 := by rw [emn]; by_cases c : n = 1 ∧ nw = 1; right; rw [if_pos c]; left; rw [if_neg c]
            rcases this with q | q <;> (rw [q] at z2; exact absurd (by decide) z2)
          · exact k
        have m0 : mn = 0 ∧ n = 0 ∧ f 0 = 0 := by
          rcases hU.c with h | h
          · exact ⟨by rw [emn, h.1, hw.1]; decide, h.1, h.2⟩
          · exfalso
            rw [emn, hw.1, if_pos ⟨h.1, rfl⟩] at z2
            exact absurd (by decide) z2
        have hf1 : f1 = f := by
          rcases hy with ⟨-, -, q⟩ | ⟨-, q, -⟩
          · exact q
          · rw [m0.1] at q; exact absurd q (by decide)
        subst hf1
        have n11 : n1 = 1 := by rw [en1, if_pos (Or.inr hw.1)]
        subst n11
        obtain ⟨b2, f2, q1, q2, q3⟩ := h2 f1 1
        rw [hz_R q1 (r := some b2) rfl (by decide), bH_r hH, bH_g hH, hz_aJ q2, bH_a hH, m0.1]
        refine ⟨hH.2.1, by decide, by decide, by decide, by decide, by decide, fun i _ => rfl, ?_⟩
        intro hp1 e1
        rw [hH.2.2.2.2.1] at e1
        subst e1
        have ev : va_cpy f2 f1 (0 : Int32).toNatClampNeg (0 : Int32).toNatClampNeg ((1 : Int32) - 0).toNatClampNeg 0 = w := by rw [← q3]; rfl
        refine ⟨_, 1, ?_, ?_, rfl, rfl, rfl, rfl⟩
        · rw [ev, m0.2.2]; exact (Int64.zero_or).symm
        · unfold bU
          rw [ev, if_neg hw.2]
    · -- the word of both
      have m1 : mn = 1 := by
        rcases hy with ⟨rfl, -, -⟩ | ⟨-, q, -⟩
        · by_cases c : n = 1 ∧ nw = 1
          · rw [emn, if_pos c]
          · rw [emn, if_neg c] at z; exact absurd (by decide) z
        · exact q
      have hy : y = 0 ∧ k = 1 ∧ f1 = f := by
        rcases hy with q | ⟨rfl, -, -⟩
        · exact q
        · rw [m1] at z; exact absurd (by decide) z
      obtain ⟨rfl, rfl, rfl⟩ := hy
      obtain ⟨b2, f2, q1, q2, q3⟩ := h2 f1 n1
      rw [bH_r hH, bH_a hH]
      refine ⟨i0, ?_⟩
      rintro x73 rfl
      rw [hz_R q1 (r := some b2) rfl (by decide), hz_aJ q2]
      refine ⟨i0, ?_⟩
      rintro x81 rfl
      rw [bH_a hH]
      refine ⟨i0, hH.2.1, ?_⟩
      intro hp1 e1
      rw [hH.2.2.2.2.1, c0] at e1
      subst e1
      rintro x86 rfl
      exact ⟨0, by decide, _, rfl, Or.inr ⟨by decide, m1, by rw [va_s, q3]⟩, rfl, rfl, rfl, rfl⟩
  · have : n = if n = 1 ∨ nw = 1 then 1 else 0 := by
      rcases hU.c with h | h <;> rcases hnw with k | k
      · rw [h.1, k.1]; decide
      · rw [h.1, k.1] at z; exact absurd z (by decide)
      · rw [h.1, k.1]; decide
      · rw [h.1, k.1]; decide
    exact ⟨rfl, rfl, rfl, by rw [← this], rfl⟩
  · have hw : n = 0 ∧ nw = 1 := by
      rcases hU.c with h | h <;> rcases hnw with k | k
      · rw [h.1, k.1] at z; exact absurd (by decide) z
      · exact ⟨h.1, k.1⟩
      · rw [h.1, k.1] at z; exact absurd (by decide) z
      · rw [h.1, k.1] at z; exact absurd (by decide) z
    rw [g2, ← enw, hw.2]
    refine ⟨0, 0, Nat.le_refl _, Nat.le_refl _, ?_⟩
    rw [bH_o hH]
    refine b_ensure hH (by omega) ?_
    rw [g2, ← enw, hw.2, bH_n hH]
    refine ⟨hH.1, rfl, rfl, rfl, ?_, rfl⟩
    rw [if_pos (Or.inr rfl)]
end BS
