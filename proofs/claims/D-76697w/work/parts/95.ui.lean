set_option maxRecDepth 100000
/-! THE REFERENCE's operations: tells -/
section UI
variable {l : Launch} {g : zG} {d m0 : Nat} {τ τ' τm τ1 τ2 : tS} {hp : zHp} {nx : Nat}
/-- the first case that is otherwise -/
noncomputable def s_oth (S : sSt) (L : sL) (it : Nat → Option UInt64) : Option Nat := s_fo (fun k => ¬ s_so (s_cv S L (k / s_my L) (k % s_my L)) (it k)) (s_nc L)
/-! another kind, for a while -/
def tkK (τ : tS) (b : Nat) (z : Int32) : tS := taI τ 0 0 (va_up (τ.2.2.1 0 0) b z)
theorem tkK_id {b : Nat} : tkK τ b (τ.2.2.1 0 0 b) = τ := by
  refine tS_ext (fun _ => rfl) (fun _ => rfl) (fun k i j => ?_) (fun _ _ _ => rfl)
  unfold tkK
  by_cases hk : k = 0
  · subst hk
    by_cases hi : i = 0
    · subst hi; rw [tqa, va_id]
    · rw [tqb hi]
  · rw [tqc hk]
theorem tkK_sc {b : Nat} {z w : Int32} (h : tsc (tkK τ b z) τ1) : tsc (tkK τ b w) (taI τ1 0 0 (va_up (τ1.2.2.1 0 0) b w)) := by
  refine ⟨fun k p q r s => h.1 k p q r s, fun k p => h.2.1 k p, fun k p q r => ?_, fun k p => h.2.2.2 k p⟩
  have e := h.2.2.1 k p q r
  funext i j
  by_cases hk : k = 0
  · subst hk
    unfold tkK at e ⊢
    by_cases hi : i = 0
    · subst hi
      rw [tqa, tqa, e, tqa]
      by_cases hj : j = b
      · subst hj; rw [va_s, va_s]
      · rw [va_o hj, va_o hj, va_o hj]
    · rw [tqb hi, tqb hi, e, tqb hi]
  · unfold tkK at e ⊢
    rw [tqc hk, tqc hk, e, tqc hk]
theorem tkK_OK {rk : Nat → Nat} {b : Nat} {z : Int32} (hO : tOK rk τ) : tOK rk (tkK τ b z) ∧ tst (tkK τ b z) = (tfm τ, tly τ, s_up (tkd τ) b z, tow τ) := by
  have eI : ∀ k, k ≠ 0 → (tkK τ b z).2.2.1 k = τ.2.2.1 k := fun k hk => tqc hk
  have efm : tfm (tkK τ b z) = tfm τ := by
    funext y
    unfold tfm
    have em : tmk (tkK τ b z) y = tmk τ y := by
      funext k
      unfold tmk
      rw [eI 4 (by decide)]
      rfl
    rw [eI 3 (by decide), em]
  have eax : tax (tkK τ b z) = tax τ := by funext a; unfold tax; rw [eI 10 (by decide)]; rfl
  have ely : tly (tkK τ b z) = tly τ := by
    funext t
    unfold tly
    rw [eI 6 (by decide), eI 7 (by decide), eI 8 (by decide), eI 9 (by decide), eax]
  have ekd : tkd (tkK τ b z) = s_up (tkd τ) b z := by
    funext y
    unfold tkd tkK
    rw [tqa]
    by_cases e : y = b
    · subst e; rw [va_s, s_up_s]
    · rw [va_o e, s_up_o e]
  have eow : tow (tkK τ b z) = tow τ := by unfold tow; rw [eI 1 (by decide)]; rfl
  obtain ⟨h1, h2, h3, h4, h5, h6, h7, h8⟩ := hO
  refine ⟨⟨?_, ?_, by rw [efm, ely]; exact h3, h4, by rw [efm]; exact h5, by rw [ely]; exact h6, by rw [eow]; exact h7, ?_⟩, by unfold tst; rw [efm, ely, ekd, eow]⟩
  · unfold tWc; rw [efm, eI 3 (by decide), eI 4 (by decide)]; exact h1
  · unfold tWt; rw [eI 6 (by decide), eI 7 (by decide), eI 8 (by decide), eI 9 (by decide), eI 10 (by decide)]; exact h2
  · unfold tBo; rw [eI 1 (by decide), eI 6 (by decide)]; exact h8
/-- the kinds by which the cases are so -/
noncomputable def s_kb (S : sSt) (L : sL) (it : Nat → Option UInt64) (b : Nat) : Int32 := s_ms (fun k => s_oth (S.1, S.2.1, s_up S.2.2.1 b (nI k), S.2.2.2) L it = none) 6
theorem s_io_1 {o : Option Nat} (h : ∀ k, o = some k → k < 64) : s_io o = -1 ↔ o = none := by
  cases o with
  | none => exact ⟨fun _ => rfl, fun _ => rfl⟩
  | some k =>
    have hk := h k rfl
    constructor
    · intro e
      have := congrArg Int32.toInt e
      unfold s_io at this
      simp only at this
      rw [nI_toInt (by omega)] at this
      have h2 : (-1 : Int32).toInt = -1 := by decide
      omega
    · intro e; cases e
theorem s_fo_lt {p : Nat → Prop} : ∀ {n k : Nat}, s_fo p n = some k → k < n := by
  intro n
  induction n with
  | zero => intro k h; cases h
  | succ n ih =>
    intro k h
    cases hb : s_fo p n with
    | none =>
      simp only [s_fo, hb] at h
      unfold s_if at h
      split at h
      · cases h; omega
      · cases h
    | some e => simp only [s_fo, hb] at h; cases h; have := ih hb; omega
theorem s_oth_64 {S : sSt} {L : sL} {it : Nat → Option UInt64} (h : s_nc L ≤ 64) : ∀ k, s_oth S L it = some k → k < 64 := fun k hk => by have := s_fo_lt hk; omega
theorem t_kindsBy {rk : Nat → Nat} {t r b : Nat} {L : sL} {K : Int32 → zHp → Nat → Prop} (hd : 150 ≤ d) (hB : zB g ≤ m0) (hO : tOK rk τ) (ht : t < 6) (hr : r < 4) (hb : b < 24) (hL : tly τ t = some L) (h71 : τ.2.2.1 71 0 r = nI (s_nc L)) (h73 : ∀ k, k < s_nc L → τ.2.2.1 73 r k = 0 ∨ τ.2.2.1 73 r k = 1) (hK : ∀ τ', tsc τ τ' → K (s_kb (tst τ) L (s_item (τ.2.2.1 73 r) (τ.2.2.2 72 r)) b) (tput g m0 τ' hp) nx) : zMt l g yX5_kindsBy cX5_kindsBy 7 (some .int) d 0 0 [.ref m0, .int (nI t), .int (nI r), .int (nI b)] (tput g m0 τ hp) nx (zQi g K) := by
  obtain ⟨d, rfl⟩ := Nat.exists_eq_add_of_le' (show 1 ≤ d by omega)
  apply met_X5_kindsBy
  unfold wp_X5_kindsBy
  have cb : (nI b).toNatClampNeg = b := nI_clamp (by omega)
  have ib : vp_in (nI b) 24 := vp_in_nI hb (by decide)
  have hB2 : ∀ n, zB g ≤ m0 + n := fun n => by omega
  have hnc := (hO.2.2.2.2.2.1 t ht L hL).2.2
  obtain ⟨p, hp'⟩ : ∃ p : Nat → Prop, p = fun k => s_oth ((tst τ).1, (tst τ).2.1, s_up (tst τ).2.2.1 b (nI k), (tst τ).2.2.2) L (s_item (τ.2.2.1 73 r) (τ.2.2.2 72 r)) = none := ⟨_, rfl⟩
  have hK : ∀ τ', tsc τ τ' → K (s_ms p 6) (tput g m0 τ' hp) nx := by rw [hp']; exact hK
  simp only [tg_kinds, ta_kinds, tu_kinds, cb, ib, true_implies, false_implies, implies_true, and_true, true_and, forall_eq]
  refine ⟨fun m old set i h nx' => ∃ ii z τ1, ii ≤ 6 ∧ m = 6 - ii ∧ i = nI ii ∧ old = τ.2.2.1 0 0 b ∧ h = tput g m0 τ1 hp ∧ nx = nx' ∧ tsc (tkK τ b z) τ1 ∧ set = s_ms p ii, ⟨6, 0, τ.2.2.1 0 0 b, τ, by omega, rfl, rfl, rfl, rfl, rfl, by rw [tkK_id]; exact tsc.rf, rfl⟩, ?_⟩
  rintro m _ _ _ _ _ ⟨ii, z, τ1, hii, hm, rfl, rfl, rfl, rfl, f1, rfl⟩
  refine pk_le 6 ii (fun hle => ?_) (fun hlt => ?_)
  · have : ii = 6 := by omega
    subst this
    simp only [tg_kinds, ta_kinds, tu_kinds, cb, ib, hB2, true_implies, false_implies, implies_true, and_true, true_and, forall_eq]
    have := tkK_sc (w := τ.2.2.1 0 0 b) f1
    rw [tkK_id] at this
    exact hK _ this
  · simp only [tg_kinds, ta_kinds, tu_kinds, cb, ib, hB2, true_implies, false_implies, implies_true, and_true, true_and, forall_eq, tw_zo]
    have f2 := tkK_sc (w := nI ii) f1
    obtain ⟨O2, st2⟩ := tkK_OK (b := b) (z := nI ii) hO
    have O3 := O2.pe f2.pe
    have st3 : tst (taI τ1 0 0 (va_up (τ1.2.2.1 0 0) b (nI ii))) = (tfm τ, tly τ, s_up (tkd τ) b (nI ii), tow τ) := f2.pe.st.trans st2
    have k73 : (taI τ1 0 0 (va_up (τ1.2.2.1 0 0) b (nI ii))).2.2.1 73 = τ.2.2.1 73 := (f2.2.2.1 73 (by omega) (by omega) (by omega)).trans (tqc (by decide))
    have k71 : (taI τ1 0 0 (va_up (τ1.2.2.1 0 0) b (nI ii))).2.2.1 71 = τ.2.2.1 71 := (f2.2.2.1 71 (by omega) (by omega) (by omega)).trans (tqc (by decide))
    have k72 : (taI τ1 0 0 (va_up (τ1.2.2.1 0 0) b (nI ii))).2.2.2 72 = τ.2.2.2 72 := f2.2.2.2 72 (by omega)
    have ly3 : tly (taI τ1 0 0 (va_up (τ1.2.2.1 0 0) b (nI ii))) t = some L := by
      have : tly (taI τ1 0 0 (va_up (τ1.2.2.1 0 0) b (nI ii))) = tly τ := congrArg (fun q => q.2.1) st3
      rw [this]; exact hL
    refine t_otherwise (L := L) (n := s_nc L) (by omega) hB O3 ht hr ly3 (by rw [k71]; exact h71) rfl (by rw [k73]; exact h73) fun τ3 f3 => ?_
    rw [st3, k73, k72]
    have f23 := f2.tr f3
    have e := s_io_1 (o := s_oth (tfm τ, tly τ, s_up (tkd τ) b (nI ii), tow τ) L (s_item (τ.2.2.1 73 r) (τ.2.2.2 72 r))) (s_oth_64 hnc)
    have ep : p ii ↔ s_oth (tfm τ, tly τ, s_up (tkd τ) b (nI ii), tow τ) L (s_item (τ.2.2.1 73 r) (τ.2.2.2 72 r)) = none := by rw [hp']; exact Iff.rfl
    refine ⟨fun old set i h nx' => i = nI ii ∧ old = τ.2.2.1 0 0 b ∧ h = tput g m0 τ3 hp ∧ nx = nx' ∧ set = s_ms p (ii + 1), ?_, fun h => ?_, fun h => ?_⟩
    · rintro _ _ _ _ _ ⟨rfl, rfl, rfl, rfl, rfl⟩
      exact ⟨6 - (ii + 1), by omega, ii + 1, nI ii, τ3, by omega, rfl, nI_1 ii, rfl, rfl, rfl, f23, rfl⟩
    · refine ⟨rfl, rfl, rfl, rfl, ?_⟩
      show _ = s_ms p ii ||| s_if (p ii) _ 0
      rw [s_if_p (ep.mpr (e.mp h))]
    · refine ⟨rfl, rfl, rfl, rfl, ?_⟩
      show _ = s_ms p ii ||| s_if (p ii) _ 0
      rw [s_if_n (fun q => h (e.mpr (ep.mp q)))]
      refine b_ext fun k _ => ?_
      rw [b_or, b_0, Bool.or_false]
/-! other numbers, for a while -/
def tnN (τ : tS) (b : Nat) (v : UInt64) : tS := taD (taI τ 1 0 (va_up (τ.2.2.1 1 0) b 1)) 2 0 (va_up (τ.2.2.2 2 0) b v)
theorem tnN_id {b : Nat} : tnN τ b (τ.2.2.2 2 0 b) = taI τ 1 0 (va_up (τ.2.2.1 1 0) b 1) := by
  refine tS_ext (fun _ => rfl) (fun _ => rfl) (fun _ _ _ => rfl) (fun k i j => ?_)
  unfold tnN
  by_cases hk : k = 2
  · subst hk
    by_cases hi : i = 0
    · subst hi; rw [tqh, va_id, tqd]
    · rw [tqi hi]
  · rw [tqj hk]
theorem tnN_sc {b : Nat} {z w : UInt64} (h : tsc (tnN τ b z) τ1) : tsc (tnN τ b w) (taD τ1 2 0 (va_up (τ1.2.2.2 2 0) b w)) := by
  refine ⟨fun k p q r s => h.1 k p q r s, fun k p => h.2.1 k p, fun k p q r => h.2.2.1 k p q r, fun k p => ?_⟩
  have e := h.2.2.2 k p
  funext i j
  by_cases hk : k = 2
  · subst hk
    unfold tnN at e ⊢
    by_cases hi : i = 0
    · subst hi
      rw [tqh, tqh, e, tqh]
      by_cases hj : j = b
      · subst hj; rw [va_s, va_s]
      · rw [va_o hj, va_o hj, va_o hj]
    · rw [tqi hi, tqi hi, e, tqi hi]
  · unfold tnN at e ⊢
    rw [tqj hk, tqj hk, e, tqj hk]
theorem tnN_back {b : Nat} {z : UInt64} (h : tsc (tnN τ b z) τ1) : tsc τ (taI (taD τ1 2 0 (va_up (τ1.2.2.2 2 0) b (τ.2.2.2 2 0 b))) 1 0 (va_up (τ1.2.2.1 1 0) b (τ.2.2.1 1 0 b))) := by
  refine ⟨fun k p q r s => h.1 k p q r s, fun k p => h.2.1 k p, fun k p q r => ?_, fun k p => ?_⟩
  · have e := h.2.2.1 k p q r
    funext i j
    by_cases hk : k = 1
    · subst hk
      unfold tnN at e
      by_cases hi : i = 0
      · subst hi
        rw [tqa, e, tqg, tqa]
        by_cases hj : j = b
        · subst hj; rw [va_s]
        · rw [va_o hj, va_o hj]
      · rw [tqb hi, tqg, e, tqg, tqb hi]
    · unfold tnN at e
      rw [tqc hk, tqg, e, tqg, tqc hk]
  · have e := h.2.2.2 k p
    funext i j
    rw [tqd]
    by_cases hk : k = 2
    · subst hk
      unfold tnN at e
      by_cases hi : i = 0
      · subst hi
        rw [tqh, e, tqh]
        by_cases hj : j = b
        · subst hj; rw [va_s]
        · rw [va_o hj, va_o hj]
      · rw [tqi hi, e, tqi hi, tqd]
    · unfold tnN at e
      rw [tqj hk, e, tqj hk, tqd]
theorem tnN_OK {rk : Nat → Nat} {b : Nat} {v : UInt64} (hO : tOK rk τ) (hv : s_B v) : tOK rk (tnN τ b v) ∧ tst (tnN τ b v) = s_ow (tst τ) (s_up (tow τ) b (some v)) := by
  have m3 : ∀ k i j, ¬ (k = 1 ∧ i = 0) → (tnN τ b v).2.2.1 k i j = τ.2.2.1 k i j := by
    intro k i' j h
    unfold tnN
    rw [tqg]
    by_cases hk : k = 1
    · subst hk; rw [tqb (by omega)]
    · rw [tqc hk]
  have m4 : ∀ k i j, ¬ (k = 2 ∧ i = 0) → (tnN τ b v).2.2.2 k i j = τ.2.2.2 k i j := by
    intro k i' j h
    unfold tnN
    by_cases hk : k = 2
    · subst hk; rw [tqi (by omega), tqd]
    · rw [tqj hk, tqd]
  have how : tow (tnN τ b v) = s_up (tow τ) b (some v) := by
    funext y
    unfold tow tnN
    simp only [tq1, tq3, tq4, tq5, tq7, tq8, tq9, tqa, tqc, tqd, tqe, tqf, tqg, tqh, tqj, va_s, ne_eq, reduceCtorEq, not_false_eq_true, not_true_eq_false, if_true, if_false, Nat.reduceEqDiff]
    by_cases e : y = b
    · subst e; rw [s_up_s, va_s, va_s]; rfl
    · rw [s_up_o e, va_o e, va_o e]
  obtain ⟨OKm, efm, ely, ekd⟩ := hO.nw m3 m4 (by rw [how]; exact s_up_BO hO.2.2.2.2.2.2.1 hv) (fun c hc => by
    unfold tnN
    simp only [tq1, tq3, tq4, tq5, tq7, tq8, tq9, tqa, tqc, tqd, tqe, tqf, tqg, tqh, tqj, va_s, ne_eq, reduceCtorEq, not_false_eq_true, not_true_eq_false, if_true, if_false, Nat.reduceEqDiff]
    by_cases e : c = b
    · subst e; rw [va_s]; exact Or.inr rfl
    · rw [va_o e]; exact hO.2.2.2.2.2.2.2.1 c hc)
  exact ⟨OKm, by unfold tst s_ow; rw [efm, ely, ekd, how]⟩
/-- by which numbers from -20 to 20 the cases are so -/
def s_np (S : sSt) (L : sL) (it : Nat → Option UInt64) (b i : Nat) : Prop := s_oth (s_ow S (s_up S.2.2.2 b (some (FP.i2d (nI i - 20))))) L it = none
def s_lv (o : Option Nat) : Int32 := match o with | none => -1 | some i => 1000 + (nI i - 20)
theorem s_cn_fo {p : Nat → Prop} : ∀ {n : Nat}, s_cn p n = 0 ↔ s_fo p n = none := by
  intro n
  induction n with
  | zero => exact ⟨fun _ => rfl, fun _ => rfl⟩
  | succ n ih =>
    by_cases hp : p n
    · rw [s_cn_p hp]
      constructor
      · intro h; omega
      · intro h
        cases hb : s_fo p n with
        | none => rw [s_fo_p hb hp] at h; cases h
        | some k => rw [s_fo_k hb (n + 1) (by omega)] at h; cases h
    · rw [s_cn_n hp, ih]
      cases hb : s_fo p n with
      | none => rw [s_fo_n hb hp]
      | some k => rw [s_fo_k hb (n + 1) (by omega)]
theorem c_20 {i : Nat} : nI i - 20 + 1 = nI (i + 1) - 20 := by
  rw [← nI_1, Int32.sub_eq_add_neg, Int32.sub_eq_add_neg, Int32.add_assoc, Int32.add_assoc, Int32.add_comm 1]
theorem t_numbersBy {rk : Nat → Nat} {t r b : Nat} {L : sL} {w : Int32} {K : Int32 → zHp → Nat → Prop} (hd : 150 ≤ d) (hB : zB g ≤ m0) (hO : tOK rk τ) (hnb : ∀ c, c < 24 → s_B (τ.2.2.2 2 0 c)) (ht : t < 6) (hr : r < 4) (hb : b < 24) (hL : tly τ t = some L) (h71 : τ.2.2.1 71 0 r = nI (s_nc L)) (h73 : ∀ k, k < s_nc L → τ.2.2.1 73 r k = 0 ∨ τ.2.2.1 73 r k = 1) (hK : ∀ τ', tsc τ τ' → K (if w = 0 then nI (s_cn (s_np (tst τ) L (s_item (τ.2.2.1 73 r) (τ.2.2.2 72 r)) b) 41) else s_lv (s_fo (s_np (tst τ) L (s_item (τ.2.2.1 73 r) (τ.2.2.2 72 r)) b) 41)) (tput g m0 τ' hp) nx) : zMt l g yX5_numbersBy cX5_numbersBy 11 (some .int) d 0 0 [.ref m0, .int (nI t), .int (nI r), .int (nI b), .int w] (tput g m0 τ hp) nx (zQi g K) := by
  obtain ⟨d, rfl⟩ := Nat.exists_eq_add_of_le' (show 1 ≤ d by omega)
  apply met_X5_numbersBy
  unfold wp_X5_numbersBy
  have cb : (nI b).toNatClampNeg = b := nI_clamp (by omega)
  have ib : vp_in (nI b) 24 := vp_in_nI hb (by decide)
  have hB2 : ∀ n, zB g ≤ m0 + n := fun n => by omega
  have n1 : vp_nar .boolean 1 = 1 := by decide
  have bo : vp_nar .boolean (τ.2.2.1 1 0 b) = τ.2.2.1 1 0 b := vp_nb (hO.2.2.2.2.2.2.2.1 b hb)
  have hnc := (hO.2.2.2.2.2.1 t ht L hL).2.2
  obtain ⟨p, hp'⟩ : ∃ p, p = s_np (tst τ) L (s_item (τ.2.2.1 73 r) (τ.2.2.2 72 r)) b := ⟨_, rfl⟩
  rw [← hp'] at hK
  simp only [tg_numbers, ta_numbers, tu_numbers, tg_given, ta_given, tu_given, cb, ib, hB2, n1, true_implies, false_implies, implies_true, and_true, true_and, forall_eq, tq1, tq3, tq4, tq5, tq7, tq8, tq9, tqa, tqc, tqd, tqe, tqf, tqg, tqh, tqj, va_s, ne_eq, reduceCtorEq, not_false_eq_true, not_true_eq_false, if_true, if_false, Nat.reduceEqDiff]
  rw [← tnN_id]
  refine ⟨fun m old had cnt fst i h nx' => ∃ ii z τ1, ii ≤ 41 ∧ m = 41 - ii ∧ i = nI ii - 20 ∧ old = τ.2.2.2 2 0 b ∧ had = τ.2.2.1 1 0 b ∧ h = tput g m0 τ1 hp ∧ nx = nx' ∧ tsc (tnN τ b z) τ1 ∧ cnt = nI (s_cn p ii) ∧ fst = s_lv (s_fo p ii), ⟨41, 0, _, _, by omega, rfl, by decide, rfl, rfl, rfl, rfl, tsc.rf, rfl, rfl⟩, ?_⟩
  rintro m _ _ _ _ _ _ _ ⟨ii, z, τ1, hii, hm, rfl, rfl, rfl, rfl, rfl, f1, rfl, rfl⟩
  have hcmp : (20 : Int32) < nI ii - 20 ↔ 41 ≤ ii := by
    rw [Int32.lt_iff_toInt_lt, show (nI ii - 20 : Int32) = nI ii - nI 20 from rfl, pk_sub_toInt (by omega) (by decide)]
    have : (20 : Int32).toInt = 20 := by decide
    omega
  refine ⟨fun h => ?_, fun h => ?_⟩
  · have hie : ii = 41 := by have := hcmp.mp h; omega
    subst hie
    simp only [tg_numbers, ta_numbers, tu_numbers, tg_given, ta_given, tu_given, cb, ib, hB2, bo, true_implies, false_implies, implies_true, and_true, true_and, forall_eq, tq1, tq3, tq4, tq5, tq7, tq8, tq9, tqa, tqc, tqd, tqe, tqf, tqg, tqh, tqj, va_s, ne_eq, reduceCtorEq, not_false_eq_true, not_true_eq_false, if_true, if_false, Nat.reduceEqDiff]
    refine ⟨_, fun _ _ _ _ _ _ _ _ h => h, ?_⟩
    have hk := hK _ (tnN_back f1)
    refine ⟨fun w0 => ?_, fun w0 => ?_⟩
    · rw [if_pos w0] at hk; exact hk
    · rw [if_neg w0] at hk; exact hk
  · have hlt : ii < 41 := by
      apply Decidable.byContradiction
      intro q
      exact h (hcmp.mpr (by omega))
    simp only [tg_numbers, ta_numbers, tu_numbers, cb, ib, hB2, true_implies, false_implies, implies_true, and_true, true_and, forall_eq, tw_zo]
    have f2 := tnN_sc (w := FP.i2d (nI ii - 20)) f1
    obtain ⟨O2, st2⟩ := tnN_OK (b := b) (v := FP.i2d (nI ii - 20)) hO fb_i2d
    have O3 := O2.pe f2.pe
    have st3 : tst (taD τ1 2 0 (va_up (τ1.2.2.2 2 0) b (FP.i2d (nI ii - 20)))) = s_ow (tst τ) (s_up (tow τ) b (some (FP.i2d (nI ii - 20)))) := f2.pe.st.trans st2
    have k73 : (taD τ1 2 0 (va_up (τ1.2.2.2 2 0) b (FP.i2d (nI ii - 20)))).2.2.1 73 = τ.2.2.1 73 := (f2.2.2.1 73 (by omega) (by omega) (by omega)).trans (by unfold tnN; rw [tqg, tqc (by decide)])
    have k71 : (taD τ1 2 0 (va_up (τ1.2.2.2 2 0) b (FP.i2d (nI ii - 20)))).2.2.1 71 = τ.2.2.1 71 := (f2.2.2.1 71 (by omega) (by omega) (by omega)).trans (by unfold tnN; rw [tqg, tqc (by decide)])
    have k72 : (taD τ1 2 0 (va_up (τ1.2.2.2 2 0) b (FP.i2d (nI ii - 20)))).2.2.2 72 = τ.2.2.2 72 := (f2.2.2.2 72 (by omega)).trans (tqj (τ := taI τ 1 0 (va_up (τ.2.2.1 1 0) b 1)) (by decide))
    have ly3 : tly (taD τ1 2 0 (va_up (τ1.2.2.2 2 0) b (FP.i2d (nI ii - 20)))) t = some L := by
      have : tly (taD τ1 2 0 (va_up (τ1.2.2.2 2 0) b (FP.i2d (nI ii - 20)))) = tly τ := congrArg (fun q => q.2.1) st3
      rw [this]; exact hL
    refine t_otherwise (L := L) (n := s_nc L) (by omega) hB O3 ht hr ly3 (by rw [k71]; exact h71) rfl (by rw [k73]; exact h73) fun τ3 f3 => ?_
    rw [st3, k73, k72]
    have f23 := f2.tr f3
    have e := s_io_1 (o := s_oth (s_ow (tst τ) (s_up (tow τ) b (some (FP.i2d (nI ii - 20))))) L (s_item (τ.2.2.1 73 r) (τ.2.2.2 72 r))) (s_oth_64 hnc)
    have ep : p ii ↔ s_oth (s_ow (tst τ) (s_up (tow τ) b (some (FP.i2d (nI ii - 20))))) L (s_item (τ.2.2.1 73 r) (τ.2.2.2 72 r)) = none := by rw [hp']; exact Iff.rfl
    refine ⟨fun old had cnt fst i h nx' => i = nI ii - 20 ∧ old = τ.2.2.2 2 0 b ∧ had = τ.2.2.1 1 0 b ∧ h = tput g m0 τ3 hp ∧ nx = nx' ∧ cnt = nI (s_cn p (ii + 1)) ∧ fst = s_lv (s_fo p (ii + 1)), ?_, fun h => ?_, fun h => ?_⟩
    · rintro _ _ _ _ _ _ _ ⟨rfl, rfl, rfl, rfl, rfl, rfl, rfl⟩
      exact ⟨41 - (ii + 1), by omega, ii + 1, _, τ3, by omega, rfl, c_20, rfl, rfl, rfl, rfl, f23, rfl, rfl⟩
    · have hpi := ep.mpr (e.mp h)
      refine ⟨fun old had cnt fst i f' h nx' => i = nI ii - 20 ∧ old = τ.2.2.2 2 0 b ∧ had = τ.2.2.1 1 0 b ∧ h = tput g m0 τ3 hp ∧ nx = nx' ∧ cnt = nI (s_cn p ii) ∧ f' = s_lv (s_fo p (ii + 1)), ?_, ?_, ?_⟩
      · rintro _ _ _ _ _ _ _ _ ⟨rfl, rfl, rfl, rfl, rfl, rfl, rfl⟩
        refine ⟨rfl, rfl, rfl, rfl, rfl, ?_, rfl⟩
        rw [s_cn_p hpi]
        exact nI_1 _
      · intro hz
        have hcl := s_cn_le p ii
        have h0 : s_cn p ii = 0 := by
          apply Decidable.byContradiction
          intro q
          exact nI_ne0 (by omega) (by omega) hz
        refine ⟨rfl, rfl, rfl, rfl, rfl, rfl, ?_⟩
        rw [s_fo_p (s_cn_fo.mp h0) hpi]
        rfl
      · intro hz
        refine ⟨rfl, rfl, rfl, rfl, rfl, rfl, ?_⟩
        cases hb' : s_fo p ii with
        | none =>
          have := s_cn_fo.mpr hb'
          rw [this] at hz
          exact absurd rfl hz
        | some k => rw [s_fo_k hb' (ii + 1) (by omega)]
    · have hpi : ¬ p ii := fun q => h (e.mpr (ep.mp q))
      refine ⟨rfl, rfl, rfl, rfl, rfl, ?_, ?_⟩
      · rw [s_cn_n hpi]
      · cases hb' : s_fo p ii with
        | none => rw [s_fo_n hb' hpi]
        | some k => rw [s_fo_k hb' (ii + 1) (by omega)]
end UI
