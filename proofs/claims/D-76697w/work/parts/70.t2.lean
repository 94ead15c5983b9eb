set_option maxRecDepth 100000
/-! THE REFERENCE's contracts, leaves: numbers, the heap of told ones -/
section T2
variable {l : Launch} {g : zG} {d m0 : Nat} {τ τ' : tS} {hp : zHp} {nx : Nat}
theorem fc_l0 {a b : UInt64} : (Op.cmpValue (FP.dcmp a b) .l) = 0 ↔ s_eq a b := by
  unfold s_eq Op.cmpValue
  cases FP.dcmp a b with
  | none => simp
  | some o => cases o <;> simp
theorem fc_g0 {a b : UInt64} : (Op.cmpValue (FP.dcmp a b) .g) = 0 ↔ s_eq a b := by
  unfold s_eq Op.cmpValue
  cases FP.dcmp a b with
  | none => simp
  | some o => cases o <;> simp
theorem fc_gle {a b : UInt64} : 0 ≤ (Op.cmpValue (FP.dcmp a b) .g) ↔ ¬ s_lt a b := by
  unfold s_lt Op.cmpValue
  cases FP.dcmp a b with
  | none => simp
  | some o => cases o <;> simp
theorem fc_lle {a b : UInt64} : (Op.cmpValue (FP.dcmp a b) .l) ≤ 0 ↔ ¬ s_gt a b := by
  unfold s_gt Op.cmpValue
  cases FP.dcmp a b with
  | none => simp
  | some o => cases o <;> simp
theorem fc_llt {a b : UInt64} : 0 < (Op.cmpValue (FP.dcmp a b) .l) ↔ s_gt a b := by
  unfold s_gt Op.cmpValue
  cases FP.dcmp a b with
  | none => simp
  | some o => cases o <;> simp
theorem fc_glt {a b : UInt64} : (Op.cmpValue (FP.dcmp a b) .g) < 0 ↔ s_lt a b := by
  unfold s_lt Op.cmpValue
  cases FP.dcmp a b with
  | none => simp
  | some o => cases o <;> simp
theorem t_plain {v : UInt64} {K : UInt64 → zHp → Nat → Prop} (hd : 1 ≤ d) (hK : K (s_pl v) hp nx) : zMt l g yX5_plain cX5_plain 2 (some .double) d 0 0 [.double v] hp nx (zQd g K) := by
  obtain ⟨d, rfl⟩ := Nat.exists_eq_add_of_le' hd
  apply met_X5_plain
  unfold wp_X5_plain
  refine ⟨_, fun _ h => h, fun h => ?_, fun h => ?_⟩
  · rw [show s_pl v = FP.dconst0 from s_if_p (fc_l0.mp h)] at hK; exact hK
  · rw [show s_pl v = v from s_if_n (fun q => h (fc_l0.mpr q))] at hK; exact hK
theorem t_kept {k : Int32} {v : UInt64} {K : UInt64 → zHp → Nat → Prop} (hd : 2 ≤ d) (hv : s_B v) (hK : K (s_kp k v) hp nx) : zMt l g yX5_kept cX5_kept 3 (some .double) d 0 0 [.int k, .double v] hp nx (zQd g K) := by
  obtain ⟨d, rfl⟩ := Nat.exists_eq_add_of_le' hd
  apply met_X5_kept
  unfold wp_X5_kept
  unfold s_kp s_ft at hK
  refine ⟨fun h => ?_, fun h => ⟨fun h2 => ?_, fun h2 => ⟨fun h3 => ?_, fun h3 => ⟨fun h4 => ?_, fun h4 => ⟨fun h5 => ?_, fun h5 => ?_⟩⟩⟩⟩⟩
  · rw [if_pos h] at hK
    exact t_plain (by omega) hK
  · rw [if_neg h, if_pos h2] at hK
    exact ⟨fb_nn32 (fb_d2f hv), fb_nn (fb_f2d (fb_d2f hv)), t_plain (by omega) hK⟩
  · rw [if_neg h, if_neg h2, if_pos h3] at hK
    exact t_plain (by omega) hK
  · rw [if_neg h, if_neg h2, if_neg h3, if_pos h4] at hK
    exact ⟨fb_nn32 (fb_d2f hv), fb_nn32 (fb_frem (fb_d2f hv)), fb_nn (fb_f2d (fb_frem (fb_d2f hv))), t_plain (by omega) hK⟩
  · rw [if_neg h, if_neg h2, if_neg h3, if_neg h4, if_pos h5] at hK
    refine ⟨_, fun _ _ _ q => q, fun q => ⟨fun r => ?_, fun r => ?_⟩, fun q => ?_⟩
    · rw [s_if_n (fc_gle.mp q), s_if_n (fc_lle.mp r)] at hK
      exact t_plain (by omega) hK
    · rw [s_if_n (fc_gle.mp q), s_if_p (Classical.not_not.mp (fun z => r (fc_lle.mpr z)))] at hK
      exact t_plain (by omega) hK
    · rw [s_if_p (Classical.not_not.mp (fun z => q (fc_gle.mpr z)))] at hK
      exact t_plain (by omega) hK
  · rw [if_neg h, if_neg h2, if_neg h3, if_neg h4, if_neg h5] at hK
    exact t_plain (by omega) hK
/-! the state's parts behind a change -/
theorem va_s {α : Type} {f : Nat → α} {k : Nat} {v : α} : va_up f k v k = v := if_pos rfl
theorem va_o {α : Type} {f : Nat → α} {k j : Nat} {v : α} (h : j ≠ k) : va_up f k v j = f j := if_neg h
theorem va_id {α : Type} {f : Nat → α} {k : Nat} : va_up f k (f k) = f := by
  funext j
  by_cases h : j = k
  · subst h; rw [va_s]
  · rw [va_o h]
theorem tq1 {k : Nat} {v : Int32} : (tsI τ k v).1 k = v := by simp [tsI, va_up]
theorem tq2 {k j : Nat} {v : Int32} (h : j ≠ k) : (tsI τ k v).1 j = τ.1 j := by simp [tsI, va_up, h]
theorem tq3 {k : Nat} {v : Int32} : (tsI τ k v).2 = τ.2 := rfl
theorem tq4 {k : Nat} {v : UInt64} : (tsD τ k v).1 = τ.1 := rfl
theorem tq5 {k : Nat} {v : UInt64} : (tsD τ k v).2.1 k = v := by simp [tsD, va_up]
theorem tq6 {k j : Nat} {v : UInt64} (h : j ≠ k) : (tsD τ k v).2.1 j = τ.2.1 j := by simp [tsD, va_up, h]
theorem tq7 {k : Nat} {v : UInt64} : (tsD τ k v).2.2 = τ.2.2 := rfl
theorem tq8 {k i : Nat} {f : Nat → Int32} : (taI τ k i f).1 = τ.1 := rfl
theorem tq9 {k i : Nat} {f : Nat → Int32} : (taI τ k i f).2.1 = τ.2.1 := rfl
theorem tqa {k i : Nat} {f : Nat → Int32} : (taI τ k i f).2.2.1 k i = f := by simp [taI, va_up]
theorem tqb {k i j : Nat} {f : Nat → Int32} (h : j ≠ i) : (taI τ k i f).2.2.1 k j = τ.2.2.1 k j := by simp [taI, va_up, h]
theorem tqc {k i j : Nat} {f : Nat → Int32} (h : j ≠ k) : (taI τ k i f).2.2.1 j = τ.2.2.1 j := by simp [taI, va_up, h]
theorem tqd {k i : Nat} {f : Nat → Int32} : (taI τ k i f).2.2.2 = τ.2.2.2 := rfl
theorem tqe {k i : Nat} {f : Nat → UInt64} : (taD τ k i f).1 = τ.1 := rfl
theorem tqf {k i : Nat} {f : Nat → UInt64} : (taD τ k i f).2.1 = τ.2.1 := rfl
theorem tqg {k i : Nat} {f : Nat → UInt64} : (taD τ k i f).2.2.1 = τ.2.2.1 := rfl
theorem tqh {k i : Nat} {f : Nat → UInt64} : (taD τ k i f).2.2.2 k i = f := by simp [taD, va_up]
theorem tqi {k i j : Nat} {f : Nat → UInt64} (h : j ≠ i) : (taD τ k i f).2.2.2 k j = τ.2.2.2 k j := by simp [taD, va_up, h]
theorem tqj {k i j : Nat} {f : Nat → UInt64} (h : j ≠ k) : (taD τ k i f).2.2.2 j = τ.2.2.2 j := by simp [taD, va_up, h]
theorem tS_ext (h1 : ∀ k, τ'.1 k = τ.1 k) (h2 : ∀ k, τ'.2.1 k = τ.2.1 k) (h3 : ∀ k i j, τ'.2.2.1 k i j = τ.2.2.1 k i j) (h4 : ∀ k i j, τ'.2.2.2 k i j = τ.2.2.2 k i j) : τ' = τ := by
  obtain ⟨a, b, c, e⟩ := τ
  obtain ⟨a', b', c', e'⟩ := τ'
  have e1 : a' = a := funext h1
  have e2 : b' = b := funext h2
  have e3 : c' = c := funext fun k => funext fun i => funext fun j => h3 k i j
  have e4 : e' = e := funext fun k => funext fun i => funext fun j => h4 k i j
  rw [e1, e2, e3, e4]
/-! the frame: as it was, but for what is told at this depth or deeper, the heap from tp on, the top, the case -/
def tfr (dp tp : Nat) (τ τ' : tS) : Prop :=
  (∀ k, k ≠ 26 → k ≠ 31 → k ≠ 32 → τ'.1 k = τ.1 k) ∧ (∀ k, k ≠ 30 → τ'.2.1 k = τ.2.1 k) ∧
  (∀ k i j, ¬ ((k = 19 ∨ k = 21 ∨ k = 22 ∨ k = 23 ∨ k = 25) ∧ dp ≤ i) → ¬ ((k = 28 ∨ k = 29) ∧ tp ≤ j) → τ'.2.2.1 k i j = τ.2.2.1 k i j) ∧
  (∀ k i j, ¬ ((k = 20 ∨ k = 24) ∧ dp ≤ i) → ¬ (k = 27 ∧ tp ≤ j) → τ'.2.2.2 k i j = τ.2.2.2 k i j)
theorem tfr.rf {dp tp : Nat} : tfr dp tp τ τ := ⟨fun _ _ _ _ => rfl, fun _ _ => rfl, fun _ _ _ _ _ => rfl, fun _ _ _ _ _ => rfl⟩
theorem tfr.tr {dp tp : Nat} {a b c : tS} (h : tfr dp tp a b) (h2 : tfr dp tp b c) : tfr dp tp a c :=
  ⟨fun k p q r => (h2.1 k p q r).trans (h.1 k p q r), fun k p => (h2.2.1 k p).trans (h.2.1 k p), fun k i j p q => (h2.2.2.1 k i j p q).trans (h.2.2.1 k i j p q), fun k i j p q => (h2.2.2.2 k i j p q).trans (h.2.2.2 k i j p q)⟩
theorem tfr.wk {dp tp dp' tp' : Nat} {a b : tS} (h : tfr dp tp a b) (h1 : dp' ≤ dp) (h2 : tp' ≤ tp) : tfr dp' tp' a b :=
  ⟨h.1, h.2.1, fun k i j p q => h.2.2.1 k i j (fun z => p ⟨z.1, by omega⟩) (fun z => q ⟨z.1, by omega⟩), fun k i j p q => h.2.2.2 k i j (fun z => p ⟨z.1, by omega⟩) (fun z => q ⟨z.1, by omega⟩)⟩
theorem tfr.I {dp tp : Nat} (h : tfr dp tp τ τ') (k : Nat) (hk : k < 18) : τ'.2.2.1 k = τ.2.2.1 k := funext fun i => funext fun j => h.2.2.1 k i j (by omega) (by omega)
theorem tfr.D {dp tp : Nat} (h : tfr dp tp τ τ') (k : Nat) (hk : k < 18) : τ'.2.2.2 k = τ.2.2.2 k := funext fun i => funext fun j => h.2.2.2 k i j (by omega) (by omega)
/-- a row at this depth or deeper -/
theorem tfr.aI {dp tp k i : Nat} {f : Nat → Int32} (h0 : tfr dp tp τ τ') (h : (k = 19 ∨ k = 21 ∨ k = 22 ∨ k = 23 ∨ k = 25) ∧ dp ≤ i) : tfr dp tp τ (taI τ' k i f) := by
  refine h0.tr ⟨fun _ _ _ _ => rfl, fun _ _ => rfl, fun k' i' j h1 h2 => ?_, fun _ _ _ _ _ => rfl⟩
  by_cases hk : k' = k
  · subst hk
    by_cases hi : i' = i
    · subst hi; exact absurd h h1
    · rw [tqb hi]
  · rw [tqc hk]
theorem tfr.hI {dp tp k : Nat} {f : Nat → Int32} (h0 : tfr dp tp τ τ') (hk : k = 28 ∨ k = 29) (h : ∀ j, j < tp → f j = τ'.2.2.1 k 0 j) : tfr dp tp τ (taI τ' k 0 f) := by
  refine h0.tr ⟨fun _ _ _ _ => rfl, fun _ _ => rfl, fun k' i' j h1 h2 => ?_, fun _ _ _ _ _ => rfl⟩
  by_cases hk' : k' = k
  · subst hk'
    by_cases hi : i' = 0
    · subst hi
      rw [tqa]
      exact h j (by omega)
    · rw [tqb hi]
  · rw [tqc hk']
theorem tfr.aD {dp tp k i : Nat} {f : Nat → UInt64} (h0 : tfr dp tp τ τ') (h : (k = 20 ∨ k = 24) ∧ dp ≤ i) : tfr dp tp τ (taD τ' k i f) := by
  refine h0.tr ⟨fun _ _ _ _ => rfl, fun _ _ => rfl, fun _ _ _ _ _ => rfl, fun k' i' j h1 h2 => ?_⟩
  by_cases hk : k' = k
  · subst hk
    by_cases hi : i' = i
    · subst hi; exact absurd h h1
    · rw [tqi hi]
  · rw [tqj hk]
theorem tfr.hD {dp tp : Nat} {f : Nat → UInt64} (h0 : tfr dp tp τ τ') (h : ∀ j, j < tp → f j = τ'.2.2.2 27 0 j) : tfr dp tp τ (taD τ' 27 0 f) := by
  refine h0.tr ⟨fun _ _ _ _ => rfl, fun _ _ => rfl, fun _ _ _ _ _ => rfl, fun k' i' j h1 h2 => ?_⟩
  by_cases hk' : k' = 27
  · subst hk'
    by_cases hi : i' = 0
    · subst hi
      rw [tqh]
      exact h j (by omega)
    · rw [tqi hi]
  · rw [tqj hk']
theorem tfr.sI {dp tp k : Nat} {v : Int32} (h0 : tfr dp tp τ τ') (hk : k = 26 ∨ k = 31 ∨ k = 32) : tfr dp tp τ (tsI τ' k v) :=
  h0.tr ⟨fun j h1 h2 h3 => tq2 (by omega), fun _ _ => rfl, fun _ _ _ _ _ => rfl, fun _ _ _ _ _ => rfl⟩
theorem tfr.sD {dp tp : Nat} {v : UInt64} (h0 : tfr dp tp τ τ') : tfr dp tp τ (tsD τ' 30 v) :=
  h0.tr ⟨fun _ _ _ _ => rfl, fun j h1 => tq6 h1, fun _ _ _ _ _ => rfl, fun _ _ _ _ _ => rfl⟩
/-- the entry of the heap -/
def tEn (τ : tS) (i : Nat) (a : sT) : Prop := τ.2.2.2 27 0 i = a.1 ∧ τ.2.2.1 28 0 i = a.2.1 ∧ τ.2.2.1 29 0 i = a.2.2
def tSk (τ : tS) (tp : Nat) : List sT → Prop
  | [] => True
  | a :: r => tEn τ (tp + r.length) a ∧ tSk τ tp r
theorem tSk.tfr {dp tp b : Nat} (hf : tfr dp tp τ τ') : ∀ {st : List sT}, b + st.length ≤ tp → tSk τ b st → tSk τ' b st
  | [], _, _ => trivial
  | a :: r, hl, ⟨h1, h2⟩ => by
    have hl' : b + r.length < tp := by simp only [List.length_cons] at hl; omega
    exact ⟨⟨(hf.2.2.2 27 0 _ (by omega) (by omega)).trans h1.1, (hf.2.2.1 28 0 _ (by omega) (by omega)).trans h1.2.1, (hf.2.2.1 29 0 _ (by omega) (by omega)).trans h1.2.2⟩, tSk.tfr hf (by omega) h2⟩
theorem tEn.tfr {dp tp i : Nat} {a : sT} (hf : tfr dp tp τ τ') (hi : i < tp) (h : tEn τ i a) : tEn τ' i a :=
  ⟨(hf.2.2.2 27 0 _ (by omega) (by omega)).trans h.1, (hf.2.2.1 28 0 _ (by omega) (by omega)).trans h.2.1, (hf.2.2.1 29 0 _ (by omega) (by omega)).trans h.2.2⟩
theorem t_push {v : UInt64} {e b : Int32} {tp dp : Nat} {K : zHp → Nat → Prop} (hd : 1 ≤ d) (hB : zB g ≤ m0) (ht : τ.1 26 = nI tp) (htp : tp < 4800) (hK : ∀ τ', tfr dp tp τ τ' → τ'.1 26 = nI (tp + 1) → tEn τ' tp (v, e, if e = 0 then -1 else b) → K (tput g m0 τ' hp) nx) : zMt l g yX5_push cX5_push 5 none d 0 0 [.ref m0, .double v, .int e, .int b] (tput g m0 τ hp) nx (zQv g K) := by
  obtain ⟨d, rfl⟩ := Nat.exists_eq_add_of_le' hd
  apply met_X5_push
  unfold wp_X5_push
  have hc : (nI tp).toNatClampNeg = tp := nI_clamp (by omega)
  have hi : vp_in (nI tp) 4800 := vp_in_nI htp (by decide)
  have hB2 : ∀ n, zB g ≤ m0 + n := fun n => by omega
  simp only [tg_heap, ta_heap, tu_heap, tg_top, tp_top, tg_heapErrors, ta_heapErrors, tu_heapErrors, tg_heapBlames, ta_heapBlames, tu_heapBlames, forall_eq, ht, hc, hi, hB, hB2, true_and, tq1, tq3, tq4, tq5, tq7, tq8, tq9, tqa, tqc, tqd, tqe, tqf, tqg, tqh, tqj, va_s, ne_eq, reduceCtorEq, not_false_eq_true, not_true_eq_false, if_true, if_false, Nat.reduceEqDiff]
  refine ⟨_, fun _ _ _ _ h => h, fun h => ?_, fun h => ?_⟩
  all_goals
    simp only [tg_heap, ta_heap, tu_heap, tg_top, tp_top, tg_heapErrors, ta_heapErrors, tu_heapErrors, tg_heapBlames, ta_heapBlames, tu_heapBlames, forall_eq, ht, hc, hi, hB, hB2, true_and, tq1, tq3, tq4, tq5, tq7, tq8, tq9, tqa, tqc, tqd, tqe, tqf, tqg, tqh, tqj, va_s, ne_eq, reduceCtorEq, not_false_eq_true, not_true_eq_false, if_true, if_false, Nat.reduceEqDiff, nI_1]
    refine hK _ ((((tfr.rf.hD fun j hj => va_o (by omega)).hI (Or.inl rfl) fun j hj => va_o (by omega)).hI (Or.inr rfl) fun j hj => va_o (by omega)).sI (Or.inl rfl)) (by simp only [tq1, tq3, tq4, tq5, tq7, tq8, tq9, tqa, tqc, tqd, tqe, tqf, tqg, tqh, tqj, va_s, ne_eq, reduceCtorEq, not_false_eq_true, not_true_eq_false, if_true, if_false, Nat.reduceEqDiff]) ?_
    unfold tEn
    simp only [tq1, tq3, tq4, tq5, tq7, tq8, tq9, tqa, tqc, tqd, tqe, tqf, tqg, tqh, tqj, va_s, ne_eq, reduceCtorEq, not_false_eq_true, not_true_eq_false, if_true, if_false, Nat.reduceEqDiff, h, if_true, if_false, and_self]
theorem t_two {c act : Nat} {a b : sT} {tp dp : Nat} {K : zHp → Nat → Prop} (hd : 1 ≤ d) (hB : zB g ≤ m0) (ht : τ.1 26 = nI (tp + 2)) (htp : tp + 2 ≤ 4800) (ha : tEn τ tp a) (hb : tEn τ (tp + 1) b) (hact : 1 ≤ act ∧ act ≤ 9) (fa : s_Be a) (fb : s_Be b) (hK : ∀ τ', tfr dp tp τ τ' → τ'.1 26 = nI (tp + 1) → tEn τ' tp (s_two c act a b) → K (tput g m0 τ' hp) nx) : zMt l g yX5_two cX5_two 10 none d 0 0 [.ref m0, .int (nI c), .int (nI act)] (tput g m0 τ hp) nx (zQv g K) := by
  obtain ⟨d, rfl⟩ := Nat.exists_eq_add_of_le' hd
  apply met_X5_two
  unfold wp_X5_two
  have e1 : nI (tp + 2) - 1 = nI (tp + 1) := nI_pred (tp + 1)
  have e2 : nI (tp + 1) - 1 = nI tp := nI_pred tp
  have hc : (nI tp).toNatClampNeg = tp := nI_clamp (by omega)
  have hc1 : (nI (tp + 1)).toNatClampNeg = tp + 1 := nI_clamp (by omega)
  have hi : vp_in (nI tp) 4800 := vp_in_nI (by omega) (by decide)
  have hi1 : vp_in (nI (tp + 1)) 4800 := vp_in_nI (by omega) (by decide)
  have hB2 : ∀ n, zB g ≤ m0 + n := fun n => by omega
  obtain ⟨a1, a2, a3⟩ := a
  obtain ⟨b1, b2, b3⟩ := b
  obtain ⟨ha1, ha2, ha3⟩ := ha
  obtain ⟨hb1, hb2, hb3⟩ := hb
  have n11 : tp + 1 ≠ tp := by omega
  have ac : ∀ n, n ≤ 9 → (nI act = nI n ↔ act = n) := fun n hn => nI_eq (by omega) (by omega)
  simp only at ha1 ha2 ha3 hb1 hb2 hb3
  simp only [tg_heap, ta_heap, tu_heap, tg_top, tp_top, tg_heapErrors, ta_heapErrors, tu_heapErrors, tg_heapBlames, ta_heapBlames, tu_heapBlames, ht, e1, e2, hc, hc1, hi, hi1, hB, hB2, true_and, forall_eq, ha1, ha2, ha3, hb1, hb2, hb3, va_o n11, tq1, tq3, tq4, tq5, tq7, tq8, tq9, tqa, tqc, tqd, tqe, tqf, tqg, tqh, tqj, va_s, ne_eq, reduceCtorEq, not_false_eq_true, not_true_eq_false, if_true, if_false, Nat.reduceEqDiff]
  refine ⟨fun h1 => ⟨fun h2 => ?_, fun h2 => ?_⟩, fun h1 => ?_⟩
  · have B1 : s_B a1 := fa h1
    have B2 : s_B b1 := fb h2
    refine ⟨fun x y z h => x = nI tp ∧ a1 = y ∧ b1 = z ∧ h = tput g m0 (tsI τ 26 (nI (tp + 1))) hp ∧ ((act = 4 ∨ act = 5) → ¬ s_eq b1 0), ?_, ?_⟩
    · rintro _ _ _ _ ⟨rfl, rfl, rfl, rfl, hz⟩
      have hop := fb_op (act := act) B1 B2 hz
      refine ⟨fun x y z w h => x = nI tp ∧ w = s_op act a1 b1 ∧ h = tput g m0 (tsI τ 26 (nI (tp + 1))) hp, ?_, ?_⟩
      · rintro _ _ _ _ _ ⟨rfl, rfl, rfl⟩
        simp only [tg_heap, ta_heap, tu_heap, tg_top, tp_top, tg_heapErrors, ta_heapErrors, tu_heapErrors, tg_heapBlames, ta_heapBlames, tu_heapBlames, hc, hi, hB, hB2, true_and, forall_eq, tq1, tq3, tq4, tq5, tq7, tq8, tq9, tqa, tqc, tqd, tqe, tqf, tqg, tqh, tqj, va_s, ne_eq, reduceCtorEq, not_false_eq_true, not_true_eq_false, if_true, if_false, Nat.reduceEqDiff]
        have hfr : ∀ v : UInt64, tfr dp tp τ (taD (tsI τ 26 (nI (tp + 1))) 27 0 (va_up (τ.2.2.2 27 0) tp v)) := fun v => (tfr.rf.sI (Or.inl rfl)).hD fun j hj => va_o (by omega)
        refine ⟨_, fun _ _ _ _ _ h => h, fun h4 => ?_, fun h4 => ?_⟩
        · refine hK _ (hfr _) (by simp only [tq1, tq3, tq4, tq5, tq7, tq8, tq9, tqa, tqc, tqd, tqe, tqf, tqg, tqh, tqj, va_s, ne_eq, reduceCtorEq, not_false_eq_true, not_true_eq_false, if_true, if_false, Nat.reduceEqDiff]) ?_
          have h4' : ¬ act ≤ 4 := by
            intro h
            exact nI_nlt (a := 4) (b := act) h (by decide) h4
          unfold tEn s_two
          simp only [tq1, tq3, tq4, tq5, tq7, tq8, tq9, tqa, tqc, tqd, tqe, tqf, tqg, tqh, tqj, va_s, ne_eq, reduceCtorEq, not_false_eq_true, not_true_eq_false, if_true, if_false, Nat.reduceEqDiff, ha2, ha3, h1, h2, if_false]
          rw [s_if_n (fun q => hz q.1 q.2), s_if_n (fun q => h4' q.1)]
          exact ⟨rfl, rfl, rfl⟩
        · have h4' : act ≤ 4 := by
            apply Decidable.byContradiction
            intro h
            exact h4 (nI_lt (a := 4) (b := act) (by omega) (by omega))
          refine ⟨fun x _ _ _ h => x = nI tp ∧ h = tput g m0 (taD (tsI τ 26 (nI (tp + 1))) 27 0 (va_up (τ.2.2.2 27 0) tp (s_op act a1 b1))) hp ∧ s_far (s_op act a1 b1), ?_, ?_⟩
          · rintro _ _ _ _ _ ⟨rfl, rfl, hfar⟩
            simp only [tg_heap, ta_heap, tu_heap, tg_top, tp_top, tg_heapErrors, ta_heapErrors, tu_heapErrors, tg_heapBlames, ta_heapBlames, tu_heapBlames, hc, hi, hB, hB2, true_and, forall_eq, tq1, tq3, tq4, tq5, tq7, tq8, tq9, tqa, tqc, tqd, tqe, tqf, tqg, tqh, tqj, va_s, ne_eq, reduceCtorEq, not_false_eq_true, not_true_eq_false, if_true, if_false, Nat.reduceEqDiff]
            refine hK _ (((hfr _).hI (Or.inl rfl) fun j hj => va_o (by omega)).hI (Or.inr rfl) fun j hj => va_o (by omega)) (by simp only [tq1, tq3, tq4, tq5, tq7, tq8, tq9, tqa, tqc, tqd, tqe, tqf, tqg, tqh, tqj, va_s, ne_eq, reduceCtorEq, not_false_eq_true, not_true_eq_false, if_true, if_false, Nat.reduceEqDiff]) ?_
            unfold tEn s_two
            simp only [tq1, tq3, tq4, tq5, tq7, tq8, tq9, tqa, tqc, tqd, tqe, tqf, tqg, tqh, tqj, va_s, ne_eq, reduceCtorEq, not_false_eq_true, not_true_eq_false, if_true, if_false, Nat.reduceEqDiff, h1, h2, if_false]
            rw [s_if_n (fun q => hz q.1 q.2), s_if_p ⟨h4', hfar⟩]
            exact ⟨rfl, rfl, rfl⟩
          · have hno : ¬ s_far (s_op act a1 b1) → K (tput g m0 (taD (tsI τ 26 (nI (tp + 1))) 27 0 (va_up (τ.2.2.2 27 0) tp (s_op act a1 b1))) hp) nx := by
              intro hnf
              refine hK _ (hfr _) (by simp only [tq1, tq3, tq4, tq5, tq7, tq8, tq9, tqa, tqc, tqd, tqe, tqf, tqg, tqh, tqj, va_s, ne_eq, reduceCtorEq, not_false_eq_true, not_true_eq_false, if_true, if_false, Nat.reduceEqDiff]) ?_
              unfold tEn s_two
              simp only [tq1, tq3, tq4, tq5, tq7, tq8, tq9, tqa, tqc, tqd, tqe, tqf, tqg, tqh, tqj, va_s, ne_eq, reduceCtorEq, not_false_eq_true, not_true_eq_false, if_true, if_false, Nat.reduceEqDiff, ha2, ha3, h1, h2, if_false]
              rw [s_if_n (fun q => hz q.1 q.2), s_if_n (fun q => hnf q.2)]
              exact ⟨rfl, rfl, rfl⟩
            refine ⟨fun q => ⟨rfl, rfl, Or.inl (fc_llt.mp q)⟩, fun q => ⟨fun q2 => hno ?_, fun q2 => ⟨rfl, rfl, Or.inr ?_⟩⟩⟩
            · rintro (z | z)
              · exact q (fc_llt.mpr z)
              · exact fc_gle.mp q2 z
            · exact Classical.not_not.mp (fun z => q2 (fc_gle.mpr z))
      · unfold s_op at hop ⊢
        refine ⟨fun q => ?_, fun q => ⟨fun r => ?_, fun r => ⟨fun s => ?_, fun s => ⟨fun t => ?_, fun t => ⟨fun u => ?_, fun u => ⟨fun v => ⟨fun v2 => ?_, fun v2 => ?_⟩, fun v => ⟨fun w => ⟨fun w2 => ?_, fun w2 => ?_⟩, fun w => ⟨fun x => ⟨fun x2 => ?_, fun x2 => ?_⟩, fun x => ⟨fun x2 => ?_, fun x2 => ?_⟩⟩⟩⟩⟩⟩⟩⟩⟩
        · rw [if_pos ((ac 1 (by decide)).mp q)] at hop ⊢
          exact ⟨hop, rfl, rfl, rfl⟩
        · rw [if_neg (fun z => q ((ac 1 (by decide)).mpr z)), if_pos ((ac 2 (by decide)).mp r)] at hop ⊢
          exact ⟨hop, rfl, rfl, rfl⟩
        · rw [if_neg (fun z => q ((ac 1 (by decide)).mpr z)), if_neg (fun z => r ((ac 2 (by decide)).mpr z)), if_pos ((ac 3 (by decide)).mp s)] at hop ⊢
          exact ⟨hop, rfl, rfl, rfl⟩
        · rw [if_neg (fun z => q ((ac 1 (by decide)).mpr z)), if_neg (fun z => r ((ac 2 (by decide)).mpr z)), if_neg (fun z => s ((ac 3 (by decide)).mpr z)), if_pos ((ac 4 (by decide)).mp t)] at hop ⊢
          exact ⟨hop, rfl, rfl, rfl⟩
        · rw [if_neg (fun z => q ((ac 1 (by decide)).mpr z)), if_neg (fun z => r ((ac 2 (by decide)).mpr z)), if_neg (fun z => s ((ac 3 (by decide)).mpr z)), if_neg (fun z => t ((ac 4 (by decide)).mpr z)), if_pos ((ac 5 (by decide)).mp u)] at hop ⊢
          exact ⟨hop, rfl, rfl, rfl⟩
        · rw [if_neg (fun z => q ((ac 1 (by decide)).mpr z)), if_neg (fun z => r ((ac 2 (by decide)).mpr z)), if_neg (fun z => s ((ac 3 (by decide)).mpr z)), if_neg (fun z => t ((ac 4 (by decide)).mpr z)), if_neg (fun z => u ((ac 5 (by decide)).mpr z)), if_pos ((ac 6 (by decide)).mp v), s_if_n (fc_gle.mp v2)]
          exact ⟨rfl, rfl, rfl⟩
        · rw [if_neg (fun z => q ((ac 1 (by decide)).mpr z)), if_neg (fun z => r ((ac 2 (by decide)).mpr z)), if_neg (fun z => s ((ac 3 (by decide)).mpr z)), if_neg (fun z => t ((ac 4 (by decide)).mpr z)), if_neg (fun z => u ((ac 5 (by decide)).mpr z)), if_pos ((ac 6 (by decide)).mp v), s_if_p (Classical.not_not.mp (fun z => v2 (fc_gle.mpr z)))]
          exact ⟨rfl, rfl, rfl⟩
        · rw [if_neg (fun z => q ((ac 1 (by decide)).mpr z)), if_neg (fun z => r ((ac 2 (by decide)).mpr z)), if_neg (fun z => s ((ac 3 (by decide)).mpr z)), if_neg (fun z => t ((ac 4 (by decide)).mpr z)), if_neg (fun z => u ((ac 5 (by decide)).mpr z)), if_neg (fun z => v ((ac 6 (by decide)).mpr z)), if_pos ((ac 7 (by decide)).mp w), s_if_p (fc_l0.mp w2)]
          exact ⟨rfl, rfl, rfl⟩
        · rw [if_neg (fun z => q ((ac 1 (by decide)).mpr z)), if_neg (fun z => r ((ac 2 (by decide)).mpr z)), if_neg (fun z => s ((ac 3 (by decide)).mpr z)), if_neg (fun z => t ((ac 4 (by decide)).mpr z)), if_neg (fun z => u ((ac 5 (by decide)).mpr z)), if_neg (fun z => v ((ac 6 (by decide)).mpr z)), if_pos ((ac 7 (by decide)).mp w), s_if_n (fun z => w2 (fc_l0.mpr z))]
          exact ⟨rfl, rfl, rfl⟩
        · rw [if_neg (fun z => q ((ac 1 (by decide)).mpr z)), if_neg (fun z => r ((ac 2 (by decide)).mpr z)), if_neg (fun z => s ((ac 3 (by decide)).mpr z)), if_neg (fun z => t ((ac 4 (by decide)).mpr z)), if_neg (fun z => u ((ac 5 (by decide)).mpr z)), if_neg (fun z => v ((ac 6 (by decide)).mpr z)), if_neg (fun z => w ((ac 7 (by decide)).mpr z)), if_pos ((ac 8 (by decide)).mp x), s_if_n (fc_gle.mp x2)]
          exact ⟨rfl, rfl, rfl⟩
        · rw [if_neg (fun z => q ((ac 1 (by decide)).mpr z)), if_neg (fun z => r ((ac 2 (by decide)).mpr z)), if_neg (fun z => s ((ac 3 (by decide)).mpr z)), if_neg (fun z => t ((ac 4 (by decide)).mpr z)), if_neg (fun z => u ((ac 5 (by decide)).mpr z)), if_neg (fun z => v ((ac 6 (by decide)).mpr z)), if_neg (fun z => w ((ac 7 (by decide)).mpr z)), if_pos ((ac 8 (by decide)).mp x), s_if_p (Classical.not_not.mp (fun z => x2 (fc_gle.mpr z)))]
          exact ⟨rfl, rfl, rfl⟩
        · rw [if_neg (fun z => q ((ac 1 (by decide)).mpr z)), if_neg (fun z => r ((ac 2 (by decide)).mpr z)), if_neg (fun z => s ((ac 3 (by decide)).mpr z)), if_neg (fun z => t ((ac 4 (by decide)).mpr z)), if_neg (fun z => u ((ac 5 (by decide)).mpr z)), if_neg (fun z => v ((ac 6 (by decide)).mpr z)), if_neg (fun z => w ((ac 7 (by decide)).mpr z)), if_neg (fun z => x ((ac 8 (by decide)).mpr z)), s_if_n (fc_lle.mp x2)]
          exact ⟨rfl, rfl, rfl⟩
        · rw [if_neg (fun z => q ((ac 1 (by decide)).mpr z)), if_neg (fun z => r ((ac 2 (by decide)).mpr z)), if_neg (fun z => s ((ac 3 (by decide)).mpr z)), if_neg (fun z => t ((ac 4 (by decide)).mpr z)), if_neg (fun z => u ((ac 5 (by decide)).mpr z)), if_neg (fun z => v ((ac 6 (by decide)).mpr z)), if_neg (fun z => w ((ac 7 (by decide)).mpr z)), if_neg (fun z => x ((ac 8 (by decide)).mpr z)), s_if_p (Classical.not_not.mp (fun z => x2 (fc_lle.mpr z)))]
          exact ⟨rfl, rfl, rfl⟩
    · refine ⟨fun x y z h => x = nI tp ∧ a1 = y ∧ b1 = z ∧ h = tput g m0 (tsI τ 26 (nI (tp + 1))) hp ∧ (act = 4 ∨ act = 5), ?_, fun q => ⟨rfl, rfl, rfl, rfl, Or.inl ((ac 4 (by decide)).mp q)⟩, fun q => ⟨fun r => ⟨rfl, rfl, rfl, rfl, Or.inr ((ac 5 (by decide)).mp r)⟩, fun r => ⟨rfl, rfl, rfl, rfl, fun z => absurd z (fun z => z.elim (fun y => q ((ac 4 (by decide)).mpr y)) (fun y => r ((ac 5 (by decide)).mpr y)))⟩⟩⟩
      rintro _ _ _ _ ⟨rfl, rfl, rfl, rfl, h45⟩
      refine ⟨fun hz => ?_, fun hz => ⟨rfl, rfl, rfl, rfl, fun _ z => hz (fc_l0.mpr z)⟩⟩
      simp only [tg_heap, ta_heap, tu_heap, tg_top, tp_top, tg_heapErrors, ta_heapErrors, tu_heapErrors, tg_heapBlames, ta_heapBlames, tu_heapBlames, hc, hi, hB, hB2, true_and, forall_eq, tq1, tq3, tq4, tq5, tq7, tq8, tq9, tqa, tqc, tqd, tqe, tqf, tqg, tqh, tqj, va_s, ne_eq, reduceCtorEq, not_false_eq_true, not_true_eq_false, if_true, if_false, Nat.reduceEqDiff]
      refine hK _ (((tfr.rf.sI (Or.inl rfl)).hI (Or.inl rfl) fun j hj => va_o (by omega)).hI (Or.inr rfl) fun j hj => va_o (by omega)) (by simp only [tq1, tq3, tq4, tq5, tq7, tq8, tq9, tqa, tqc, tqd, tqe, tqf, tqg, tqh, tqj, va_s, ne_eq, reduceCtorEq, not_false_eq_true, not_true_eq_false, if_true, if_false, Nat.reduceEqDiff]) ?_
      unfold tEn s_two
      simp only [tq1, tq3, tq4, tq5, tq7, tq8, tq9, tqa, tqc, tqd, tqe, tqf, tqg, tqh, tqj, va_s, ne_eq, reduceCtorEq, not_false_eq_true, not_true_eq_false, if_true, if_false, Nat.reduceEqDiff, ha1, h1, h2, if_false]
      rw [s_if_p ⟨h45, fc_l0.mp hz⟩]
      exact ⟨rfl, rfl, rfl⟩
  · refine hK _ (((tfr.rf.sI (Or.inl rfl)).hI (Or.inl rfl) fun j hj => va_o (by omega)).hI (Or.inr rfl) fun j hj => va_o (by omega)) (by simp only [tq1, tq3, tq4, tq5, tq7, tq8, tq9, tqa, tqc, tqd, tqe, tqf, tqg, tqh, tqj, va_s, ne_eq, reduceCtorEq, not_false_eq_true, not_true_eq_false, if_true, if_false, Nat.reduceEqDiff]) ?_
    unfold tEn s_two
    simp only [tq1, tq3, tq4, tq5, tq7, tq8, tq9, tqa, tqc, tqd, tqe, tqf, tqg, tqh, tqj, va_s, ne_eq, reduceCtorEq, not_false_eq_true, not_true_eq_false, if_true, if_false, Nat.reduceEqDiff, ha1, h1, h2, if_false, if_true, and_self]
  · refine hK _ (tfr.rf.sI (Or.inl rfl)) (by simp only [tq1, tq3, tq4, tq5, tq7, tq8, tq9, tqa, tqc, tqd, tqe, tqf, tqg, tqh, tqj, va_s, ne_eq, reduceCtorEq, not_false_eq_true, not_true_eq_false, if_true, if_false, Nat.reduceEqDiff]) ?_
    unfold tEn s_two
    simp only [tq1, tq3, tq4, tq5, tq7, tq8, tq9, tqa, tqc, tqd, tqe, tqf, tqg, tqh, tqj, va_s, ne_eq, reduceCtorEq, not_false_eq_true, not_true_eq_false, if_true, if_false, Nat.reduceEqDiff, ha1, ha2, ha3, h1, if_true, and_self]
theorem t_pick {x y z : sT} {tp dp : Nat} {K : zHp → Nat → Prop} (hd : 1 ≤ d) (hB : zB g ≤ m0) (ht : τ.1 26 = nI (tp + 3)) (htp : tp + 3 ≤ 4800) (hx : tEn τ tp x) (hy : tEn τ (tp + 1) y) (hz : tEn τ (tp + 2) z) (hK : ∀ τ', tfr dp tp τ τ' → τ'.1 26 = nI (tp + 1) → tEn τ' tp (s_pick x y z) → K (tput g m0 τ' hp) nx) : zMt l g yX5_pick cX5_pick 2 none d 0 0 [.ref m0] (tput g m0 τ hp) nx (zQv g K) := by
  obtain ⟨d, rfl⟩ := Nat.exists_eq_add_of_le' hd
  apply met_X5_pick
  unfold wp_X5_pick
  have e1 : nI (tp + 3) - 2 = nI (tp + 1) := pk_sub (a := tp + 3) (b := 2) (by omega)
  have e2 : nI (tp + 1) - 1 = nI tp := nI_pred tp
  have e3 : nI (tp + 1) + 1 = nI (tp + 2) := nI_1 (tp + 1)
  have hc : (nI tp).toNatClampNeg = tp := nI_clamp (by omega)
  have hc1 : (nI (tp + 1)).toNatClampNeg = tp + 1 := nI_clamp (by omega)
  have hc2 : (nI (tp + 2)).toNatClampNeg = tp + 2 := nI_clamp (by omega)
  have hi : vp_in (nI tp) 4800 := vp_in_nI (by omega) (by decide)
  have hi1 : vp_in (nI (tp + 1)) 4800 := vp_in_nI (by omega) (by decide)
  have hi2 : vp_in (nI (tp + 2)) 4800 := vp_in_nI (by omega) (by decide)
  have hB2 : ∀ n, zB g ≤ m0 + n := fun n => by omega
  obtain ⟨x1, x2, x3⟩ := x
  obtain ⟨y1, y2, y3⟩ := y
  obtain ⟨z1, z2, z3⟩ := z
  obtain ⟨hx1, hx2, hx3⟩ := hx
  obtain ⟨hy1, hy2, hy3⟩ := hy
  obtain ⟨hz1, hz2, hz3⟩ := hz
  simp only at hx1 hx2 hx3 hy1 hy2 hy3 hz1 hz2 hz3
  have key : ∀ (j : Nat) (a : sT), (j = tp ∨ j = tp + 1 ∨ j = tp + 2) → tEn τ j a → s_pick (x1, x2, x3) (y1, y2, y3) (z1, z2, z3) = a → K (tput g m0 (taI (taI (taD (tsI τ 26 (nI (tp + 1))) 27 0 (va_up (τ.2.2.2 27 0) tp (τ.2.2.2 27 0 j))) 28 0 (va_up (τ.2.2.1 28 0) tp (τ.2.2.1 28 0 j))) 29 0 (va_up (τ.2.2.1 29 0) tp (τ.2.2.1 29 0 j))) hp) nx := by
    intro j a hj h1 h2
    refine hK _ ((((tfr.rf.sI (Or.inl rfl)).hD fun j hj => va_o (by omega)).hI (Or.inl rfl) fun j hj => va_o (by omega)).hI (Or.inr rfl) fun j hj => va_o (by omega)) (by simp only [tq1, tq3, tq4, tq5, tq7, tq8, tq9, tqa, tqc, tqd, tqe, tqf, tqg, tqh, tqj, va_s, ne_eq, reduceCtorEq, not_false_eq_true, not_true_eq_false, if_true, if_false, Nat.reduceEqDiff]) ?_
    rw [h2]
    unfold tEn
    simp only [tq1, tq3, tq4, tq5, tq7, tq8, tq9, tqa, tqc, tqd, tqe, tqf, tqg, tqh, tqj, va_s, ne_eq, reduceCtorEq, not_false_eq_true, not_true_eq_false, if_true, if_false, Nat.reduceEqDiff]
    exact h1
  simp only [tg_heap, ta_heap, tu_heap, tg_top, tp_top, tg_heapErrors, ta_heapErrors, tu_heapErrors, tg_heapBlames, ta_heapBlames, tu_heapBlames, ht, e1, e2, e3, hc, hi, hB, hB2, true_and, forall_eq, hx1, hx2, tq1, tq3, tq4, tq5, tq7, tq8, tq9, tqa, tqc, tqd, tqe, tqf, tqg, tqh, tqj, va_s, ne_eq, reduceCtorEq, not_false_eq_true, not_true_eq_false, if_true, if_false, Nat.reduceEqDiff]
  refine ⟨_, fun _ _ h => h, fun h1 => ⟨fun h2 => ?_, fun h2 => ?_⟩, fun h1 => ?_⟩
  · simp only [tg_heap, ta_heap, tu_heap, tg_top, tp_top, tg_heapErrors, ta_heapErrors, tu_heapErrors, tg_heapBlames, ta_heapBlames, tu_heapBlames, e2, hc, hc2, hi, hi2, hB, hB2, true_and, forall_eq, tq1, tq3, tq4, tq5, tq7, tq8, tq9, tqa, tqc, tqd, tqe, tqf, tqg, tqh, tqj, va_s, ne_eq, reduceCtorEq, not_false_eq_true, not_true_eq_false, if_true, if_false, Nat.reduceEqDiff]
    refine key (tp + 2) (z1, z2, z3) (by omega) ⟨hz1, hz2, hz3⟩ ?_
    unfold s_pick
    simp only [h1, ne_eq, not_true, if_false]
    exact s_if_p (fc_l0.mp h2)
  · simp only [tg_heap, ta_heap, tu_heap, tg_top, tp_top, tg_heapErrors, ta_heapErrors, tu_heapErrors, tg_heapBlames, ta_heapBlames, tu_heapBlames, e2, hc, hc1, hi, hi1, hB, hB2, true_and, forall_eq, tq1, tq3, tq4, tq5, tq7, tq8, tq9, tqa, tqc, tqd, tqe, tqf, tqg, tqh, tqj, va_s, ne_eq, reduceCtorEq, not_false_eq_true, not_true_eq_false, if_true, if_false, Nat.reduceEqDiff]
    refine key (tp + 1) (y1, y2, y3) (by omega) ⟨hy1, hy2, hy3⟩ ?_
    unfold s_pick
    simp only [h1, ne_eq, not_true, if_false]
    exact s_if_n (fun q => h2 (fc_l0.mpr q))
  · simp only [tg_heap, ta_heap, tu_heap, tg_top, tp_top, tg_heapErrors, ta_heapErrors, tu_heapErrors, tg_heapBlames, ta_heapBlames, tu_heapBlames, e2, hc, hi, hB, hB2, true_and, forall_eq, tq1, tq3, tq4, tq5, tq7, tq8, tq9, tqa, tqc, tqd, tqe, tqf, tqg, tqh, tqj, va_s, ne_eq, reduceCtorEq, not_false_eq_true, not_true_eq_false, if_true, if_false, Nat.reduceEqDiff]
    refine key tp (x1, x2, x3) (by omega) ⟨hx1, hx2, hx3⟩ ?_
    unfold s_pick
    rw [if_pos h1]
end T2
