set_option maxRecDepth 100000
/-! THE REFERENCE's contracts: what is told now -/
section T8
variable {l : Launch} {g : zG} {d m0 : Nat} {τ τ' τm τ2 : tS} {hp : zHp} {nx : Nat}
/-- as it was, but for what was told and such -/
def tsc (τ τ' : tS) : Prop :=
  (∀ k, k ≠ 18 → k ≠ 26 → k ≠ 31 → k ≠ 32 → τ'.1 k = τ.1 k) ∧ (∀ k, k ≠ 30 → τ'.2.1 k = τ.2.1 k) ∧ (∀ k, ¬ (14 ≤ k ∧ k ≤ 29) → k ≠ 49 → k ≠ 50 → τ'.2.2.1 k = τ.2.2.1 k) ∧ (∀ k, ¬ (14 ≤ k ∧ k ≤ 29) → τ'.2.2.2 k = τ.2.2.2 k)
theorem tsc.rf : tsc τ τ := ⟨fun _ _ _ _ _ => rfl, fun _ _ => rfl, fun _ _ _ _ => rfl, fun _ _ => rfl⟩
theorem tsc.tr {a b c : tS} (h : tsc a b) (h2 : tsc b c) : tsc a c :=
  ⟨fun k p q r s => (h2.1 k p q r s).trans (h.1 k p q r s), fun k p => (h2.2.1 k p).trans (h.2.1 k p), fun k p q r => (h2.2.2.1 k p q r).trans (h.2.2.1 k p q r), fun k p => (h2.2.2.2 k p).trans (h.2.2.2 k p)⟩
theorem tsc.pe (h : tsc τ τ') : tpe τ τ' := ⟨fun k hk => h.2.2.1 k (by omega) (by omega) (by omega), fun k hk => h.2.2.2 k (by omega)⟩
theorem tfr.sc {dp tp : Nat} (h : tfr dp tp τ τ') : tsc τ τ' :=
  ⟨fun k _ q r s => h.1 k q r s, fun k p => h.2.1 k p, fun k p _ _ => funext fun i => funext fun j => h.2.2.1 k i j (by omega) (by omega), fun k p => funext fun i => funext fun j => h.2.2.2 k i j (by omega) (by omega)⟩
theorem tsc.sI {k : Nat} {v : Int32} (h : tsc τ τ') (hk : k = 18 ∨ k = 26 ∨ k = 31 ∨ k = 32) : tsc τ (tsI τ' k v) := h.tr ⟨fun j a b c d => tq2 (by omega), fun _ _ => rfl, fun _ _ _ _ => rfl, fun _ _ => rfl⟩
theorem tsc.aI {k i : Nat} {f : Nat → Int32} (h : tsc τ τ') (hk : (14 ≤ k ∧ k ≤ 29) ∨ k = 49 ∨ k = 50) : tsc τ (taI τ' k i f) := h.tr ⟨fun _ _ _ _ _ => rfl, fun _ _ => rfl, fun j a b c => tqc (by omega), fun _ _ => rfl⟩
theorem fc_self {v : UInt64} (h : s_F v) : s_eq v v := by
  obtain ⟨s, c, q, h⟩ := h
  unfold s_eq
  show FP.Core.order (fv v) (fv v) = _
  rw [h]
  simp [FP.Core.order, fq_cmp]
theorem t_isNaN {v : UInt64} {K : Int32 → zHp → Nat → Prop} (hd : 1 ≤ d) (h : s_F v) (hK : K 0 hp nx) : zMt l g yJ23_isNaN cJ23_isNaN 2 (some .boolean) d 0 0 [.double v] hp nx (zQi g K) := by
  obtain ⟨d, rfl⟩ := Nat.exists_eq_add_of_le' hd
  apply met_J23_isNaN
  unfold wp_J23_isNaN
  refine ⟨_, fun _ h => h, fun _ => ⟨Or.inl rfl, hK⟩, fun h2 => absurd (fc_l0.mpr (fc_self h)) h2⟩
theorem t_dlb {v : UInt64} {K : Int64 → zHp → Nat → Prop} (hd : 2 ≤ d) (h : s_F v) (hK : K v.toInt64 hp nx) : zMt l g yJ23_doubleToLongBits cJ23_doubleToLongBits 2 (some .long) d 0 0 [.double v] hp nx (zQl g K) := by
  obtain ⟨d, rfl⟩ := Nat.exists_eq_add_of_le' (show 1 ≤ d by omega)
  apply met_J23_doubleToLongBits
  unfold wp_J23_doubleToLongBits
  exact t_isNaN (by omega) h ⟨fun _ => hK, fun h => absurd rfl h⟩
theorem t_bits {v : UInt64} {K : Int64 → zHp → Nat → Prop} (hd : 3 ≤ d) (h : s_F v) (hK : K v.toInt64 hp nx) : zMt l g yX5_bits cX5_bits 2 (some .long) d 0 0 [.double v] hp nx (zQl g K) := by
  obtain ⟨d, rfl⟩ := Nat.exists_eq_add_of_le' (show 1 ≤ d by omega)
  apply met_X5_bits
  unfold wp_X5_bits
  exact t_dlb (by omega) h hK
/-- an answer -/
def s_an (v : UInt64) (e : Int32) : Int64 := if e = 0 then v.toInt64 else -20 - e.toInt64
theorem t_answer {v : UInt64} {e : Int32} {K : Int64 → zHp → Nat → Prop} (hd : 4 ≤ d) (h : e = 0 → s_F v) (hK : K (s_an v e) hp nx) : zMt l g yX5_answer cX5_answer 3 (some .long) d 0 0 [.double v, .int e] hp nx (zQl g K) := by
  obtain ⟨d, rfl⟩ := Nat.exists_eq_add_of_le' (show 1 ≤ d by omega)
  apply met_X5_answer
  unfold wp_X5_answer
  unfold s_an at hK
  refine ⟨_, fun _ _ _ h => h, fun e => ?_, fun e => ?_⟩
  · rw [if_pos e] at hK
    exact t_bits (by omega) (h e) hK
  · rw [if_neg e] at hK
    exact hK
theorem t_tellNow {rk : Nat → Nat} {c : Nat} {K : zHp → Nat → Prop} (hd : 130 ≤ d) (hB : zB g ≤ m0) (hO : tOK rk τ) (hc : c < 24) (hK : ∀ τ', tsc τ τ' → tVal τ' 0 c (tEV τ c) → K (tput g m0 τ' hp) nx) : zMt l g yX5_tellNow cX5_tellNow 2 none d 0 0 [.ref m0, .int (nI c)] (tput g m0 τ hp) nx (zQv g K) := by
  obtain ⟨d, rfl⟩ := Nat.exists_eq_add_of_le' (show 1 ≤ d by omega)
  apply met_X5_tellNow
  unfold wp_X5_tellNow
  simp only [tg_deep, tp_deep, tg_top, tp_top, hB, true_and, tw_zo]
  have f0 : tsc τ (tsI (tsI τ 18 0) 26 0) := (tsc.rf.sI (Or.inl rfl)).sI (Or.inr (Or.inl rfl))
  refine t_afresh (dp := 0) (tp := 0) (by omega) hB (by rw [tq2 (by decide), tq1]; rfl) (by decide) fun τ1 f1 q1 q19 q23 => ?_
  simp only [tw_zo]
  have f01 := f0.tr f1.sc
  have hrk := hO.2.2.2.1 c (by omega)
  refine t_tell hB rk 30 d 0 0 c τ1 _ hc hrk (by omega) (hO.pe f01.pe) ?_ (by rw [q1, tq2 (by decide), tq1]; rfl) (by rw [q1, tq1]; rfl) (by omega) ⟨fun c hc h => absurd (q19 c hc) h, fun u hu h => absurd (q23 u hu) h⟩ fun τ2 f2 k26 km kt => ?_
  · have := s_cn_le (fun t => rk (24 + t) < rk c) 6
    omega
  · have ev := km.1 c hc kt
    rw [f2.pe.EV, f01.pe.EV] at ev
    exact hK τ2 (f01.tr f2.sc) ev
theorem t_valueNow {rk : Nat → Nat} {c : Nat} {K : UInt64 → zHp → Nat → Prop} (hd : 131 ≤ d) (hB : zB g ≤ m0) (hO : tOK rk τ) (hc : c < 24) (hK : ∀ τ', tsc τ τ' → tVal τ' 0 c (tEV τ c) → K (tEV τ c).1 (tput g m0 τ' hp) nx) : zMt l g yX5_valueNow cX5_valueNow 2 (some .double) d 0 0 [.ref m0, .int (nI c)] (tput g m0 τ hp) nx (zQd g K) := by
  obtain ⟨d, rfl⟩ := Nat.exists_eq_add_of_le' (show 1 ≤ d by omega)
  apply met_X5_valueNow
  unfold wp_X5_valueNow
  simp only [tw_zo]
  refine t_tellNow (by omega) hB hO hc fun τ1 f1 ev => ?_
  have cc : (nI c).toNatClampNeg = c := nI_clamp (by omega)
  have ic : vp_in (nI c) 24 := vp_in_nI hc (by decide)
  have c0 : (0 : Int32).toNatClampNeg = 0 := by decide
  have i0 : vp_in (0 : Int32) 7 := vp_in_nI (n := 0) (by decide) (by decide)
  simp only [tg_values, ta_values, c0, i0, tb_values (show 0 < 7 by decide), tv_values (show 0 < 7 by decide), cc, ic, true_implies, false_implies, implies_true, and_true, true_and, forall_eq, ev.1]
  exact hK τ1 f1 ev
theorem t_errorOf {c : Nat} {K : Int32 → zHp → Nat → Prop} (hd : 1 ≤ d) (hc : c < 24) (hK : K (τ.2.2.1 21 0 c) (tput g m0 τ hp) nx) : zMt l g yX5_errorOf cX5_errorOf 2 (some .int) d 0 0 [.ref m0, .int (nI c)] (tput g m0 τ hp) nx (zQi g K) := by
  obtain ⟨d, rfl⟩ := Nat.exists_eq_add_of_le' (show 1 ≤ d by omega)
  apply met_X5_errorOf
  unfold wp_X5_errorOf
  have cc : (nI c).toNatClampNeg = c := nI_clamp (by omega)
  have ic : vp_in (nI c) 24 := vp_in_nI hc (by decide)
  have c0 : (0 : Int32).toNatClampNeg = 0 := by decide
  have i0 : vp_in (0 : Int32) 7 := vp_in_nI (n := 0) (by decide) (by decide)
  simp only [tg_errors, ta_errors, c0, i0, tb_errors (show 0 < 7 by decide), tv_errors (show 0 < 7 by decide), cc, ic, true_implies, false_implies, implies_true, and_true, true_and, forall_eq]
  exact hK
/-- other numbers on the same sheet -/
theorem tOK.nw {rk : Nat → Nat} (hO : tOK rk τ) (hm3 : ∀ k i j, ¬ (k = 1 ∧ i = 0) → τm.2.2.1 k i j = τ.2.2.1 k i j) (hm4 : ∀ k i j, ¬ (k = 2 ∧ i = 0) → τm.2.2.2 k i j = τ.2.2.2 k i j) (how : s_BO (tow τm)) (hbo : ∀ c, c < 24 → τm.2.2.1 1 0 c = 0 ∨ τm.2.2.1 1 0 c = 1) : tOK rk τm ∧ tfm τm = tfm τ ∧ tly τm = tly τ ∧ tkd τm = tkd τ := by
  have q : ∀ k, k ≠ 1 → τm.2.2.1 k = τ.2.2.1 k := fun k hk => funext fun i => funext fun j => hm3 k i j (fun h => hk h.1)
  have r : ∀ k, k ≠ 2 → τm.2.2.2 k = τ.2.2.2 k := fun k hk => funext fun i => funext fun j => hm4 k i j (fun h => hk h.1)
  have efm : tfm τm = tfm τ := by
    funext c
    unfold tfm
    rw [q 3 (by decide)]
    congr 1
    funext k
    unfold tmk
    rw [q 4 (by decide), r 5 (by decide)]
  have eax : tax τm = tax τ := by funext a; unfold tax; rw [q 10 (by decide), r 11 (by decide)]
  have ely : tly τm = tly τ := by
    funext t
    unfold tly
    rw [q 6 (by decide), q 7 (by decide), q 8 (by decide), q 9 (by decide), eax]
  have ekd : tkd τm = tkd τ := by unfold tkd; rw [q 0 (by decide)]
  obtain ⟨h1, h2, h3, h4, h5, h6, h7, h8⟩ := hO
  refine ⟨⟨?_, ?_, by rw [efm, ely]; exact h3, h4, by rw [efm]; exact h5, by rw [ely]; exact h6, how, hbo, ?_⟩, efm, ely, ekd⟩
  · unfold tWc
    rw [efm, q 3 (by decide), q 4 (by decide)]
    exact h1
  · unfold tWt
    rw [q 6 (by decide), q 7 (by decide), q 8 (by decide), q 9 (by decide), q 10 (by decide)]
    exact h2
  · rw [q 6 (by decide)]
    exact h8.2
theorem s_up_BO {ow : sO} {i : Nat} {x : UInt64} (h : s_BO ow) (hx : s_B x) : s_BO (s_up ow i (some x)) := by
  intro y v hv
  by_cases e : y = i
  · subst e; rw [s_up_s] at hv; cases hv; exact hx
  · rw [s_up_o e] at hv; exact h y v hv
theorem t_valueBy {rk : Nat → Nat} {i c : Nat} {x : UInt64} {K : UInt64 → zHp → Nat → Prop} (hd : 132 ≤ d) (hB : zB g ≤ m0) (hO : tOK rk τ) (hi : i < 24) (hc : c < 24) (hx : s_B x) (hK : ∀ τ', tsc τ τ' → τ'.2.2.1 21 0 c = (s_EV (tfm τ) (tly τ) (tkd τ) (s_up (tow τ) i (some x)) c).2.1 → K (s_EV (tfm τ) (tly τ) (tkd τ) (s_up (tow τ) i (some x)) c).1 (tput g m0 τ' hp) nx) : zMt l g yX5_valueBy cX5_valueBy 10 (some .double) d 0 0 [.ref m0, .int (nI i), .double x, .int (nI c)] (tput g m0 τ hp) nx (zQd g K) := by
  obtain ⟨d, rfl⟩ := Nat.exists_eq_add_of_le' (show 1 ≤ d by omega)
  apply met_X5_valueBy
  unfold wp_X5_valueBy
  have ci : (nI i).toNatClampNeg = i := nI_clamp (by omega)
  have ii : vp_in (nI i) 24 := vp_in_nI hi (by decide)
  have hB2 : ∀ n, zB g ≤ m0 + n := fun n => by omega
  have n1 : vp_nar .boolean 1 = 1 := by decide
  have bo : vp_nar .boolean (τ.2.2.1 1 0 i) = τ.2.2.1 1 0 i := vp_nb (hO.2.2.2.2.2.2.2.1 i hi)
  simp only [tg_numbers, ta_numbers, tu_numbers, tg_given, ta_given, tu_given, ci, ii, hB2, n1, true_implies, false_implies, implies_true, and_true, true_and, forall_eq, tw_zo, tq1, tq3, tq4, tq5, tq7, tq8, tq9, tqa, tqc, tqd, tqe, tqf, tqg, tqh, tqj, va_s, ne_eq, reduceCtorEq, not_false_eq_true, not_true_eq_false, if_true, if_false, Nat.reduceEqDiff]
  obtain ⟨τm, hτm⟩ : ∃ τm, τm = taI (taD τ 2 0 (va_up (τ.2.2.2 2 0) i x)) 1 0 (va_up (τ.2.2.1 1 0) i 1) := ⟨_, rfl⟩
  rw [← hτm]
  have m3 : ∀ k i j, ¬ (k = 1 ∧ i = 0) → τm.2.2.1 k i j = τ.2.2.1 k i j := by
    intro k i' j h
    rw [hτm]
    by_cases hk : k = 1
    · subst hk; rw [tqb (by omega)]; rfl
    · rw [tqc hk]; rfl
  have m4 : ∀ k i j, ¬ (k = 2 ∧ i = 0) → τm.2.2.2 k i j = τ.2.2.2 k i j := by
    intro k i' j h
    rw [hτm, tqd]
    by_cases hk : k = 2
    · subst hk; rw [tqi (by omega)]
    · rw [tqj hk]
  have how : tow τm = s_up (tow τ) i (some x) := by
    funext y
    unfold tow
    rw [hτm]
    simp only [tq1, tq3, tq4, tq5, tq7, tq8, tq9, tqa, tqc, tqd, tqe, tqf, tqg, tqh, tqj, va_s, ne_eq, reduceCtorEq, not_false_eq_true, not_true_eq_false, if_true, if_false, Nat.reduceEqDiff]
    by_cases e : y = i
    · subst e; rw [s_up_s, va_s, va_s]; rfl
    · rw [s_up_o e, va_o e, va_o e]
  obtain ⟨OKm, efm, ely, ekd⟩ := hO.nw m3 m4 (by rw [how]; exact s_up_BO hO.2.2.2.2.2.2.1 hx) (fun c hc => by
    rw [hτm]
    simp only [tq1, tq3, tq4, tq5, tq7, tq8, tq9, tqa, tqc, tqd, tqe, tqf, tqg, tqh, tqj, va_s, ne_eq, reduceCtorEq, not_false_eq_true, not_true_eq_false, if_true, if_false, Nat.reduceEqDiff]
    by_cases e : c = i
    · subst e; rw [va_s]; exact Or.inr rfl
    · rw [va_o e]; exact hO.2.2.2.2.2.2.2.1 c hc)
  have eEV : tEV τm c = s_EV (tfm τ) (tly τ) (tkd τ) (s_up (tow τ) i (some x)) c := by unfold tEV; rw [efm, ely, ekd, how]
  refine t_valueNow (by omega) hB OKm hc fun τ2 f2 ev => ?_
  rw [eEV] at ev ⊢
  simp only [tg_numbers, ta_numbers, tu_numbers, tg_given, ta_given, tu_given, ci, ii, hB2, bo, true_implies, false_implies, implies_true, and_true, true_and, forall_eq, tq1, tq3, tq4, tq5, tq7, tq8, tq9, tqa, tqc, tqd, tqe, tqf, tqg, tqh, tqj, va_s, ne_eq, reduceCtorEq, not_false_eq_true, not_true_eq_false, if_true, if_false, Nat.reduceEqDiff]
  refine hK _ ⟨fun k a b c e => ?_, fun k a => ?_, fun k a b c => ?_, fun k a => ?_⟩ ?_
  · simp only [tq8, tqe]
    rw [f2.1 k a b c e, hτm]
    rfl
  · simp only [tq9, tqf]
    rw [f2.2.1 k a, hτm]
    rfl
  · by_cases hk : k = 1
    · subst hk
      funext i' j
      by_cases hi0 : i' = 0
      · subst hi0
        rw [tqa]
        by_cases e : j = i
        · subst e; rw [va_s]
        · rw [va_o e, f2.2.2.1 1 (by omega) (by omega) (by omega), hτm, tqa, va_o e]
      · rw [tqb hi0, tqg, f2.2.2.1 1 (by omega) (by omega) (by omega), m3 1 i' j (by omega)]
    · rw [tqc hk, tqg, f2.2.2.1 k a b c]
      funext i' j
      exact m3 k i' j (by omega)
  · simp only [tqd]
    by_cases hk : k = 2
    · subst hk
      funext i' j
      by_cases hi0 : i' = 0
      · subst hi0
        rw [tqh]
        by_cases e : j = i
        · subst e; rw [va_s]
        · rw [va_o e, f2.2.2.2 2 (by omega), hτm, tqd, tqh, va_o e]
      · rw [tqi hi0, f2.2.2.2 2 (by omega), m4 2 i' j (by omega)]
    · rw [tqj hk, f2.2.2.2 k a]
      funext i' j
      exact m4 k i' j (by omega)
  · simp only [tq1, tq3, tq4, tq5, tq7, tq8, tq9, tqa, tqc, tqd, tqe, tqf, tqg, tqh, tqj, va_s, ne_eq, reduceCtorEq, not_false_eq_true, not_true_eq_false, if_true, if_false, Nat.reduceEqDiff]
    exact ev.2.1
theorem t_tellCaseNow {rk : Nat → Nat} {t i j : Nat} {L : sL} {K : zHp → Nat → Prop} (hd : 132 ≤ d) (hB : zB g ≤ m0) (hO : tOK rk τ) (ht : t < 6) (hL : tly τ t = some L) (hi : i < L.2.2.2.1.length) (hj : j < s_my L) (hK : ∀ τ', tsc τ τ' → (τ'.2.1 30, τ'.1 31, τ'.1 32) = s_EV (tfm τ) (tly τ) (tkd τ) (s_bi L (tow τ) i j) L.1 → K (tput g m0 τ' hp) nx) : zMt l g yX5_tellCaseNow cX5_tellCaseNow 4 none d 0 0 [.ref m0, .int (nI t), .int (nI i), .int (nI j)] (tput g m0 τ hp) nx (zQv g K) := by
  obtain ⟨d, rfl⟩ := Nat.exists_eq_add_of_le' (show 1 ≤ d by omega)
  apply met_X5_tellCaseNow
  unfold wp_X5_tellCaseNow
  simp only [tg_deep, tp_deep, tg_top, tp_top, hB, true_and, tw_zo]
  have f0 : tsc τ (tsI (tsI τ 18 0) 26 0) := (tsc.rf.sI (Or.inl rfl)).sI (Or.inr (Or.inl rfl))
  have hrL := hO.2.2.1.2.2 t ht L hL
  have hrk := hO.2.2.2.1 L.1 (by omega)
  have hcn : 0 + 1 + s_cn (fun u => rk (24 + u) < rk L.1) 6 ≤ 6 := by
    have := s_cn_ltn (p := fun u => rk (24 + u) < rk L.1) (n := 6) (j := t) ht (by omega)
    omega
  refine t_tellCase (τ := tsI (tsI τ 18 0) 26 0) (L := L) (dp := 0) (tp := 0) (n := 30) (t_tell hB rk 30) hB (hO.pe f0.pe) ht (by rw [f0.pe.ly]; exact hL) hrk (by omega) hcn (by rw [tq2 (by decide), tq1]; rfl) (by rw [tq1]; rfl) (by omega) hi hj fun τ1 f1 k26 ev => ?_
  exact hK τ1 (f0.tr f1.sc) ev
end T8
