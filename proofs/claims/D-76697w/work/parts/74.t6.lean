set_option maxRecDepth 100000
/-! THE REFERENCE's contracts: an act, a cell is told -/
section T6
variable {l : Launch} {g : zG} {d m0 : Nat} {τ τ' τm τ2 : tS} {hp : zHp} {nx : Nat}
theorem tMem.fr {dq dp tp : Nat} (h : tfr dq tp τ τ') (hd : dp < dq) (hm : tMem τ dp) : tMem τ' dp := by
  refine ⟨fun c hc q => ?_, fun t ht q f hf => ?_⟩
  · rw [h.2.2.1 19 dp c (by omega) (by omega)] at q
    unfold tVal
    rw [h.2.2.2 20 dp c (by omega) (by omega), h.2.2.1 21 dp c (by omega) (by omega), h.2.2.1 22 dp c (by omega) (by omega), h.pe.EV]
    exact hm.1 c hc q
  · rw [h.2.2.1 23 dp t (by omega) (by omega)] at q
    rw [h.2.2.2 24 dp _ (by omega) (by omega), h.2.2.1 25 dp _ (by omega) (by omega), h.pe.TV]
    exact hm.2 t ht q f hf
theorem t_act {rk : Nat → Nat} {c kk m dp tp n j : Nat} {st : List sT} {K : zHp → Nat → Prop} (ih : tTell l g m0 hp nx rk n) (hB : zB g ≤ m0) (hO : tOK rk τ) (hc : c < 24) (hn : rk c ≤ n) (hmk : τ.2.2.1 4 c kk = nI m) (htok : tok m) (hmem : tmk τ c kk ∈ tfm τ c) (hd : 4 * rk c + 7 ≤ d) (hdp : dp + s_cn (fun t => rk (24 + t) < rk c) 6 ≤ 6) (h18 : τ.1 18 = nI dp) (h26 : τ.1 26 = nI (tp + st.length)) (hst : st.length < 96) (htp : tp + 96 * (rk c + 1) ≤ 4800) (hm : tMem τ dp) (hsk : tSk τ tp st) (hbe : ∀ a ∈ st, s_Be a) (hh : s_h1 m st.length = some j)
    (hK : ∀ τ', tfr dp tp τ τ' → τ'.1 26 = nI (tp + (s_act (tEV τ) (tTV τ) c (tmk τ c kk) st).length) → tSk τ' tp (s_act (tEV τ) (tTV τ) c (tmk τ c kk) st) → tMem τ' dp → K (tput g m0 τ' hp) nx) : zMt l g yX5_act cX5_act 5 none d 0 0 [.ref m0, .int (nI c), .int (nI m)] (tput g m0 τ hp) nx (zQv g K) := by
  obtain ⟨d, rfl⟩ := Nat.exists_eq_add_of_le' (show 1 ≤ d by omega)
  apply met_X5_act
  unfold wp_X5_act
  have hm350 : m < 350 := by unfold tok at htok; omega
  have e1 := tmk_1 htok hmk
  have cd : (nI dp).toNatClampNeg = dp := nI_clamp (by omega)
  have id : vp_in (nI dp) 7 := vp_in_nI (by omega) (by decide)
  have ld : dp < 7 := by omega
  have cc : (nI c).toNatClampNeg = c := nI_clamp (by omega)
  have ic : vp_in (nI c) 24 := vp_in_nI hc (by decide)
  have cm : (nI m).toNatClampNeg = m := nI_clamp (by omega)
  have hB2 : ∀ n, zB g ≤ m0 + n := fun n => by omega
  have hB3 : ∀ a b n, zB g ≤ m0 + a + b + n := fun a b n => by omega
  -- something is pushed
  have pushed : ∀ (τ1 : tS) (v : UInt64) (e b : Int32) (K' : zHp → Nat → Prop), K' = K → tfr dp (tp + st.length) τ τ1 → τ1.1 26 = nI (tp + st.length) → tMem τ1 dp → s_act (tEV τ) (tTV τ) c (tmk τ c kk) st = (v, e, if e = 0 then -1 else b) :: st → zMt l g yX5_push cX5_push 5 none d 0 0 [.ref m0, .double v, .int e, .int b] (tput g m0 τ1 hp) nx (zQv g K') := by
    intro τ1 v e b K' hK' f1 k26 km he
    subst hK'
    refine t_push (tp := tp + st.length) (dp := dp + 1) (by omega) hB k26 (by omega) fun τ2 f2 q26 qe => ?_
    have f3 := f1.tr (f2.wk (dp' := dp) (tp' := tp + st.length) (by omega) (Nat.le_refl _))
    refine hK τ2 (f3.wk (Nat.le_refl _) (by omega)) ?_ ?_ (km.fr f2 (by omega))
    · rw [he]; exact q26
    · rw [he]; exact ⟨qe, tSk.tfr f3 (Nat.le_refl _) hsk⟩
  refine ⟨_, fun _ _ h => h, pk_le 24 m (fun h24 => pk_le 200 m (fun h200 => pk_lt m 300 (fun h300 => pk_eq m 200 (fun e => ?_) (fun e => pk_eq m 210 (fun e2 => ?_) (fun e2 => ?_))) (fun h300 => ?_)) (fun h200 => ?_)) (fun h24 => ?_)⟩
  · -- the other sign
    subst e
    unfold s_h1 at hh
    rw [if_neg (by decide), if_pos rfl] at hh
    match st, hst, h26, hsk, hbe, hh, hK, pushed with
    | [], _, _, _, _, hh, _, _ => simp at hh
    | a :: r, hst, h26, hsk, hbe, _, hK, _ =>
      have ep : nI (tp + (a :: r).length) - 1 = nI (tp + r.length) := nI_pred (tp + r.length)
      have hr : r.length < 96 := by simp only [List.length_cons] at hst; omega
      have ct : (nI (tp + r.length)).toNatClampNeg = tp + r.length := nI_clamp (by omega)
      have it : vp_in (nI (tp + r.length)) 4800 := vp_in_nI (by omega) (by decide)
      have en := hsk.1
      simp only [tg_heap, ta_heap, tu_heap, tg_top, tp_top, h26, ep, ct, it, hB2, true_implies, false_implies, implies_true, and_true, true_and, forall_eq, en.1]
      have ea : s_act (tEV τ) (tTV τ) c (tmk τ c kk) (a :: r) = (FP.dneg a.1, a.2) :: r := by
        unfold s_act
        rw [e1, if_neg (by decide), if_neg (by decide), if_neg (by decide), if_pos rfl]
      have fr : tfr (dp + 1) (tp + r.length) τ (taD τ 27 0 (va_up (τ.2.2.2 27 0) (tp + r.length) (FP.dneg a.1))) := tfr.rf.hD fun j hj => va_o (by omega)
      refine hK _ (fr.wk (by omega) (by omega)) ?_ ?_ (hm.fr fr (by omega))
      · rw [ea]
        simp only [tq1, tq3, tq4, tq5, tq7, tq8, tq9, tqa, tqc, tqd, tqe, tqf, tqg, tqh, tqj, va_s, ne_eq, reduceCtorEq, not_false_eq_true, not_true_eq_false, if_true, if_false, Nat.reduceEqDiff]
        exact h26
      · rw [ea]
        refine ⟨⟨?_, ?_, ?_⟩, tSk.tfr fr (Nat.le_refl _) hsk.2⟩
        · simp only [tq1, tq3, tq4, tq5, tq7, tq8, tq9, tqa, tqc, tqd, tqe, tqf, tqg, tqh, tqj, va_s, ne_eq, reduceCtorEq, not_false_eq_true, not_true_eq_false, if_true, if_false, Nat.reduceEqDiff]
        · simp only [tq1, tq3, tq4, tq5, tq7, tq8, tq9, tqa, tqc, tqd, tqe, tqf, tqg, tqh, tqj, va_s, ne_eq, reduceCtorEq, not_false_eq_true, not_true_eq_false, if_true, if_false, Nat.reduceEqDiff]; exact en.2.1
        · simp only [tq1, tq3, tq4, tq5, tq7, tq8, tq9, tqa, tqc, tqd, tqe, tqf, tqg, tqh, tqj, va_s, ne_eq, reduceCtorEq, not_false_eq_true, not_true_eq_false, if_true, if_false, Nat.reduceEqDiff]; exact en.2.2
  · -- pick
    subst e2
    unfold s_h1 at hh
    rw [if_neg (by decide), if_neg (by decide), if_pos rfl] at hh
    match st, hst, h26, hsk, hbe, hh, hK, pushed with
    | [], _, _, _, _, hh, _, _ => simp at hh
    | [_], _, _, _, _, hh, _, _ => simp at hh
    | [_, _], _, _, _, _, hh, _, _ => simp at hh
    | z :: y :: x :: r, hst, h26, hsk, hbe, _, hK, _ =>
      have hr : r.length + 3 < 96 := by simp only [List.length_cons] at hst; omega
      have ea : s_act (tEV τ) (tTV τ) c (tmk τ c kk) (z :: y :: x :: r) = s_pick x y z :: r := by
        unfold s_act
        rw [e1, if_neg (by decide), if_neg (by decide), if_neg (by decide), if_neg (by decide), if_pos rfl]
      simp only [tw_zo]
      refine t_pick (tp := tp + r.length) (dp := dp + 1) (by omega) hB h26 (by omega) hsk.2.2.1 hsk.2.1 hsk.1 fun τ2 f2 q26 qe => ?_
      refine hK τ2 (f2.wk (by omega) (by omega)) ?_ ?_ (hm.fr f2 (by omega))
      · rw [ea]; exact q26
      · rw [ea]; exact ⟨qe, tSk.tfr f2 (Nat.le_refl _) hsk.2.2.2⟩
  · -- two
    unfold s_h1 at hh
    rw [if_neg (by omega), if_neg e, if_neg e2] at hh
    have h9 : m - 200 ≤ 9 := by unfold tok at htok; omega
    match st, hst, h26, hsk, hbe, hh, hK, pushed with
    | [], _, _, _, _, hh, _, _ => simp at hh
    | [_], _, _, _, _, hh, _, _ => simp at hh
    | y :: x :: r, hst, h26, hsk, hbe, _, hK, _ =>
      have hr : r.length + 2 < 96 := by simp only [List.length_cons] at hst; omega
      have ea : s_act (tEV τ) (tTV τ) c (tmk τ c kk) (y :: x :: r) = s_two c (m - 200) x y :: r := by
        unfold s_act
        rw [e1, if_neg (by omega), if_neg (by omega), if_neg (by omega), if_neg e, if_neg e2]
      have es : nI m - 200 = nI (m - 200) := pk_sub (a := m) (b := 200) (by omega)
      simp only [tw_zo, es]
      refine t_two (tp := tp + r.length) (dp := dp + 1) (by omega) hB h26 (by omega) hsk.2.1 hsk.1 (by omega) (hbe x (by simp)) (hbe y (by simp)) fun τ2 f2 q26 qe => ?_
      refine hK τ2 (f2.wk (by omega) (by omega)) ?_ ?_ (hm.fr f2 (by omega))
      · rw [ea]; exact q26
      · rw [ea]; exact ⟨qe, tSk.tfr f2 (Nat.le_refl _) hsk.2.2⟩
  · -- a table
    have h6 : m % 10 < 6 := by unfold tok at htok; omega
    have er : nI m - nI m / 10 * 10 = nI (m % 10) := pk_rem (a := m) (d := 10) (by omega) (by decide) (by decide)
    have es : nI m - 300 = nI (m - 300) := pk_sub (a := m) (b := 300) (by omega)
    have ef : nI (m - 300) / 10 = nI ((m - 300) / 10) := pk_div (a := m - 300) (d := 10) (by omega) (by decide) (by decide)
    obtain ⟨t, et⟩ : ∃ t, t = m % 10 := ⟨_, rfl⟩
    obtain ⟨f, eef⟩ : ∃ f, f = (m - 300) / 10 := ⟨_, rfl⟩
    have hf5 : f < 5 := by omega
    rw [← et] at er h6
    rw [← eef] at ef
    have ct : (nI t).toNatClampNeg = t := nI_clamp (by omega)
    have it : vp_in (nI t) 6 := vp_in_nI h6 (by decide)
    have n10 : ¬ (10 : Int32) = 0 := by decide
    have e5 : (5 : Int32) * nI t = nI (5 * t) := pk_mul 5 t
    have e5f : nI (5 * t) + nI f = nI (5 * t + f) := nI_add _ _
    have c5 : (nI (5 * t + f)).toNatClampNeg = 5 * t + f := nI_clamp (by omega)
    have i5 : vp_in (nI (5 * t + f)) 30 := vp_in_nI (by omega) (by decide)
    have ea : s_act (tEV τ) (tTV τ) c (tmk τ c kk) st = ((tTV τ t f).1, (tTV τ t f).2, if (tTV τ t f).2 = 0 then -1 else nI c) :: st := by
      unfold s_act
      rw [e1, if_neg (by omega), if_neg (by omega), if_pos h300, ← et, ← eef]
    simp only [n10, er, es, ef, not_false_eq_true, true_implies, false_implies, implies_true, and_true, true_and, forall_eq, tg_laid, ta_laid, tu_laid, ct, it]
    by_cases hl : τ.2.2.1 6 0 t = 0
    · have hno : tly τ t = none := by unfold tly; rw [if_pos hl]
      have eTV : tTV τ t f = (0, 4) := by unfold tTV; rw [hno]
      simp only [hl, not_true_eq_false, true_implies, false_implies, implies_true, and_true, true_and, forall_eq]
      refine ⟨_, fun _ _ _ _ h => h, ?_⟩
      simp only [tg_laid, ta_laid, tu_laid, ct, it, hl, not_true_eq_false, true_implies, false_implies, implies_true, and_true, true_and, forall_eq]
      refine ⟨_, fun _ _ _ _ _ _ h => h, ?_⟩
      simp only [tg_laid, ta_laid, tu_laid, ct, it, hl, not_true_eq_false, true_implies, false_implies, implies_true, and_true, true_and, forall_eq]
      refine ⟨_, fun _ _ _ _ _ _ _ h => h, ?_⟩
      simp only [tw_zo]
      refine pushed τ _ _ _ _ rfl tfr.rf h26 hm ?_
      rw [ea, eTV]
      rfl
    · obtain ⟨L, hL⟩ : ∃ L, tly τ t = some L := by unfold tly; rw [if_neg hl]; exact ⟨_, rfl⟩
      have hrt := hO.2.2.1.2.1 c hc _ hmem (by rw [e1]; exact h300)
      rw [e1, ← et] at hrt
      have hrL := (hO.2.2.1.2.2 t h6 L hL).2
      have hcn : dp + 1 + s_cn (fun u => rk (24 + u) < rk L.1) 6 ≤ 6 := by
        have := s_cn_lt (p := fun u => rk (24 + u) < rk L.1) (q := fun u => rk (24 + u) < rk c) (n := 6) (fun k _ h => by omega) h6 (show rk (24 + t) < rk c by omega) (show ¬ rk (24 + t) < rk L.1 by omega)
        omega
      simp only [hl, not_false_eq_true, true_implies, false_implies, implies_true, and_true, true_and, forall_eq, tw_zo]
      refine ⟨_, fun _ _ _ _ h => h, ?_⟩
      refine t_sumUp (tp := tp + st.length) (dp := dp) ih hB hO h6 hL (by omega) (by omega) hcn h18 h26 (by omega) hm fun τ1 f1 k26 km ks => ?_
      have l1 : ¬ τ1.2.2.1 6 0 t = 0 := by rw [f1.I 6 (by decide)]; exact hl
      have k18 : τ1.1 18 = nI dp := by rw [f1.1 18 (by decide) (by decide) (by decide)]; exact h18
      have ev := km.2 t h6 ks f hf5
      rw [f1.pe.TV] at ev
      simp only [tg_laid, ta_laid, tu_laid, ct, it, l1, not_false_eq_true, true_implies, false_implies, implies_true, and_true, true_and, forall_eq]
      refine ⟨_, fun _ _ _ _ _ _ h => h, ?_⟩
      simp only [tg_sums, ta_sums, tg_deep, tp_deep, tg_laid, ta_laid, tu_laid, ct, it, l1, not_false_eq_true, true_implies, false_implies, implies_true, and_true, true_and, forall_eq, k18, cd, id, tb_sums ld, tv_sums ld, e5, e5f, c5, i5, ev.1]
      refine ⟨_, fun _ _ _ _ _ _ _ h => h, ?_⟩
      simp only [tg_sumErrors, ta_sumErrors, tg_deep, tp_deep, true_implies, false_implies, implies_true, and_true, true_and, forall_eq, k18, cd, id, tb_sumErrors ld, tv_sumErrors ld, e5, e5f, c5, i5, ev.2, tw_zo]
      exact pushed τ1 _ _ _ _ rfl f1 k26 km ea
  · -- a number
    have h100 : 100 ≤ m ∧ m < 196 := by unfold tok at htok; omega
    have es : nI m - 100 = nI (m - 100) := pk_sub (a := m) (b := 100) (by omega)
    have c1 : (nI (m - 100)).toNatClampNeg = m - 100 := nI_clamp (by omega)
    have i1 : vp_in (nI (m - 100)) 96 := vp_in_nI (by omega) (by decide)
    simp only [tg_figures, ta_figures, cc, ic, tb_figures hc, tv_figures hc, es, c1, i1, true_implies, false_implies, implies_true, and_true, true_and, forall_eq, tw_zo]
    refine pushed τ _ _ _ _ rfl tfr.rf h26 hm ?_
    unfold s_act
    rw [e1, if_neg (by omega), if_pos h200, tmk_2 hmk h100.1 (by omega)]
    rfl
  · -- a cell
    have im : vp_in (nI m) 24 := vp_in_nI h24 (by decide)
    have hrm := hO.2.2.1.1 c hc _ hmem (by rw [e1]; exact h24)
    rw [e1] at hrm
    have hcn : dp + s_cn (fun u => rk (24 + u) < rk m) 6 ≤ 6 := by
      have := s_cn_mono (p := fun u => rk (24 + u) < rk m) (q := fun u => rk (24 + u) < rk c) (n := 6) (fun k _ h => by omega)
      omega
    simp only [tw_zo]
    refine ih d dp (tp + st.length) m τ _ h24 (by omega) (by omega) hO hcn h18 h26 (by omega) hm fun τ1 f1 k26 km kt => ?_
    have k18 : τ1.1 18 = nI dp := by rw [f1.1 18 (by decide) (by decide) (by decide)]; exact h18
    have ev := km.1 m h24 kt
    rw [f1.pe.EV] at ev
    simp only [tg_values, ta_values, tg_errors, ta_errors, tg_blames, ta_blames, tg_deep, tp_deep, k18, cd, id, tb_values ld, tv_values ld, tb_errors ld, tv_errors ld, tb_blames ld, tv_blames ld, cm, im, true_implies, false_implies, implies_true, and_true, true_and, forall_eq, ev.1, ev.2.1, ev.2.2, tw_zo]
    refine pushed τ1 _ _ _ _ rfl f1 k26 km ?_
    unfold s_act
    rw [e1, if_pos h24]
end T6
