set_option maxRecDepth 100000
/-! THE REFERENCE's reader: one; all of it -/
section PD
variable {l : Launch} {g : zG} {d m0 : Nat} {τ τ' τm τ1 τ2 : tS} {hp : zHp} {nx : Nat} {t : List Nat} {st : pS} {ms : List sM}
/-- what ofTable does -/
def p_ot (t : List Nat) (w : Nat) (s : pS) : pQ := if s.2.2.1.1 = 2 ∧ s.2.2.1.2.2 = none ∧ s.2.2.1.2.1 < 6 then p_bd (p_nx t s) fun s2 => .inr (s2, [(300 + 10 * w + s.2.2.1.2.1, 0)]) else .inl s.2.1
theorem t_ofTable {w : Nat} {K : zHp → Nat → Prop} (hw : w < 5) (hd : 12 ≤ d) (ht : t.length ≤ 96) (hB : zB g ≤ m0) (hs : zStrs g m0 hp) (hT : tTt τ t) (h : tM τ t st ms) (hK : ∀ τ', tps τ τ' → tOu τ' t (p_ot t w st) ms → K (tput g m0 τ' hp) nx) : zMt l g yX5_ofTable cX5_ofTable 2 none d 0 0 [.ref m0, .int (nI w)] (tput g m0 τ hp) nx (zQv g K) := by
  unfold p_ot at hK
  by_cases h5 : st.2.2.1.1 = 5
  · rw [if_neg (by omega)] at hK
    exact t_ofTable_w (by omega) (h.wr h5) (hK τ tps.rf (h.wr h5))
  obtain ⟨d, rfl⟩ := Nat.exists_eq_add_of_le' (show 1 ≤ d by omega)
  obtain ⟨⟨k1, k2, k3, k4, k5, k6⟩, o1, o2, o3, o4, o5, o6⟩ := h.sy h5
  have a := h.1.at
  apply met_X5_ofTable
  unfold wp_X5_ofTable
  simp only [tg_isWrong, tp_isWrong, tg_token, tp_token, k3, k4]
  refine ⟨fun _ => ?_, fun h => absurd (by trivial) h⟩
  obtain ⟨P, hP⟩ : ∃ P : zHp → Nat → Prop, P = fun h n' => h = tput g m0 τ hp ∧ nx = n' ∧ ¬ (st.2.2.1.1 = 2 ∧ st.2.2.1.2.2 = none ∧ st.2.2.1.2.1 < 6) := ⟨_, rfl⟩
  refine ⟨P, ?_, ?_⟩
  · intro h' n' hh
    rw [hP] at hh
    obtain ⟨rfl, rfl, hq⟩ := hh
    rw [if_neg hq] at hK
    simp only [tg_isWrong, tp_isWrong, hB, true_and]
    exact hK _ (tps.rf.sI (by omega)) h.bad
  · have e2 : (2 : Int32) = nI 2 := rfl
    rw [e2]
    refine pk_eq (if st.2.2.1.1 = 4 then 1 else st.2.2.1.1) 2 (fun q => ?_) (fun q => ?_) rfl rfl (by split <;> omega)
    · have q2 : st.2.2.1.1 = 2 := by split at q <;> omega
      obtain ⟨v1, v2⟩ := k5 q2
      obtain ⟨b1, b2⟩ := a.2.2.2.2.2.2.2 q2
      simp only [tg_behind, tp_behind, tg_whole, tp_whole, v1, v2]
      have hio : s_io st.2.2.1.2.2 = -1 ↔ st.2.2.1.2.2 = none := by
        cases ho : st.2.2.1.2.2 with
        | none => exact ⟨fun _ => rfl, fun _ => rfl⟩
        | some y =>
          have := b2 y ho
          constructor
          · intro e
            have h1 := congrArg Int32.toInt e
            have h2 : (s_io (some y)).toInt = (y : Int) := nI_toInt (by omega)
            rw [h2] at h1
            have h3 : (-1 : Int32).toInt = -1 := by decide
            omega
          · intro e; cases e
      rw [hio]
      refine ⟨fun q3 => ?_, fun q3 => by rw [hP]; exact ⟨rfl, rfl, fun e => q3 e.2.1⟩⟩
      have e6 : (6 : Int32) = nI 6 := rfl
      rw [e6]
      refine pk_lt st.2.2.1.2.1 6 (fun q4 => ?_) (fun q4 => by rw [hP]; exact ⟨rfl, rfl, fun e => by omega⟩) rfl rfl (by omega)
      rw [if_pos ⟨q2, q3, q4⟩] at hK
      rw [tw_zo]
      have em : ((300 : Int32) + ((10 : Int32) * nI w)) + nI st.2.2.1.2.1 = nI (300 + 10 * w + st.2.2.1.2.1) := by
        have e3 : (300 : Int32) = nI 300 := rfl
        have e10 : (10 : Int32) = nI 10 := rfl
        rw [e3, e10, pk_mul, nI_add, nI_add]
      rw [em]
      have hbl : st.2.1 < t.length := by have := a.2.2.1 (by omega); omega
      refine t_mark0 (by omega) hB k3 o3 (by omega) ?_
      rw [tw_zo]
      have x1 : tps τ (tsI (taI τ 35 0 (va_up (τ.2.2.1 35 0) ms.length (nI (300 + 10 * w + st.2.2.1.2.1)))) 37 (nI (ms.length + 1))) := tps.rf.aI.sI (by omega)
      have at1 := a.2.2.1 (by omega)
      refine t_nextM (st := st) (ms := ms ++ [(300 + 10 * w + st.2.2.1.2.1, 0)]) (by omega) hB hs (hT.ps x1) (by rw [tq2 (by decide)]; exact k1) a.2.1 h.1.2.2.1 (Nat.le_trans h.1.2.2.2 a.1) (by rw [tq2 (by decide)]; exact k3) (by rw [tq2 (by decide)]; exact o1) (by rw [tq2 (by decide)]; exact o2) (by rw [tq1, List.length_append]; rfl) (o4.up rfl (fun a b => by omega)) (by rw [List.length_append]; show ms.length + 1 ≤ _; omega) (fun m hm => ?_) fun τ2 x2 q => hK τ2 (x1.tr x2) ?_
      · rw [List.mem_append, List.mem_singleton] at hm
        rcases hm with hm | hm
        · exact o6 m hm
        · subst hm
          exact p_mm.z (Or.inr (Or.inr (Or.inr ⟨by omega, by omega, by omega⟩))) (by omega)
      · cases hn : p_nx t st with
        | inl b => rw [hn] at q; exact q
        | inr s2 => rw [hn] at q; exact q
    · rw [hP]
      refine ⟨rfl, rfl, fun e => q ?_⟩
      rw [if_neg (by omega)]
      exact e.1
theorem p_P_0 {n : Nat} : p_P t (n + 1) 0 st = p_one (p_P t n) t st := rfl
/-- what the token says of the tape -/
theorem p_wf.wd (h : p_wf t st) (hk : st.2.2.1.1 = 1 ∨ st.2.2.1.1 = 4) : p_word t st.2.1 = st.2.2.1 ∧ p_run p_az t st.2.1 = st.1 := by
  have hw := h.1
  unfold p_tok at hw
  split at hw
  · have e := congrArg (fun q => q.2.1) (Option.some.inj hw)
    have e2 : 0 = st.2.2.1.1 := e
    omega
  · split at hw
    · exact ⟨congrArg (fun q => q.2) (Option.some.inj hw), congrArg (fun q => q.1) (Option.some.inj hw)⟩
    · split at hw
      · split at hw
        · split at hw
          · have e := congrArg (fun q => q.2.1) (Option.some.inj hw)
            have e2 : 2 = st.2.2.1.1 := e
            omega
          · cases hw
        · split at hw
          · have e := congrArg (fun q => q.2.1) (Option.some.inj hw)
            have e2 : 2 = st.2.2.1.1 := e
            omega
          · cases hw
      · split at hw
        · have e := congrArg (fun q => q.2.1) (Option.some.inj hw)
          have e2 : 3 = st.2.2.1.1 := e
          omega
        · cases hw
theorem p_kw_len {w : List Nat} {k : Nat} (h : p_kw w = some k) : 3 ≤ w.length := by
  unfold p_kw at h
  split at h
  · next e => rw [e]; decide
  · split at h
    · next e => rw [e]; decide
    · split at h
      · next e => rw [e]; decide
      · split at h
        · next e => rw [e]; decide
        · split at h
          · next e => rw [e]; decide
          · split at h
            · next e => rw [e]; decide
            · split at h
              · next e => rw [e]; decide
              · split at h
                · next e => rw [e]; decide
                · cases h
/-- a cell's letter -/
theorem p_wf.w1 (h : p_wf t st) (hk : st.2.2.1.1 = 1) : st.1 = st.2.1 + 1 ∧ t[st.2.1]? = some (st.2.2.1.2.1 + 97) := by
  obtain ⟨h1, h2⟩ := h.wd (Or.inl hk)
  have a := h.at
  have hb := a.2.2.1 (by omega)
  have hl : st.2.1 < t.length := by omega
  have hg : t.getD st.2.1 0 = t[st.2.1] := by rw [List.getD_eq_getElem?_getD, List.getElem?_eq_getElem hl]; rfl
  unfold p_word at h1
  split at h1
  · next q =>
    refine ⟨by omega, ?_⟩
    have e : t.getD st.2.1 0 - 97 = st.2.2.1.2.1 := by rw [← h1]
    have haz := p_run_m (P := p_az) (t := t) (k := st.2.1) rfl st.2.1 (Nat.le_refl _) (by omega)
    obtain ⟨b, hb1, hb2⟩ := haz
    unfold p_az at hb2
    simp only [Bool.and_eq_true, decide_eq_true_eq] at hb2
    rw [hb1]
    have e3 : t.getD st.2.1 0 = b := by rw [List.getD_eq_getElem?_getD, hb1]; rfl
    congr 1
    omega
  · split at h1
    · rw [← h1] at hk; cases hk
    · rw [← h1] at hk; cases hk
theorem p_wf.w4 (h : p_wf t st) (hk : st.2.2.1.1 = 4) : st.1 - st.2.1 ≠ 1 ∧ p_kw ((t.drop st.2.1).take (st.1 - st.2.1)) = some st.2.2.1.2.1 := by
  obtain ⟨h1, h2⟩ := h.wd (Or.inr hk)
  unfold p_word at h1
  split at h1
  · rw [← h1] at hk; cases hk
  · split at h1
    · next w hw =>
      rw [h2] at hw
      have e : w = st.2.2.1.2.1 := by rw [← h1]
      rw [← e]
      refine ⟨fun q => ?_, hw⟩
      have hl := p_kw_len hw
      rw [List.length_take] at hl
      omega
    · rw [← h1] at hk; cases hk
set_option maxHeartbeats 1000000 in
theorem t_one_ok {n : Nat} {K : zHp → Nat → Prop} (ht : t.length ≤ 96) (hB : zB g ≤ m0) (hs : zStrs g m0 hp) (ih : ∀ k, k ≤ n → tPa l g m0 hp nx t k) (hm : p_ms t 0 st ≤ n + 1) (hd : n + 1 + 20 ≤ d) (h : tM τ t st ms) (hT : tTt τ t) (hK : ∀ τ', tps τ τ' → tOu τ' t (p_P t (n + 1) 0 st) ms → K (tput g m0 τ' hp) nx) : zMt l g yX5_one cX5_one 2 none d 0 0 [.ref m0] (tput g m0 τ hp) nx (zQv g K) := by
  rw [p_P_0] at hK
  unfold p_one at hK
  have hm' : 8 * (t.length + 1 - st.2.1) + 1 ≤ n + 1 := hm
  have hb := h.1.2.1
  by_cases h5 : st.2.2.1.1 = 5
  · rw [if_neg (by omega), if_neg (by omega), if_neg (by omega), if_neg (by rw [p_is_5 h5]; decide), if_neg (by rw [p_is_5 h5]; decide)] at hK
    exact t_one_w (by omega) (h.wr h5) (hK τ tps.rf (h.wr h5))
  obtain ⟨d, rfl⟩ := Nat.exists_eq_add_of_le' (show 1 ≤ d by omega)
  obtain ⟨⟨k1, k2, k3, k4, k5, k6⟩, o1, o2, o3, o4, o5, o6⟩ := h.sy h5
  have a := h.1.at
  have w4 := h.1.2.2.2
  apply met_X5_one
  unfold wp_X5_one
  simp only [tg_isWrong, tp_isWrong, tg_token, tp_token, k3, k4]
  refine ⟨fun _ => ?_, fun h => absurd (by trivial) h⟩
  refine ⟨_, fun _ _ h => h, ?_⟩
  have e2 : (2 : Int32) = nI 2 := rfl
  have e1 : (1 : Int32) = nI 1 := rfl
  rw [e2]
  refine pk_eq (if st.2.2.1.1 = 4 then 1 else st.2.2.1.1) 2 (fun q => ?_) (fun q => ?_) rfl rfl (by split <;> omega)
  · -- a number
    have q2 : st.2.2.1.1 = 2 := by split at q <;> omega
    rw [if_pos q2] at hK
    obtain ⟨v1, v2⟩ := k5 q2
    obtain ⟨b1, b2⟩ := a.2.2.2.2.2.2.2 q2
    have at1 := a.2.2.1 (by omega)
    obtain ⟨F, hF⟩ : ∃ F, F = st.2.2.2.2 := ⟨_, rfl⟩
    have hF96 : F < 96 := by omega
    have cF : (nI F).toNatClampNeg = F := nI_clamp (by omega)
    have iF : vp_in (nI F) 96 := vp_in_nI hF96 (by decide)
    have hB2 : ∀ n, zB g ≤ m0 + n := fun n => by omega
    rw [← hF] at o2
    simp only [tg_newFigures, ta_newFigures, tu_newFigures, tg_newFigureMany, tp_newFigureMany, tg_behind, tp_behind, tg_whole, tp_whole, o2, v1, v2]
    obtain ⟨V, hV⟩ : ∃ V, V = p_fig st.2.2.1.2.1 st.2.2.1.2.2 := ⟨_, rfl⟩
    rw [← hV, ← hF] at hK
    obtain ⟨P, hP⟩ : ∃ P : Option Nat → Int32 → UInt64 → zHp → Nat → Prop, P = fun r i v h n' => r = some (m0 + twO.getD 36 0) ∧ i = nI F ∧ V = v ∧ h = tput g m0 τ hp ∧ nx = n' := ⟨_, rfl⟩
    refine ⟨P, ?_, ?_⟩
    · intro r i v h' n' hh
      rw [hP] at hh
      obtain ⟨rfl, rfl, rfl, rfl, rfl⟩ := hh
      have e36 : twO.getD 36 0 = 164 := by decide
      rw [e36]
      simp only [tg_newFigures, ta_newFigures, tu_newFigures, tg_newFigureMany, tp_newFigureMany, cF, iF, hB, hB2, true_implies, false_implies, implies_true, and_true, true_and, forall_eq, tq1, tq3, tq4, tq5, tq7, tq8, tq9, tqa, tqc, tqd, tqe, tqf, tqg, tqh, tqj, va_s, ne_eq, reduceCtorEq, not_false_eq_true, not_true_eq_false, if_true, if_false, Nat.reduceEqDiff, o2, tw_zo]
      have em : (100 : Int32) + nI F = nI (100 + F) := by
        have e3 : (100 : Int32) = nI 100 := rfl
        rw [e3, nI_add]
      rw [em]
      obtain ⟨τ1, hτ1⟩ : ∃ τ1, τ1 = taD τ 36 0 (va_up (τ.2.2.2 36 0) F V) := ⟨_, rfl⟩
      rw [← hτ1]
      have x1 : tps τ τ1 := by rw [hτ1]; exact tps.rf.aD
      have f1 : τ1.1 = τ.1 := by rw [hτ1]; rfl
      have f36 : τ1.2.2.2 36 0 = va_up (τ.2.2.2 36 0) F V := by rw [hτ1]; exact tqh
      have f35 : τ1.2.2.1 = τ.2.2.1 := by rw [hτ1]; rfl
      have M1 : tMk τ1 ms := by
        intro k m hm
        obtain ⟨g1, g2⟩ := o4 k m hm
        rw [f35, f36]
        refine ⟨g1, fun a1 a2 => ?_⟩
        have hp2 := (o6 m (List.mem_of_getElem? hm)).2.2.1 a1 a2
        rw [va_o (by omega)]
        exact g2 a1 a2
      refine t_mark0 (by omega) hB (by rw [f1]; exact k3) (by rw [f1]; exact o3) (by omega) ?_
      simp only [tg_newFigureMany, tp_newFigureMany, hB, true_and, tw_zo, tq2 (show (38 : Nat) ≠ 37 by decide), tq8, f1, o2, nI_1]
      obtain ⟨τ2, hτ2⟩ : ∃ τ2, τ2 = tsI (taI τ1 35 0 (va_up (τ1.2.2.1 35 0) ms.length (nI (100 + F)))) 37 (nI (ms.length + 1)) := ⟨_, rfl⟩
      have M2 : tMk τ2 (ms ++ [(100 + F, V)]) := by
        rw [hτ2]
        exact M1.up rfl (fun _ _ => by rw [f36, show 100 + F - 100 = F by omega, va_s])
      have x2 : tps τ τ2 := by rw [hτ2]; exact x1.aI.sI (by omega)
      have f2 : ∀ k, k ≠ 37 → τ2.1 k = τ.1 k := fun k hk => by rw [hτ2, tq2 hk]; show τ1.1 k = _; rw [f1]
      have f37 : τ2.1 37 = nI (ms.length + 1) := by rw [hτ2, tq1]
      rw [← hτ2]
      have x3 : tps τ2 (tsI τ2 38 (nI (F + 1))) := tps.rf.sI (by omega)
      refine t_nextM (st := p_wo st st.2.2.2.1 (F + 1)) (ms := ms ++ [(100 + F, V)]) (by omega) hB hs (hT.ps (x2.tr x3)) (by rw [tq2 (by decide), f2 39 (by decide)]; exact k1) a.2.1 h.1.2.2.1 (by show F + 1 ≤ st.1; omega) (by rw [tq2 (by decide), f2 46 (by decide)]; exact k3) (by rw [tq2 (by decide), f2 45 (by decide)]; exact o1) tq1 (by rw [tq2 (by decide), f37, List.length_append]; rfl) M2 (by rw [List.length_append]; show ms.length + 1 ≤ st.1; omega) (fun m hm => ?_) fun τ4 x4 q4 => hK τ4 (x2.tr (x3.tr x4)) ?_
      · rw [List.mem_append, List.mem_singleton] at hm
        rcases hm with hm | hm
        · exact (o6 m hm).w (Nat.le_refl _) (by show _ ≤ F + 1; omega)
        · subst hm
          exact ⟨Or.inr (Or.inl ⟨by dsimp only; omega, by dsimp only; omega⟩), by rw [hV]; exact p_fig_B, fun _ _ => ⟨Nat.zero_le _, by show 100 + F - 100 < F + 1; omega⟩, fun h => by dsimp only at h; omega⟩
      · cases hn : p_nx t (p_wo st st.2.2.2.1 (F + 1)) with
        | inl b => rw [hn] at q4; exact q4
        | inr s2 => rw [hn] at q4; exact q4
    · have e36 : twO.getD 36 0 = 164 := by decide
      rw [e36] at hP
      cases ho : st.2.2.1.2.2 with
      | none =>
        rw [ho] at hV
        refine ⟨fun _ => ?_, fun h => absurd rfl h⟩
        rw [hP]
        exact ⟨rfl, rfl, hV, rfl, rfl⟩
      | some y =>
        rw [ho] at hV
        have hy := b2 y ho
        refine ⟨fun e => ?_, fun _ => ?_⟩
        · exfalso
          have h1 := congrArg Int32.toInt e
          have h2 : (s_io (some y)).toInt = (y : Int) := nI_toInt (by omega)
          rw [h2] at h1
          have h3 : (-1 : Int32).toInt = -1 := by decide
          omega
        · have em : ((1000 : Int32) * nI st.2.2.1.2.1) + s_io (some y) = nI (1000 * st.2.2.1.2.1 + y) := by
            have e3 : (1000 : Int32) = nI 1000 := rfl
            rw [e3, pk_mul]
            exact nI_add _ _
          rw [em]
          have hVB : s_B (FP.ddiv (FP.i2d (nI (1000 * st.2.2.1.2.1 + y))) 4652007308841189376) := p_fig_B (w := st.2.2.1.2.1) (b := some y)
          refine ⟨fb_nn hVB, ?_⟩
          rw [hP]
          exact ⟨rfl, rfl, hV, rfl, rfl⟩
  · have q2 : st.2.2.1.1 ≠ 2 := fun e => q (by rw [if_neg (by omega)]; exact e)
    rw [if_neg q2] at hK
    obtain ⟨P, hP⟩ : ∃ P : zHp → Nat → Prop, P = fun h n' => h = tput g m0 τ hp ∧ nx = n' ∧ st.2.2.1.1 ≠ 1 := ⟨_, rfl⟩
    refine ⟨P, ?_, ?_⟩
    · intro h' n' hh
      rw [hP] at hh
      obtain ⟨rfl, rfl, q1⟩ := hh
      rw [if_neg q1] at hK
      simp only [tg_token, tp_token, k4]
      rw [e1]
      refine pk_eq (if st.2.2.1.1 = 4 then 1 else st.2.2.1.1) 1 (fun q => ?_) (fun q => ?_) rfl rfl (by split <;> omega)
      · -- a word
        have q4 : st.2.2.1.1 = 4 := by split at q <;> omega
        rw [if_pos q4] at hK
        obtain ⟨wd1, wd2⟩ := h.1.w4 q4
        have w8 := a.2.2.2.2.2.2.1 q4
        have at1 := a.2.2.1 (by omega)
        rw [tw_zo]
        refine t_word (by omega) hs hT k1 k2 a.1 a.2.1 ?_
        rw [wd2]
        show zo _ _ _ _
        rw [tw_zo]
        refine t_nextS (by omega) hB hs hT h h5 fun τ1 x1 o1' => ?_
        have T1 := hT.ps x1
        have e5 : (5 : Int32) = nI 5 := rfl
        have eio : s_io (some st.2.2.1.2.1) = nI st.2.2.1.2.1 := rfl
        rw [e5, eio]
        refine pk_le 5 st.2.2.1.2.1 (fun w5 => ?_) (fun w5 => ?_)
        · rw [if_neg (by omega)] at hK
          obtain ⟨C, hC⟩ : ∃ C, C = (if st.2.2.1.2.1 = 5 then 3 else 2) := ⟨_, rfl⟩
          have hC2 : 2 ≤ C ∧ C ≤ 3 := by rw [hC]; split <;> omega
          have hC10 : (if st.2.2.1.2.1 = 5 then 13 else 12) = 10 + C := by rw [hC]; split <;> rfl
          rw [hC10] at hK
          obtain ⟨P169, hP169⟩ : ∃ P : Int32 → Option Nat → Int32 → zHp → Nat → Prop, P = fun w r c h n' => w = nI st.2.2.1.2.1 ∧ r = some m0 ∧ c = nI C ∧ h = tput g m0 τ1 hp ∧ nx = n' := ⟨_, rfl⟩
          refine ⟨P169, ?_, ?_⟩
          · intro w r c h' n' hh
            rw [hP169] at hh
            obtain ⟨rfl, rfl, rfl, rfl, rfl⟩ := hh
            rw [tw_zo]
            obtain ⟨MK, hMK⟩ : ∃ MK, MK = (if st.2.2.1.2.1 = 5 then 210 else if st.2.2.1.2.1 = 6 then 208 else 209) := ⟨_, rfl⟩
            rw [← hMK] at hK
            have hMK2 : 208 ≤ MK ∧ MK ≤ 210 := by
              rw [hMK]
              split
              · omega
              · split <;> omega
            have tail : ∀ τ3, tps τ τ3 → (∀ (K3 : zHp → Nat → Prop), (∀ τ4, tps τ3 τ4 → tOu τ4 t (p_bd (p_bd (p_nx t st) fun s => p_P t n (10 + C) s) fun q => .inr (q.1, q.2 ++ [(MK, 0)])) ms → K3 (tput g m0 τ4 hp) nx) → zMt l g yX5_mark cX5_mark 2 none d 0 0 [.ref m0, .int (nI MK)] (tput g m0 τ3 hp) nx (zQv g K3)) → ∃ P_199 : Int32 → (Option Nat) → Int32 → zHp → Nat → Prop, (∀ (x_78 : Int32) (r_79 : Option Nat) (x_80 : Int32) (hp_81 : zHp) (nx_82 : Nat), P_199 x_78 r_79 x_80 hp_81 nx_82 → (zo hp_81 r_79 [5] fun a_85 ci_86 fs_87 => zMt l g yX5_mark cX5_mark 2 none d 0 0 (.ref a_85 :: [.int x_80]) hp_81 nx_82 (zQv g fun hp_83 nx_84 => K hp_83 nx_84))) ∧ ((nI st.2.2.1.2.1 = (nI 5) → P_199 (nI st.2.2.1.2.1) (some m0) (210 : Int32) (tput g m0 τ3 hp) nx) ∧ (¬ nI st.2.2.1.2.1 = (nI 5) → ((nI st.2.2.1.2.1 = (6 : Int32) → P_199 (nI st.2.2.1.2.1) (some m0) (208 : Int32) (tput g m0 τ3 hp) nx) ∧ (¬ nI st.2.2.1.2.1 = (6 : Int32) → P_199 (nI st.2.2.1.2.1) (some m0) (209 : Int32) (tput g m0 τ3 hp) nx)))) := by
              intro τ3 x3 hmk
              refine ⟨fun w r c h n' => r = some m0 ∧ c = nI MK ∧ h = tput g m0 τ3 hp ∧ nx = n', ?_, ?_⟩
              · rintro _ _ _ _ _ ⟨rfl, rfl, rfl, rfl⟩
                rw [tw_zo]
                refine hmk _ fun τ4 x4 o4' => hK τ4 (x3.tr x4) ?_
                have eb : (p_bd (p_nx t st) fun s => p_bd (p_P t n (10 + C) s) fun q => .inr (q.1, q.2 ++ [(MK, 0)])) = p_bd (p_bd (p_nx t st) fun s => p_P t n (10 + C) s) fun q => .inr (q.1, q.2 ++ [(MK, 0)]) := by
                  cases p_nx t st with
                  | inl b => rfl
                  | inr s => rfl
                rw [eb]
                exact o4'
              · have e6 : (6 : Int32) = nI 6 := rfl
                rw [e6]
                refine pk_eq st.2.2.1.2.1 5 (fun e => ⟨rfl, by rw [hMK, if_pos e]; rfl, rfl, rfl⟩) (fun e => ?_)
                exact pk_eq st.2.2.1.2.1 6 (fun e' => ⟨rfl, by rw [hMK, if_neg e, if_pos e']; rfl, rfl, rfl⟩) (fun e' => ⟨rfl, by rw [hMK, if_neg e, if_neg e']; rfl, rfl, rfl⟩)
            cases hn : p_nx t st with
            | inl b =>
              rw [hn] at o1'
              refine t_parts_w (by omega) hB o1' fun τ3 x3 w3 => ?_
              refine tail τ3 (x1.tr x3) fun K3 hK3 => t_mark_w (by omega) w3 (hK3 τ3 tps.rf ?_)
              rw [hn]
              exact w3
            | inr s3 =>
              rw [hn] at o1'
              have M3 : tM τ1 t s3 ms := o1'
              obtain ⟨n1, n2, n3⟩ := p_nx_wf h.1 (by omega) hn
              have hp10 := ih n (Nat.le_refl _) (10 + C) s3 ms τ1 d
              unfold tFn at hp10
              have hp10 := fun K5 => hp10 K5 (by omega) (by show 8 * (t.length + 1 - s3.2.1) + _ ≤ n; rw [if_neg (by omega), if_neg (by omega), if_neg (by omega), if_neg (by omega), if_pos (by omega)]; omega) (by omega) M3 T1
              simp only [show ¬ 10 + C = 0 by omega, show ¬ 10 + C = 1 by omega, show ¬ 10 + C = 3 by omega, show ¬ 10 + C = 5 by omega, if_false, show 10 + C - 10 = C by omega] at hp10
              refine hp10 _ fun τ3 x3 o3' => ?_
              refine tail τ3 (x1.tr x3) fun K3 hK3 => ?_
              rw [hn] at hK3
              have hK3 : ∀ τ4, tps τ3 τ4 → tOu τ4 t (p_bd (p_P t n (10 + C) s3) fun q => .inr (q.1, q.2 ++ [(MK, 0)])) ms → K3 (tput g m0 τ4 hp) nx := hK3
              cases hr : p_P t n (10 + C) s3 with
              | inl b =>
                rw [hr] at o3' hK3
                exact t_mark_w (by omega) o3' (hK3 τ3 tps.rf o3')
              | inr q0 =>
                rw [hr] at o3' hK3
                have M4 : tM τ3 t q0.1 (ms ++ q0.2) := o3'
                have gd := p_good ht n (10 + C) s3 q0 n1 (Or.inr (Or.inl ⟨by omega, by omega⟩)) hr
                have gd4 := gd.2.2.2.1
                refine t_mark (by omega) hB M4 ht (fun h5' => ?_) (Or.inr (Or.inr (Or.inl ⟨by omega, by omega⟩))) (by omega) fun τ5 x5 M5 => hK3 τ5 x5 ?_
                · rw [List.length_append]; omega
                · show tM τ5 t q0.1 (ms ++ (q0.2 ++ [(MK, 0)]))
                  rw [← List.append_assoc]
                  exact M5
          · refine pk_eq st.2.2.1.2.1 5 (fun e => ?_) (fun e => ?_)
            · rw [hP169]
              exact ⟨rfl, rfl, by rw [hC, if_pos e]; rfl, rfl, rfl⟩
            · rw [hP169]
              exact ⟨rfl, rfl, (by rw [hC, if_neg e]), rfl, rfl⟩
        · rw [if_pos w5] at hK
          rw [tw_zo]
          cases hn : p_nx t st with
          | inl b =>
            rw [hn] at o1' hK
            exact t_ofTable_w (by omega) o1' (hK τ1 x1 o1')
          | inr s3 =>
            rw [hn] at o1' hK
            exact t_ofTable w5 (by omega) ht hB hs T1 o1' fun τ2 x2 o2' => hK τ2 (x1.tr x2) o2'
      · have q4 : st.2.2.1.1 ≠ 4 := fun e => q (by rw [if_pos e])
        rw [if_neg q4] at hK
        rw [tw_zo]
        refine t_isSign (c := 45) (by omega) (by decide) h ?_
        by_cases km : p_is st 45 = true
        · rw [if_pos km] at hK ⊢
          refine ⟨fun h => absurd h (by decide), fun _ => ?_⟩
          rw [tw_zo]
          refine t_opens (by omega) hB hs hT h h5 fun τ1 x1 o1' => ?_
          by_cases o44 : st.2.2.2.1 = 4
          · rw [if_pos o44]
            refine ⟨fun _ => ?_, fun h => absurd rfl h⟩
            have hop : p_op t st = .inl st.2.1 := by unfold p_op; rw [if_pos o44]
            rw [hop] at o1' hK
            exact hK τ1 x1 o1'
          · rw [if_neg o44]
            refine ⟨fun h => absurd h (by decide), fun _ => ?_⟩
            rw [tw_zo]
            have e200 : (200 : Int32) = nI 200 := rfl
            cases hop : p_op t st with
            | inl b =>
              rw [hop] at o1' hK
              have o1' : tWr τ1 b := o1'
              refine t_one_w (by omega) o1' ?_
              simp only [tg_opened, tp_opened, hB, true_and, tw_zo]
              have w3 : ∀ v, tWr (tsI τ1 45 v) b := fun v => ⟨by rw [tq2 (by decide)]; exact o1'.1, by rw [tq2 (by decide)]; exact o1'.2⟩
              exact t_mark_w (by omega) (w3 _) (hK _ (x1.sI (by omega)) (w3 _))
            | inr s3 =>
              rw [hop] at o1' hK
              have M3 : tM τ1 t s3 ms := o1'
              obtain ⟨r1, r2, r3, r4, r5⟩ := p_op_wf h.1 (by rw [p_is_3 km]; decide) hop
              have hK : ∀ τ', tps τ τ' → tOu τ' t (p_bd (p_P t n 0 s3) fun q => .inr (p_wo q.1 (q.1.2.2.2.1 - 1) q.1.2.2.2.2, q.2 ++ [(200, 0)])) ms → K (tput g m0 τ' hp) nx := hK
              refine ih n (Nat.le_refl _) 0 s3 ms τ1 d _ (by omega) (by show 8 * (t.length + 1 - s3.2.1) + 1 ≤ n; omega) (by omega) M3 (hT.ps x1) fun τ2 x2 o2' => ?_
              simp only [tg_opened, tp_opened, hB, true_and, tw_zo]
              rw [e200]
              cases hr : p_P t n 0 s3 with
              | inl b =>
                rw [hr] at o2' hK
                have o2' : tWr τ2 b := o2'
                have w3 : ∀ v, tWr (tsI τ2 45 v) b := fun v => ⟨by rw [tq2 (by decide)]; exact o2'.1, by rw [tq2 (by decide)]; exact o2'.2⟩
                exact t_mark_w (by omega) (w3 _) (hK _ ((x1.tr x2).sI (by omega)) (w3 _))
              | inr q0 =>
                rw [hr] at o2' hK
                have M4 : tM τ2 t q0.1 (ms ++ q0.2) := o2'
                have gd := p_good ht n 0 s3 q0 r1 (Or.inl (by omega)) hr
                have gd4 := gd.2.2.2.1
                have gd2 := gd.2.1
                have M5 : tM (tsI τ2 45 (τ2.1 45 - 1)) t (p_wo q0.1 (q0.1.2.2.2.1 - 1) q0.1.2.2.2.2) (ms ++ q0.2) := by
                  have wf : p_wf t (p_wo q0.1 (q0.1.2.2.2.1 - 1) q0.1.2.2.2.2) := ⟨M4.1.1, M4.1.2.1, by show q0.1.2.2.2.1 - 1 ≤ 4; have := M4.1.2.2.1; omega, M4.1.2.2.2⟩
                  by_cases h55 : q0.1.2.2.1.1 = 5
                  · exact tM.of5 wf h55 ⟨by rw [tq2 (by decide)]; exact (M4.wr h55).1, by rw [tq2 (by decide)]; exact (M4.wr h55).2⟩
                  · obtain ⟨⟨g1, g2, g3, g4, g5, g6⟩, u1, u2, u3, u4, u5, u6⟩ := M4.sy h55
                    refine tM.of wf h55 ⟨⟨?_, ?_, ?_, ?_, fun e => ?_, fun e => ?_⟩, ?_, ?_, ?_, u4, u5, u6⟩
                    · rw [tq2 (by decide)]; exact g1
                    · rw [tq2 (by decide)]; exact g2
                    · rw [tq2 (by decide)]; exact g3
                    · rw [tq2 (by decide)]; exact g4
                    · rw [tq2 (by decide), tq2 (by decide)]; exact g5 e
                    · rw [tq2 (by decide)]; exact g6 e
                    · rw [tq1, u1]
                      exact pk_sub (b := 1) (by omega)
                    · rw [tq2 (by decide)]; exact u2
                    · rw [tq2 (by decide)]; exact u3
                refine t_mark (by omega) hB M5 ht (fun h5' => ?_) (Or.inr (Or.inr (Or.inl ⟨by omega, by omega⟩))) (by omega) fun τ5 x5 M6 => hK τ5 ((x1.tr x2).tr ((tps.rf.sI (by omega)).tr x5)) ?_
                · rw [List.length_append]; show _ < q0.1.2.1; omega
                · show tM τ5 t (p_wo q0.1 _ _) (ms ++ (q0.2 ++ [(200, 0)]))
                  rw [← List.append_assoc]
                  exact M6
        · rw [if_neg km] at hK ⊢
          refine ⟨fun _ => ?_, fun h => absurd rfl h⟩
          rw [tw_zo]
          refine t_isSign (c := 40) (by omega) (by decide) h ?_
          by_cases ko : p_is st 40 = true
          · rw [if_pos ko] at hK ⊢
            refine ⟨fun h => absurd h (by decide), fun _ => ?_⟩
            rw [tw_zo]
            have hp10 := ih n (Nat.le_refl _) 11 st ms τ d
            unfold tFn at hp10
            exact hp10 _ (by omega) (by show 8 * (t.length + 1 - st.2.1) + 0 ≤ n; omega) (by omega) h hT hK
          · rw [if_neg ko] at hK ⊢
            refine ⟨fun _ => ?_, fun h => absurd rfl h⟩
            simp only [tg_isWrong, tp_isWrong, hB, true_and]
            exact hK _ (tps.rf.sI (by omega)) h.bad
    · -- a letter or a word
      rw [e1]
      refine pk_eq (if st.2.2.1.1 = 4 then 1 else st.2.2.1.1) 1 (fun q1 => ?_) (fun q1 => ?_) rfl rfl (by split <;> omega)
      · simp only [tg_at, tp_at, tg_begin, tp_begin, k1, k2]
        rw [pk_sub a.1]
        refine pk_eq (st.1 - st.2.1) 1 (fun q3 => ?_) (fun q3 => ?_)
        · have qq : st.2.2.1.1 = 1 := by
            by_cases q4 : st.2.2.1.1 = 4
            · exact absurd q3 (h.1.w4 q4).1
            · rw [if_neg q4] at q1; exact q1
          rw [if_pos qq] at hK
          obtain ⟨l1, l2⟩ := h.1.w1 qq
          have c24 := a.2.2.2.2.2.1 qq
          have at1 := a.2.2.1 (by omega)
          rw [tw_zo]
          refine t_byteAt (by omega) hT (by omega) ?_
          rw [(p_by_eq hT (c := st.2.2.1.2.1 + 97) (by omega)).mpr l2]
          have e97 : nI (st.2.2.1.2.1 + 97) - (97 : Int32) = nI st.2.2.1.2.1 := by
            have e3 : (97 : Int32) = nI 97 := rfl
            rw [e3, pk_sub (by omega), show st.2.2.1.2.1 + 97 - 97 = st.2.2.1.2.1 by omega]
          rw [e97, tw_zo]
          refine t_mark0 (by omega) hB k3 o3 (by omega) ?_
          rw [tw_zo]
          have x1 : tps τ (tsI (taI τ 35 0 (va_up (τ.2.2.1 35 0) ms.length (nI st.2.2.1.2.1))) 37 (nI (ms.length + 1))) := tps.rf.aI.sI (by omega)
          refine t_nextM (st := st) (ms := ms ++ [(st.2.2.1.2.1, 0)]) (by omega) hB hs (hT.ps x1) (by rw [tq2 (by decide)]; exact k1) a.2.1 h.1.2.2.1 (Nat.le_trans w4 a.1) (by rw [tq2 (by decide)]; exact k3) (by rw [tq2 (by decide)]; exact o1) (by rw [tq2 (by decide)]; exact o2) (by rw [tq1, List.length_append]; rfl) (o4.up rfl (fun a b => by omega)) (by rw [List.length_append]; show ms.length + 1 ≤ _; omega) (fun m hm => ?_) fun τ2 x2 q => hK τ2 (x1.tr x2) ?_
          · rw [List.mem_append, List.mem_singleton] at hm
            rcases hm with hm | hm
            · exact o6 m hm
            · subst hm
              exact p_mm.z (Or.inl c24) (by omega)
          · cases hn : p_nx t st with
            | inl b => rw [hn] at q; exact q
            | inr s2 => rw [hn] at q; exact q
        · rw [hP]
          refine ⟨rfl, rfl, fun e => q3 ?_⟩
          have := (h.1.w1 e).1
          omega
      · rw [hP]
        refine ⟨rfl, rfl, fun e => q1 ?_⟩
        rw [if_neg (by omega)]
        exact e
theorem t_read (ht : t.length ≤ 96) (hB : zB g ≤ m0) (hs : zStrs g m0 hp) : ∀ n, tPa l g m0 hp nx t n := by
  have key : ∀ n, ∀ k, k ≤ n → tPa l g m0 hp nx t k := by
    intro n
    induction n with
    | zero =>
      intro k hk c st ms τ d K hc hm hd h hT hK
      exfalso
      have hb := h.1.2.1
      unfold p_ms at hm
      omega
    | succ n ih =>
      intro k hk
      by_cases hkn : k ≤ n
      · exact ih k hkn
      · have hk2 : k = n + 1 := by omega
        subst hk2
        intro c st ms τ d K hc hm hd h hT hK
        rcases hc with rfl | rfl | rfl | rfl | hc
        · exact t_one_ok ht hB hs ih hm hd h hT hK
        · exact t_term_ok ht hB hs ih hm hd h hT hK
        · exact t_sum_ok ht hB hs ih hm hd h hT hK
        · exact t_all_ok ht hB hs ih hm hd h hT hK
        · unfold tFn
          rw [if_neg (by omega), if_neg (by omega), if_neg (by omega), if_neg (by omega)]
          have e : p_P t (n + 1) c st = p_prt (p_P t n) t (c - 10) st := by
            have := p_P_p (t := t) (st := st) (n := n) (m := c - 10) (by omega) (by omega)
            rw [show 10 + (c - 10) = c by omega] at this
            exact this
          rw [e] at hK
          refine t_parts_ok (by omega) (by omega) ht hB hs ih ?_ hd h hT hK
          unfold p_ms at hm
          omega
  exact fun n => key n n (Nat.le_refl _)
end PD
