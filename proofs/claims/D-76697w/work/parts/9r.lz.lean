set_option maxRecDepth 100000
/-! THE REFERENCE's reader: the next token -/
section LZ
variable {l : Launch} {g : zG} {d m0 : Nat} {τ τ' τm τ1 τ2 : tS} {hp : zHp} {nx : Nat} {t : List Nat}
def tTk (τ : tS) (a b : Nat) (k : pT) : Prop := τ.1 39 = nI a ∧ τ.1 40 = nI b ∧ τ.1 46 = 0 ∧ τ.1 41 = nI (if k.1 = 4 then 1 else k.1) ∧ (k.1 = 2 → τ.1 43 = nI k.2.1 ∧ τ.1 44 = s_io k.2.2) ∧ (k.1 = 3 → τ.1 42 = nI k.2.1)
def tNxt (τ' : tS) (r : Nat ⊕ (Nat × Nat × pT)) : Prop := match r with
  | .inl b => τ'.1 46 = 1 ∧ τ'.1 40 = nI b
  | .inr q => if q.2.2.1 = 5 then τ'.1 46 = 1 ∧ τ'.1 40 = nI q.2.1 else tTk τ' q.1 q.2.1 q.2.2
theorem tNxt_g {a b : Nat} {k : pT} (h : k.1 ≠ 5) (h2 : tTk τ' a b k) : tNxt τ' (.inr (a, b, k)) := by
  unfold tNxt
  simp only
  rw [if_neg h]
  exact h2
theorem tNxt_5 {a b : Nat} {k : pT} (h : k.1 = 5) (h1 : τ'.1 46 = 1) (h2 : τ'.1 40 = nI b) : tNxt τ' (.inr (a, b, k)) := by
  unfold tNxt
  simp only
  rw [if_pos h]
  exact ⟨h1, h2⟩
theorem t_next_w {K : zHp → Nat → Prop} (hd : 1 ≤ d) (hw : τ.1 46 = 1) (hK : K (tput g m0 τ hp) nx) : zMt l g yX5_next cX5_next 1 none d 0 0 [.ref m0] (tput g m0 τ hp) nx (zQv g K) := by
  obtain ⟨d, rfl⟩ := Nat.exists_eq_add_of_le' hd
  apply met_X5_next
  unfold wp_X5_next
  simp only [tg_isWrong, tp_isWrong, hw]
  exact ⟨fun h => absurd h (by decide), fun _ => hK⟩
theorem p_tok_0 {b : Nat} (h : t[b]? = none) : p_tok t b = some (b, 0, 0, none) := by unfold p_tok; rw [h]
theorem p_tok_w {b : Nat} (h : p_at p_az t b = true) : p_tok t b = some (p_run p_az t b, p_word t b) := by
  obtain ⟨c, hc, hP⟩ := p_at_s.mp h
  unfold p_tok
  rw [hc]
  simp only [if_pos hP]
theorem p_tok_s {b c : Nat} (hc : t[b]? = some c) (h1 : ¬ p_at p_az t b = true) (h2 : ¬ p_at p_09 t b = true) : p_tok t b = if c ∈ [40, 41, 44, 43, 45, 42, 47, 37, 60, 61] then some (b + 1, 3, c, none) else none := by
  have a1 : ¬ p_az c = true := fun q => h1 (p_at_s.mpr ⟨c, hc, q⟩)
  have a2 : ¬ p_09 c = true := fun q => h2 (p_at_s.mpr ⟨c, hc, q⟩)
  unfold p_tok
  rw [hc]
  simp only [if_neg a1, if_neg a2]
  unfold p_sg
  simp only [List.contains_iff_mem]
theorem s_kw_lt {w : List Nat} {k : Nat} (h : p_kw w = some k) : k < 8 := by
  unfold p_kw at h
  repeat' (first | (split at h; (cases h; decide)) | cases h)
set_option maxHeartbeats 1000000 in
theorem t_next {a : Nat} {K : zHp → Nat → Prop} (hd : 10 ≤ d) (hB : zB g ≤ m0) (hs : zStrs g m0 hp) (hT : tTt τ t) (hw : τ.1 46 = 0) (ha : τ.1 39 = nI a) (hal : a ≤ t.length) (hK : ∀ τ', tlx τ τ' → tNxt τ' (p_next t a) → K (tput g m0 τ' hp) nx) : zMt l g yX5_next cX5_next 1 none d 0 0 [.ref m0] (tput g m0 τ hp) nx (zQv g K) := by
  obtain ⟨d, rfl⟩ := Nat.exists_eq_add_of_le' (show 1 ≤ d by omega)
  apply met_X5_next
  unfold wp_X5_next
  have h96 := hT.2.1
  simp only [tg_isWrong, tp_isWrong, hw]
  refine ⟨fun _ => ?_, fun h => absurd (by trivial) h⟩
  have ge := p_run_ge (P := p_sp) (t := t) (k := a)
  have le := p_run_le (P := p_sp) (t := t) (k := a) hal
  have run : ∀ k, a ≤ k → k ≤ p_run p_sp t a → (p_at p_sp t k = true ↔ k < p_run p_sp t a) := fun k q1 q2 => p_at_run q1 q2
  unfold p_next at hK
  generalize p_run p_sp t a = b at hK ge le run
  refine ⟨fun n h n' => ∃ k τ1, a ≤ k ∧ k ≤ b ∧ n = b - k ∧ h = tput g m0 τ1 hp ∧ nx = n' ∧ tlx τ τ1 ∧ τ1.1 39 = nI k ∧ τ1.1 46 = 0, ⟨b - a, a, τ, by omega, ge, rfl, rfl, rfl, tlx.rf, ha, hw⟩, ?_⟩
  rintro n _ _ ⟨k, τ1, hk1, hk2, hn, rfl, rfl, x1, a1, a2⟩
  have T1 := hT.lx x1
  simp only [tg_at, tp_at, a1, tw_zo]
  refine t_byteAt (by omega) T1 (by omega) ?_
  have hsp : p_at p_sp t k = true ↔ (t[k]? = some 32 ∨ t[k]? = some 10) := by
    rw [p_at_s]
    unfold p_sp
    constructor
    · rintro ⟨c, hc, hP⟩
      simp only [Bool.or_eq_true, beq_iff_eq] at hP
      rcases hP with rfl | rfl
      · exact Or.inl hc
      · exact Or.inr hc
    · rintro (h | h)
      · exact ⟨32, h, rfl⟩
      · exact ⟨10, h, rfl⟩
  have e32 : (32 : Int32) = nI 32 := rfl
  have e10 : (10 : Int32) = nI 10 := rfl
  rw [e32, p_by_eq T1 (by decide)]
  have back : p_at p_sp t k = true → ∃ k_25, k_25 < n ∧ ∃ k' τ2, a ≤ k' ∧ k' ≤ b ∧ k_25 = b - k' ∧ tput g m0 (tsI τ1 39 (nI k + 1)) hp = tput g m0 τ2 hp ∧ nx = nx ∧ tlx τ τ2 ∧ τ2.1 39 = nI k' ∧ τ2.1 46 = 0 := fun h => by
    have := (run k hk1 hk2).mp h
    exact ⟨b - (k + 1), by omega, k + 1, _, by omega, by omega, rfl, rfl, rfl, x1.sI (by omega), by rw [tq1, nI_1], by rw [tq2 (by decide), a2]⟩
  obtain ⟨P34, hP34⟩ : ∃ P : zHp → Nat → Prop, P = fun h n' => h = tput g m0 τ1 hp ∧ nx = n' ∧ p_at p_sp t k = true := ⟨_, rfl⟩
  refine ⟨P34, ?_, ?_⟩
  · intro h n' hh
    rw [hP34] at hh
    obtain ⟨rfl, rfl, hsk⟩ := hh
    simp only [tg_at, tp_at, a1, hB, true_and]
    simpa only [true_and] using back hsk
  · refine ⟨fun h => by rw [hP34]; exact ⟨rfl, rfl, hsp.mpr (Or.inl h)⟩, fun n32 => ?_⟩
    simp only [tg_at, tp_at, a1, tw_zo]
    refine t_byteAt (by omega) T1 (by omega) ?_
    rw [e10, p_by_eq T1 (by decide)]
    refine ⟨fun h => by rw [hP34]; exact ⟨rfl, rfl, hsp.mpr (Or.inr h)⟩, fun n10 => ?_⟩
    have hkb : k = b := by
      have : ¬ k < b := fun h => by
        rcases hsp.mp ((run k hk1 hk2).mpr h) with q | q
        · exact n32 q
        · exact n10 q
      omega
    subst hkb
    clear back hP34 P34 hsp n32 n10 run
    simp only [tg_at, tp_at, tg_begin, tp_begin, tg_taped, tp_taped, hB, true_and, a1]
    have e34 : τ1.1 34 = nI t.length := T1.1
    simp only [tq1, tq3, tq4, tq5, tq7, tq8, tq9, tqa, tqc, tqd, tqe, tqf, tqg, tqh, tqj, va_s, ne_eq, reduceCtorEq, not_false_eq_true, not_true_eq_false, if_true, if_false, Nat.reduceEqDiff, tq2 (show (39 : Nat) ≠ 40 by decide), tq2 (show (34 : Nat) ≠ 40 by decide), a1, e34]
    have fin : ∀ (τ2 : tS) (h : zHp) (n' : Nat), (h = tput g m0 τ2 hp ∧ nx = n' ∧ tlx τ τ2 ∧ tNxt τ2 (match p_tok t k with | none => .inl k | some q => .inr (q.1, k, q.2))) → K h n' := by
      rintro τ2 _ _ ⟨rfl, rfl, x2, q⟩
      exact hK τ2 x2 q
    obtain ⟨τ2, hτ2⟩ : ∃ τ2, τ2 = tsI τ1 40 (nI k) := ⟨_, rfl⟩
    rw [← hτ2]
    have x2 : tlx τ τ2 := by rw [hτ2]; exact x1.sI (by omega)
    have T2 := hT.lx x2
    have b1 : τ2.1 39 = nI k := by rw [hτ2, tq2 (by decide), a1]
    have b2 : τ2.1 40 = nI k := by rw [hτ2, tq1]
    have b3 : τ2.1 46 = 0 := by rw [hτ2, tq2 (by decide), a2]
    clear hτ2 x1 a1 a2 T1
    obtain ⟨P, hP⟩ : ∃ P : zHp → Nat → Prop, P = fun h n' => ∃ τ2, h = tput g m0 τ2 hp ∧ nx = n' ∧ tlx τ τ2 ∧ tNxt τ2 (match p_tok t k with | none => .inl k | some q => .inr (q.1, k, q.2)) := ⟨_, rfl⟩
    have hPi : ∀ τ3, tlx τ τ3 → tNxt τ3 (match p_tok t k with | none => .inl k | some q => .inr (q.1, k, q.2)) → P (tput g m0 τ3 hp) nx := fun τ3 q1 q2 => by rw [hP]; exact ⟨τ3, rfl, rfl, q1, q2⟩
    refine ⟨P, ?_, ?_⟩
    · intro h n' hh
      rw [hP] at hh
      obtain ⟨τ3, q⟩ := hh
      exact fin τ3 h n' q
    clear fin hP hK
    refine pk_eq k t.length (fun hkl => ?_) (fun hkl => ?_)
    · simp only [tg_token, tp_token, hB, true_and]
      refine hPi _ (x2.sI (by omega)) ?_
      rw [p_tok_0 (List.getElem?_eq_none (by omega))]
      refine tNxt_g (by show (0 : Nat) ≠ 5; decide) ?_
      exact ⟨by rw [tq2 (by decide), b1], by rw [tq2 (by decide), b2], by rw [tq2 (by decide), b3], by rw [tq1]; rfl, fun h => (by cases h), fun h => (by cases h)⟩
    · have hlt : k < t.length := by omega
      have hc := List.getElem?_eq_getElem hlt
      simp only [tg_at, tp_at, b1, tw_zo]
      refine t_byteAt (by omega) T2 (by omega) ?_
      refine t_in' (by omega) ?_
      have hin := p_by_in (k := k) (lo := 97) (hi := 122) T2 (by decide) (by decide)
      have e97 : (97 : Int32) = nI 97 := rfl
      have e122 : (122 : Int32) = nI 122 := rfl
      rw [e97, e122]
      have eaz : p_at (fun b => decide (97 ≤ b) && decide (b ≤ 122)) t k = p_at p_az t k := rfl
      rw [eaz] at hin
      by_cases haz : p_at p_az t k = true
      · rw [if_neg (fun h => hin.mp h haz)]
        refine ⟨fun h => absurd h (by decide), fun _ => ?_⟩
        simp only [tg_token, tp_token, hB, true_and]
        have gew := p_run_ge (P := p_az) (t := t) (k := k)
        have lew := p_run_le (P := p_az) (t := t) (k := k) (by omega)
        have runw : ∀ j, k ≤ j → j ≤ p_run p_az t k → (p_at p_az t j = true ↔ j < p_run p_az t k) := fun j q1 q2 => p_at_run q1 q2
        have hword : p_word t k = if p_run p_az t k = k + 1 ∧ t.getD k 0 ≤ 120 then (1, t.getD k 0 - 97, none) else match p_kw ((t.drop k).take (p_run p_az t k - k)) with | some w => (4, w, none) | none => (5, 0, none) := rfl
        rw [p_tok_w haz] at hPi
        have hkn : k < p_run p_az t k := (runw k (Nat.le_refl _) gew).mp haz
        generalize p_run p_az t k = e at hPi gew lew runw hword hkn
        refine ⟨fun n h n' => ∃ j τ3, k ≤ j ∧ j ≤ e ∧ n = e - j ∧ h = tput g m0 τ3 hp ∧ nx = n' ∧ tlx τ τ3 ∧ τ3.1 39 = nI j ∧ τ3.1 40 = nI k ∧ τ3.1 41 = 1 ∧ τ3.1 46 = 0, ⟨e - k, k, _, Nat.le_refl _, gew, rfl, rfl, rfl, x2.sI (by omega), by rw [tq2 (by decide), b1], by rw [tq2 (by decide), b2], tq1, by rw [tq2 (by decide), b3]⟩, ?_⟩
        rintro n _ _ ⟨j, τ3, hj1, hj2, hn3, rfl, rfl, x3, c1, c2, c3, c4⟩
        have T3 := hT.lx x3
        simp only [tg_at, tp_at, c1, tw_zo]
        refine t_byteAt (by omega) T3 (by omega) ?_
        refine t_in' (by omega) ?_
        have hin3 := p_by_in (k := j) (lo := 97) (hi := 122) T3 (by decide) (by decide)
        have eaz3 : p_at (fun b => decide (97 ≤ b) && decide (b ≤ 122)) t j = p_at p_az t j := rfl
        rw [eaz3] at hin3
        by_cases hje : j < e
        · have hpj := (runw j hj1 hj2).mpr hje
          rw [if_neg (fun h => hin3.mp h hpj)]
          refine ⟨fun h => absurd h (by decide), fun _ => ?_⟩
          simp only [tg_at, tp_at, c1, hB, true_and]
          refine ⟨e - (j + 1), by omega, j + 1, _, by omega, by omega, rfl, rfl, x3.sI (by omega), by rw [tq1, nI_1], by rw [tq2 (by decide), c2], by rw [tq2 (by decide), c3], by rw [tq2 (by decide), c4]⟩
        · have hje' : j = e := by omega
          subst hje'
          have hnj : ¬ p_at p_az t j = true := fun h => hje ((runw j hj1 hj2).mp h)
          rw [if_pos (hin3.mpr hnj)]
          refine ⟨fun _ => ?_, fun h => absurd rfl h⟩
          simp only [tg_at, tp_at, tg_begin, tp_begin, c1, c2]
          have es : nI j - nI k = nI (j - k) := pk_sub (by omega)
          rw [es]
          have hgd : t.getD k 0 = t[k] := by rw [List.getD_eq_getElem?_getD, hc]; rfl
          have goodw : ∀ kk : pT, p_word t k = kk → kk.1 ≠ 5 → kk.1 ≠ 2 → kk.1 ≠ 3 → (if kk.1 = 4 then 1 else kk.1) = 1 → P (tput g m0 (tsI τ3 46 0) hp) nx := fun kk h1 h2 h3 h4 h5 => by
            refine hPi _ (x3.sI (by omega)) ?_
            refine tNxt_g (by rw [h1]; exact h2) ?_
            rw [h1]
            exact ⟨by rw [tq2 (by decide), c1], by rw [tq2 (by decide), c2], tq1, by rw [tq2 (by decide), c3]; show 1 = nI _; rw [h5]; rfl, fun h => absurd h h3, fun h => absurd h h4⟩
          have badw : (p_word t k).1 = 5 → P (tput g m0 (tsI τ3 46 1) hp) nx := fun h1 => by
            refine hPi _ (x3.sI (by omega)) ?_
            exact tNxt_5 h1 tq1 (by rw [tq2 (by decide), c2])
          obtain ⟨P168, hP168⟩ : ∃ P168 : Option Nat → Int32 → zHp → Nat → Prop, P168 = fun r z h n' => r = some m0 ∧ h = tput g m0 τ3 hp ∧ nx = n' ∧ ((z = 0 ∧ (p_word t k).1 ≠ 5 ∧ (p_word t k).1 ≠ 2 ∧ (p_word t k).1 ≠ 3 ∧ (if (p_word t k).1 = 4 then 1 else (p_word t k).1) = 1) ∨ (z = 1 ∧ (p_word t k).1 = 5)) := ⟨_, rfl⟩
          refine ⟨P168, ?_, ?_⟩
          · intro r z h n' hh
            rw [hP168] at hh
            obtain ⟨rfl, rfl, rfl, hz⟩ := hh
            rcases hz with ⟨rfl, q1, q2, q3, q4⟩ | ⟨rfl, q1⟩
            · refine ⟨Or.inl rfl, ?_⟩
              simp only [tg_isWrong, tp_isWrong, hB, true_and]
              exact goodw _ rfl q1 q2 q3 q4
            · refine ⟨Or.inr rfl, ?_⟩
              simp only [tg_isWrong, tp_isWrong, hB, true_and]
              exact badw q1
          · obtain ⟨P167, hP167⟩ : ∃ P167 : Option Nat → zHp → Nat → Prop, P167 = fun r h n' => r = some m0 ∧ h = tput g m0 τ3 hp ∧ nx = n' ∧ ((p_word t k).1 ≠ 5 ∧ (p_word t k).1 ≠ 2 ∧ (p_word t k).1 ≠ 3 ∧ (if (p_word t k).1 = 4 then 1 else (p_word t k).1) = 1) := ⟨_, rfl⟩
            refine ⟨P167, ?_, ?_⟩
            · intro r h n' hh
              rw [hP167] at hh
              obtain ⟨rfl, rfl, rfl, q⟩ := hh
              rw [hP168]
              exact ⟨rfl, rfl, rfl, Or.inl ⟨rfl, q⟩⟩
            obtain ⟨P155, hP155⟩ : ∃ P155 : Option Nat → zHp → Nat → Prop, P155 = fun r h n' => r = some m0 ∧ h = tput g m0 τ3 hp ∧ nx = n' ∧ ¬ (j = k + 1 ∧ t.getD k 0 ≤ 120) := ⟨_, rfl⟩
            refine ⟨P155, ?_, ?_⟩
            · intro r h n' hh
              rw [hP155] at hh
              obtain ⟨rfl, rfl, rfl, q⟩ := hh
              rw [if_neg q] at hword
              rw [tw_zo]
              refine t_word (by omega) hs T3 c1 c2 hj1 lew ?_
              cases hkw : p_kw ((t.drop k).take (j - k)) with
              | none =>
                rw [hkw] at hword
                refine ⟨fun _ => ?_, fun h => absurd rfl h⟩
                rw [hP168]
                exact ⟨rfl, rfl, rfl, Or.inr ⟨rfl, by rw [hword]⟩⟩
              | some w =>
                rw [hkw] at hword
                have hw8 := s_kw_lt hkw
                refine ⟨fun h => absurd ((s_io_1 (o := some w) (fun q hq => by cases hq; omega)).mp h) (by simp), fun _ => ?_⟩
                rw [hP167]
                exact ⟨rfl, rfl, rfl, by rw [hword]; exact (by decide : (4 : Nat) ≠ 5), by rw [hword]; exact (by decide : (4 : Nat) ≠ 2), by rw [hword]; exact (by decide : (4 : Nat) ≠ 3), by rw [hword]; exact if_pos rfl⟩
            · have e1 : (1 : Int32) = nI 1 := rfl
              rw [e1]
              refine pk_eq (j - k) 1 (fun hj => ?_) (fun hj => ?_)
              · simp only [tg_begin, tp_begin, c2, tw_zo]
                refine t_byteAt (by omega) T3 (by omega) ?_
                have hbk : p_by t k = nI t[k] := (p_by_eq T3 (by have := (T3.2.2 k _ hc).2; omega)).mpr hc
                rw [hbk]
                have hb256 := (T3.2.2 k _ hc).2
                have e120 : (120 : Int32) = nI 120 := rfl
                rw [e120]
                refine pk_le t[k] 120 (fun q => ?_) (fun q => ?_)
                · rw [if_pos ⟨by omega, by rw [hgd]; exact q⟩] at hword
                  rw [hP167]
                  exact ⟨rfl, rfl, rfl, by rw [hword]; exact (by decide : (1 : Nat) ≠ 5), by rw [hword]; exact (by decide : (1 : Nat) ≠ 2), by rw [hword]; exact (by decide : (1 : Nat) ≠ 3), by rw [hword]; exact if_neg (by decide : ¬ (1 : Nat) = 4)⟩
                · rw [hP155]
                  exact ⟨rfl, rfl, rfl, fun h => by rw [hgd] at h; omega⟩
              · rw [hP155]
                exact ⟨rfl, rfl, rfl, fun h => hj (by omega)⟩
      · rw [if_pos (hin.mpr haz)]
        refine ⟨fun _ => ?_, fun h => absurd rfl h⟩
        rw [tw_zo]
        refine t_isDigit (by omega) T2 b1 (by omega) ?_
        by_cases h9 : p_at p_09 t k = true
        · rw [if_pos h9]
          refine ⟨fun h => absurd h (by decide), fun _ => ?_⟩
          simp only [tg_token, tp_token, hB, true_and, tw_zo]
          have x3 : tlx τ (tsI τ2 41 2) := x2.sI (by omega)
          refine t_number (by omega) hB (hT.lx x3) (by rw [tq2 (by decide), b1]) (by rw [tq2 (by decide), b2]) h9 fun τ4 x4 d1 d2 d3 => ?_
          refine hPi τ4 (x3.tr x4) ?_
          unfold tNo at d3
          cases hk : p_tok t k with
          | none =>
            rw [hk] at d3
            exact ⟨d3, d1⟩
          | some q =>
            rw [hk] at d3
            have hq2 : q.2.1 = 2 := by
              rw [p_tok_9 h9] at hk
              split at hk
              · split at hk
                · cases hk; rfl
                · cases hk
              · split at hk
                · cases hk; rfl
                · cases hk
            refine tNxt_g (by omega) ?_
            refine ⟨d3.2.1, d1, d3.1, ?_, fun _ => d3.2.2, fun h => by omega⟩
            rw [d2, tq1, if_neg (by omega), hq2]
            rfl
        · rw [if_neg h9]
          refine ⟨fun _ => ?_, fun h => absurd rfl h⟩
          simp only [tg_token, tp_token, hB, true_and]
          have x3 : tlx τ (tsI τ2 41 3) := x2.sI (by omega)
          have T3 := hT.lx x3
          simp only [tg_at, tp_at, tq2 (show (39 : Nat) ≠ 41 by decide), b1, tw_zo]
          refine t_byteAt (by omega) T3 (by omega) ?_
          have hbk : p_by t k = nI t[k] := (p_by_eq T3 (by have := (T3.2.2 k _ hc).2; omega)).mpr hc
          have hb256 := (T3.2.2 k _ hc).2
          rw [hbk]
          simp only [tg_sign, tp_sign, tg_at, tp_at, hB, true_and, tq1, tq2 (show (39 : Nat) ≠ 42 by decide), tq2 (show (39 : Nat) ≠ 41 by decide), tq2 (show (42 : Nat) ≠ 39 by decide), b1]
          obtain ⟨τ4, hτ4⟩ : ∃ τ4, τ4 = tsI (tsI (tsI τ2 41 3) 42 (nI t[k])) 39 (nI k + 1) := ⟨_, rfl⟩
          rw [← hτ4]
          have x4 : tlx τ τ4 := by rw [hτ4]; exact (x3.sI (by omega)).sI (by omega)
          have hS := hs.t τ4 (k := 17) rfl
          obtain ⟨b0, fs, f, s1, s2, s3, s4, s5, s6⟩ := id hS
          rw [st_o (w := []) s1 (by decide)]
          refine t_indexOf (by omega) hS (by decide) hb256 fun x hx => ?_
          have ps := p_tok_s hc haz h9
          obtain ⟨P239, hP239⟩ : ∃ P239 : Option Nat → Int32 → zHp → Nat → Prop, P239 = fun r z h n' => r = some m0 ∧ h = tput g m0 τ4 hp ∧ nx = n' ∧ ((z = 0 ∧ t[k] ∈ [40, 41, 44, 43, 45, 42, 47, 37, 60, 61]) ∨ (z = 1 ∧ ¬ t[k] ∈ [40, 41, 44, 43, 45, 42, 47, 37, 60, 61])) := ⟨_, rfl⟩
          refine ⟨P239, ?_, ?_⟩
          · intro r z h n' hh
            rw [hP239] at hh
            obtain ⟨rfl, rfl, rfl, hz⟩ := hh
            rcases hz with ⟨rfl, q⟩ | ⟨rfl, q⟩
            · refine ⟨Or.inl rfl, ?_⟩
              simp only [tg_isWrong, tp_isWrong, hB, true_and]
              refine hPi _ (x4.sI (by omega)) ?_
              rw [ps, if_pos q]
              refine tNxt_g (by show (3 : Nat) ≠ 5; decide) ?_
              refine ⟨?_, ?_, tq1, ?_, fun h => (by cases h), fun _ => ?_⟩
              · rw [tq2 (by decide), hτ4, tq1, nI_1]
              · rw [tq2 (by decide), hτ4, tq2 (by decide), tq2 (by decide), tq2 (by decide), b2]
              · rw [tq2 (by decide), hτ4, tq2 (by decide), tq2 (by decide), tq1]; rfl
              · rw [tq2 (by decide), hτ4, tq2 (by decide), tq1]
            · refine ⟨Or.inr rfl, ?_⟩
              simp only [tg_isWrong, tp_isWrong, hB, true_and]
              refine hPi _ (x4.sI (by omega)) ?_
              rw [ps, if_neg q]
              refine ⟨tq1, ?_⟩
              rw [tq2 (by decide), hτ4, tq2 (by decide), tq2 (by decide), tq2 (by decide), b2]
          · refine ⟨fun h => ?_, fun h => ?_⟩
            · rw [hP239]
              exact ⟨rfl, rfl, rfl, Or.inl ⟨rfl, hx.mp h⟩⟩
            · rw [hP239]
              exact ⟨rfl, rfl, rfl, Or.inr ⟨rfl, fun q => h (hx.mpr q)⟩⟩
end LZ
