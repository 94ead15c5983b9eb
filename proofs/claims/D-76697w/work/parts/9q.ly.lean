set_option maxRecDepth 100000
/-! THE REFERENCE's reader: numbers -/
section LY
variable {l : Launch} {g : zG} {d m0 : Nat} {τ τ' τm τ1 τ2 : tS} {hp : zHp} {nx : Nat} {t : List Nat}
theorem p_at_run {P : Nat → Bool} {b k : Nat} (h1 : b ≤ k) (h2 : k ≤ p_run P t b) : p_at P t k = true ↔ k < p_run P t b := by
  rw [p_at_s]
  constructor
  · rintro ⟨c, hc, hP⟩
    rcases Nat.lt_or_ge k (p_run P t b) with h | h
    · exact h
    · have e : k = p_run P t b := by omega
      rw [e] at hc
      have := p_run_x (P := P) (t := t) (k := b) rfl c hc
      rw [hP] at this
      cases this
  · intro h
    exact p_run_m (P := P) (t := t) (k := b) rfl k h1 h
theorem p_tok_9 {b : Nat} (h : p_at p_09 t b = true) : p_tok t b = (if t[p_run p_09 t b]? = some 46 then
        (if p_run p_09 t b - b ≤ 4 ∧ 1 ≤ p_run p_09 t (p_run p_09 t b + 1) - (p_run p_09 t b + 1) ∧ p_run p_09 t (p_run p_09 t b + 1) - (p_run p_09 t b + 1) ≤ 3 then
          some (p_run p_09 t (p_run p_09 t b + 1), 2, p_val t b (p_run p_09 t b - b), some (p_val t (p_run p_09 t b + 1) (p_run p_09 t (p_run p_09 t b + 1) - (p_run p_09 t b + 1)) * 10 ^ (3 - (p_run p_09 t (p_run p_09 t b + 1) - (p_run p_09 t b + 1)))))
        else none)
      else if p_run p_09 t b - b ≤ 4 then some (p_run p_09 t b, 2, p_val t b (p_run p_09 t b - b), none) else none) := by
  obtain ⟨c, hc, hP⟩ := p_at_s.mp h
  unfold p_tok
  rw [hc]
  have ha : ¬ p_az c = true := by
    unfold p_az
    unfold p_09 at hP
    simp only [Bool.and_eq_true, decide_eq_true_eq] at hP ⊢
    omega
  simp only [if_neg ha, if_pos hP]
theorem p_val_lt {b n : Nat} (h : ∀ j, j < n → p_at p_09 t (b + j) = true) : p_val t b n < 10 ^ n := p_09_96 fun j hj => p_at_s.mp (h j hj)
/-- one more digit -/
theorem p_val_d {k : Nat} (hT : tTt τ t) (h : p_at p_09 t k = true) : ∃ c, t.getD k 0 = 48 + c ∧ c < 10 ∧ p_by t k = nI (48 + c) := by
  obtain ⟨b, hb, hP⟩ := p_at_s.mp h
  unfold p_09 at hP
  simp only [Bool.and_eq_true, decide_eq_true_eq] at hP
  refine ⟨b - 48, ?_, by omega, ?_⟩
  · rw [List.getD_eq_getElem?_getD, hb]
    show b = _
    omega
  · rw [(p_by_eq hT (c := 48 + (b - 48)) (by omega))]
    rw [hb]
    congr 1
    omega
theorem nI_ds {b k : Nat} : nI (b + k) - nI b = nI k := by
  rw [pk_sub (by omega), show b + k - b = k by omega]
theorem t_minN {a b : Nat} {K : Int32 → zHp → Nat → Prop} (hd : 1 ≤ d) (ha : a < 2 ^ 30) (hb : b < 2 ^ 30) (hK : K (nI (min a b)) hp nx) : zMt l g yJ10_min cJ10_min 2 (some .int) d 0 0 [.int (nI a), .int (nI b)] hp nx (zQi g K) := by
  obtain ⟨d, rfl⟩ := Nat.exists_eq_add_of_le' hd
  apply met_J10_min
  unfold wp_J10_min
  refine ⟨_, fun _ h => h, ?_⟩
  refine pk_lt b a (fun h => ?_) (fun h => ?_)
  · rw [Nat.min_eq_right (by omega)] at hK; exact hK
  · rw [Nat.min_eq_left (by omega)] at hK; exact hK
def tNo (τ' : tS) (t : List Nat) (b : Nat) : Prop := match p_tok t b with
  | some q => τ'.1 46 = 0 ∧ τ'.1 39 = nI q.1 ∧ τ'.1 43 = nI q.2.2.1 ∧ τ'.1 44 = s_io q.2.2.2
  | none => τ'.1 46 = 1
set_option maxHeartbeats 1000000 in
theorem t_number {b : Nat} {K : zHp → Nat → Prop} (hd : 6 ≤ d) (hB : zB g ≤ m0) (hT : tTt τ t) (ha : τ.1 39 = nI b) (hb : τ.1 40 = nI b) (h9 : p_at p_09 t b = true) (hK : ∀ τ', tlx τ τ' → τ'.1 40 = nI b → τ'.1 41 = τ.1 41 → tNo τ' t b → K (tput g m0 τ' hp) nx) : zMt l g yX5_number cX5_number 4 none d 0 0 [.ref m0] (tput g m0 τ hp) nx (zQv g K) := by
  obtain ⟨d, rfl⟩ := Nat.exists_eq_add_of_le' (show 1 ≤ d by omega)
  apply met_X5_number
  unfold wp_X5_number
  have h96 := hT.2.1
  unfold tNo at hK
  rw [p_tok_9 h9] at hK
  obtain ⟨c0, hc0, -⟩ := p_at_s.mp h9
  have hbl : b < t.length := by
    rcases Nat.lt_or_ge b t.length with h1 | h1
    · exact h1
    · rw [List.getElem?_eq_none h1] at hc0; cases hc0
  have ge := p_run_ge (P := p_09) (t := t) (k := b)
  have le := p_run_le (P := p_09) (t := t) (k := b) (by omega)
  have run : ∀ k, b ≤ k → k ≤ p_run p_09 t b → (p_at p_09 t k = true ↔ k < p_run p_09 t b) := fun k q1 q2 => p_at_run q1 q2
  generalize p_run p_09 t b = e at hK ge le run
  simp only [tg_whole, tp_whole, tg_behind, tp_behind, hB, true_and]
  refine ⟨fun n h n' => ∃ k v τ1, b + k ≤ e ∧ n = e - (b + k) ∧ h = tput g m0 τ1 hp ∧ nx = n' ∧ tlx τ τ1 ∧ τ1.1 39 = nI (b + k) ∧ τ1.1 40 = nI b ∧ τ1.1 41 = τ.1 41 ∧ τ1.1 44 = -1 ∧ τ1.1 43 = nI v ∧ v ≤ 100000 ∧ (k ≤ 4 → v = p_val t b k), ⟨e - (b + 0), 0, 0, _, by omega, rfl, rfl, rfl, (tlx.rf.sI (by omega)).sI (by omega), by rw [tq2 (by decide), tq2 (by decide), ha]; rfl, by rw [tq2 (by decide), tq2 (by decide), hb], by rw [tq2 (by decide), tq2 (by decide)], tq1, by rw [tq2 (by decide), tq1]; rfl, by omega, fun _ => rfl⟩, ?_⟩
  rintro n _ _ ⟨k, v, τ1, hk, hn, rfl, rfl, x1, a1, a2, a3, a4, a5, hv, hv4⟩
  have T1 := hT.lx x1
  rw [tw_zo]
  refine t_isDigit (by omega) T1 a1 (by omega) ?_
  by_cases hlt : b + k < e
  · have hdg := (run (b + k) (by omega) (by omega)).mpr hlt
    rw [if_pos hdg]
    refine ⟨fun h => absurd h (by decide), fun _ => ?_⟩
    obtain ⟨c, g1, g2, g3⟩ := p_val_d T1 hdg
    simp only [tg_whole, tp_whole, tg_at, tp_at, a1, a5, tw_zo]
    refine t_byteAt (by omega) T1 (by omega) ?_
    rw [g3]
    have ex : (((10 : Int32) * nI v) + nI (48 + c)) - (48 : Int32) = nI (10 * v + c) := by
      have e10 : (10 : Int32) = nI 10 := rfl
      have e48 : (48 : Int32) = nI 48 := rfl
      rw [e10, e48, pk_mul, nI_add, pk_sub (by omega)]
      congr 1
      omega
    rw [ex]
    have e5 : (100000 : Int32) = nI 100000 := rfl
    rw [e5]
    refine t_minN (by omega) (by omega) (by omega) ?_
    simp only [tg_whole, tp_whole, tg_at, tp_at, hB, true_and]
    refine ⟨e - (b + (k + 1)), by omega, k + 1, min 100000 (10 * v + c), _, by omega, rfl, rfl, (x1.sI (by omega)).sI (by omega), ?_, ?_, ?_, ?_, ?_, by omega, fun h4 => ?_⟩
    · rw [tq1, tq2 (by decide), a1, nI_1]; rfl
    · rw [tq2 (by decide), tq2 (by decide), a2]
    · rw [tq2 (by decide), tq2 (by decide), a3]
    · rw [tq2 (by decide), tq2 (by decide), a4]
    · rw [tq2 (by decide), tq1]
    · have e1 := hv4 (by omega)
      have hlt' : p_val t b k < 10 ^ k := p_val_lt fun j hj => (run (b + j) (by omega) (by omega)).mpr (by omega)
      have hp4 : 10 ^ k ≤ 10 ^ 3 := Nat.pow_le_pow_right (by decide) (by omega)
      rw [Nat.min_eq_right (by rw [e1]; omega)]
      show _ = 10 * p_val t b k + (t.getD (b + k) 0 - 48)
      rw [g1, e1]
      omega
  · have hke : b + k = e := by omega
    have hnd : ¬ p_at p_09 t (b + k) = true := fun h => hlt ((run (b + k) (by omega) (by omega)).mp h)
    rw [if_neg hnd]
    refine ⟨fun _ => ?_, fun h => absurd rfl h⟩
    have hkk : e - b = k := by omega
    have he2 : e = b + k := hke.symm
    subst he2
    rw [hkk] at hK
    simp only [tg_begin, tp_begin, tg_at, tp_at, a1, a2]
    have es : nI (b + k) - nI b = nI k := nI_ds
    rw [es]
    refine ⟨fun r z h n' => r = some m0 ∧ z = (if k ≤ 4 then 0 else 1) ∧ h = tput g m0 τ1 hp ∧ nx = n', ?_, ?_⟩
    · rintro _ _ _ _ ⟨rfl, rfl, rfl, rfl⟩
      refine ⟨s_01, ?_⟩
      obtain ⟨τ2, hτ2⟩ : ∃ τ2, τ2 = tsI τ1 46 (if k ≤ 4 then 0 else 1) := ⟨_, rfl⟩
      have x2 : tlx τ τ2 := by rw [hτ2]; exact x1.sI (by omega)
      have T2 := hT.lx x2
      have b1 : τ2.1 39 = nI (b + k) := by rw [hτ2, tq2 (by decide), a1]
      have b2 : τ2.1 40 = nI b := by rw [hτ2, tq2 (by decide), a2]
      have b3 : τ2.1 41 = τ.1 41 := by rw [hτ2, tq2 (by decide), a3]
      have b4 : τ2.1 44 = -1 := by rw [hτ2, tq2 (by decide), a4]
      have b5 : τ2.1 43 = nI v := by rw [hτ2, tq2 (by decide), a5]
      have b6 : τ2.1 46 = (if k ≤ 4 then 0 else 1) := by rw [hτ2, tq1]
      simp only [tg_isWrong, tp_isWrong, hB, true_and]
      rw [← hτ2]
      clear hτ2 a1 a2 a3 a4 a5 x1 T1
      simp only [tg_at, tp_at, b1, tw_zo]
      refine t_byteAt (by omega) T2 (by omega) ?_
      have e46 : (46 : Int32) = nI 46 := rfl
      rw [e46, p_by_eq T2 (by decide)]
      by_cases hdot : t[b + k]? = some 46
      · refine ⟨fun _ => ?_, fun h => absurd hdot h⟩
        rw [if_pos hdot] at hK
        have hl2 : b + k < t.length := by
          rcases Nat.lt_or_ge (b + k) t.length with h1 | h1
          · exact h1
          · rw [List.getElem?_eq_none h1] at hdot; cases hdot
        have ge2 := p_run_ge (P := p_09) (t := t) (k := b + k + 1)
        have le2 := p_run_le (P := p_09) (t := t) (k := b + k + 1) (by omega)
        have run2 : ∀ j, b + k + 1 ≤ j → j ≤ p_run p_09 t (b + k + 1) → (p_at p_09 t j = true ↔ j < p_run p_09 t (b + k + 1)) := fun j q1 q2 => p_at_run q1 q2
        generalize p_run p_09 t (b + k + 1) = e2 at hK ge2 le2 run2
        generalize hF : b + k + 1 = F at hK ge2 le2 run2
        simp only [tg_at, tp_at, tg_behind, tp_behind, hB, true_and, b1, nI_1, hF]
        simp only [tq1, tq3, tq4, tq5, tq7, tq8, tq9, tqa, tqc, tqd, tqe, tqf, tqg, tqh, tqj, va_s, ne_eq, reduceCtorEq, not_false_eq_true, not_true_eq_false, if_true, if_false, Nat.reduceEqDiff]
        refine ⟨fun n x h n' => ∃ m τ3, F + m ≤ e2 ∧ n = e2 - (F + m) ∧ x = nI F ∧ h = tput g m0 τ3 hp ∧ nx = n' ∧ tlx τ τ3 ∧ τ3.1 39 = nI (F + m) ∧ τ3.1 40 = nI b ∧ τ3.1 41 = τ.1 41 ∧ τ3.1 43 = nI v ∧ τ3.1 46 = (if k ≤ 4 then 0 else 1) ∧ τ3.1 44 = nI (p_val t F (min m 3)), ⟨e2 - (F + 0), 0, _, by omega, rfl, rfl, rfl, rfl, (x2.sI (by omega)).sI (by omega), ?_, ?_, ?_, ?_, ?_, ?_⟩, ?_⟩
        · rw [tq2 (by decide), tq1]; rfl
        · rw [tq2 (by decide), tq2 (by decide), b2]
        · rw [tq2 (by decide), tq2 (by decide), b3]
        · rw [tq2 (by decide), tq2 (by decide), b5]
        · rw [tq2 (by decide), tq2 (by decide), b6]
        · rw [tq1]; rfl
        rintro n _ _ _ ⟨m, τ3, hm, hn2, rfl, rfl, rfl, x3, c1, c2, c3, c4, c5, c6⟩
        have T3 := hT.lx x3
        rw [tw_zo]
        refine t_isDigit (by omega) T3 c1 (by omega) ?_
        by_cases hlt2 : F + m < e2
        · have hdg := (run2 (F + m) (by omega) (by omega)).mpr hlt2
          rw [if_pos hdg]
          refine ⟨fun h => absurd h (by decide), fun _ => ?_⟩
          simp only [tg_at, tp_at, c1]
          have es2 : nI (F + m) - nI F = nI m := nI_ds
          rw [es2]
          refine ⟨fun x h n' => x = nI F ∧ nx = n' ∧ ∃ τ4, h = tput g m0 τ4 hp ∧ tlx τ τ4 ∧ τ4.1 39 = nI (F + m) ∧ τ4.1 40 = nI b ∧ τ4.1 41 = τ.1 41 ∧ τ4.1 43 = nI v ∧ τ4.1 46 = (if k ≤ 4 then 0 else 1) ∧ τ4.1 44 = nI (p_val t F (min (m + 1) 3)), ?_, ?_⟩
          · rintro _ _ _ ⟨rfl, rfl, τ4, rfl, x4, d1, d2, d3, d4, d5, d6⟩
            simp only [tg_at, tp_at, hB, true_and, d1]
            refine ⟨e2 - (F + (m + 1)), by omega, m + 1, _, by omega, rfl, rfl, x4.sI (by omega), ?_, ?_, ?_, ?_, ?_, ?_⟩
            · rw [tq1, nI_1]; rfl
            · rw [tq2 (by decide), d2]
            · rw [tq2 (by decide), d3]
            · rw [tq2 (by decide), d4]
            · rw [tq2 (by decide), d5]
            · rw [tq2 (by decide), d6]
          · have e3 : (3 : Int32) = nI 3 := rfl
            rw [e3]
            refine pk_le 3 m (fun h3 => ?_) (fun h3 => ?_)
            · refine ⟨rfl, rfl, τ3, rfl, x3, c1, c2, c3, c4, c5, ?_⟩
              rw [c6, Nat.min_eq_right (by omega), Nat.min_eq_right (by omega)]
            · simp only [tg_at, tp_at, tg_behind, tp_behind, c1, c6, tw_zo]
              refine t_byteAt (by omega) T3 (by omega) ?_
              obtain ⟨c, g1, g2, g3⟩ := p_val_d T3 hdg
              rw [g3]
              have ex : (((10 : Int32) * nI (p_val t F (min m 3))) + nI (48 + c)) - (48 : Int32) = nI (p_val t F (min (m + 1) 3)) := by
                have e10 : (10 : Int32) = nI 10 := rfl
                have e48 : (48 : Int32) = nI 48 := rfl
                rw [e10, e48, pk_mul, nI_add, pk_sub (by omega), Nat.min_eq_left (by omega), Nat.min_eq_left (by omega)]
                congr 1
                show _ = 10 * p_val t F m + (t.getD (F + m) 0 - 48)
                rw [g1]
                omega
              rw [ex]
              simp only [tg_behind, tp_behind, hB, true_and]
              refine ⟨_, rfl, x3.sI (by omega), ?_, ?_, ?_, ?_, ?_, tq1⟩
              · rw [tq2 (by decide), c1]
              · rw [tq2 (by decide), c2]
              · rw [tq2 (by decide), c3]
              · rw [tq2 (by decide), c4]
              · rw [tq2 (by decide), c5]
        · have hme : F + m = e2 := by omega
          have hnd2 : ¬ p_at p_09 t (F + m) = true := fun h => hlt2 ((run2 (F + m) (by omega) (by omega)).mp h)
          rw [if_neg hnd2]
          refine ⟨fun _ => ?_, fun h => absurd rfl h⟩
          have hmm : e2 - F = m := by omega
          have he3 : e2 = F + m := hme.symm
          subst he3
          rw [hmm] at hK
          simp only [tg_at, tp_at, tg_isWrong, tp_isWrong, c1, c5]
          have es2 : nI (F + m) - nI F = nI m := nI_ds
          rw [es2]
          intro z hz
          subst hz
          refine t_in' (by omega) ?_
          have hin : (nI m < (1 : Int32) ∨ (3 : Int32) < nI m) ↔ ¬ (1 ≤ m ∧ m ≤ 3) := by
            have e1 : (1 : Int32) = nI 1 := rfl
            have e3 : (3 : Int32) = nI 3 := rfl
            rw [e1, e3, nI_ltI (by omega) (by omega), nI_ltI (by omega) (by omega)]
            omega
          refine ⟨fun x y r z u h n' => x = nI F ∧ y = nI m ∧ r = some m0 ∧ z = (if k ≤ 4 then 0 else 1) ∧ u = (if 1 ≤ m ∧ m ≤ 3 then 0 else 1) ∧ h = tput g m0 τ3 hp ∧ nx = n', ?_, ?_⟩
          · rintro _ _ _ _ _ _ _ ⟨rfl, rfl, rfl, rfl, rfl, rfl, rfl⟩
            have hor : ((if k ≤ 4 then (0 : Int32) else 1) ||| (if 1 ≤ m ∧ m ≤ 3 then 0 else 1)) = (if k ≤ 4 ∧ 1 ≤ m ∧ m ≤ 3 then 0 else 1) := by
              by_cases q1 : k ≤ 4
              · by_cases q2 : 1 ≤ m ∧ m ≤ 3
                · rw [if_pos q1, if_pos q2, if_pos ⟨q1, q2⟩]; decide
                · rw [if_pos q1, if_neg q2, if_neg (fun h => q2 h.2)]; decide
              · by_cases q2 : 1 ≤ m ∧ m ≤ 3
                · rw [if_neg q1, if_pos q2, if_neg (fun h => q1 h.1)]; decide
                · rw [if_neg q1, if_neg q2, if_neg (fun h => q1 h.1)]; decide
            rw [hor]
            refine ⟨s_01, ?_⟩
            simp only [tg_isWrong, tp_isWrong, hB, true_and]
            have hvm : p_val t F (min m 3) < 1000 := by
              have h1 : p_val t F (min m 3) < 10 ^ (min m 3) := p_val_lt fun j hj => (run2 (F + j) (by omega) (by omega)).mpr (by omega)
              have h2 : 10 ^ (min m 3) ≤ 10 ^ 3 := Nat.pow_le_pow_right (by decide) (by omega)
              omega
            refine ⟨fun n x y i h n' => ∃ ii τ4, m ≤ ii ∧ (ii ≤ 3 ∨ ii = m) ∧ n = 3 - ii ∧ x = nI F ∧ y = nI m ∧ i = nI ii ∧ h = tput g m0 τ4 hp ∧ nx = n' ∧ tlx τ τ4 ∧ τ4.1 39 = nI (F + m) ∧ τ4.1 40 = nI b ∧ τ4.1 41 = τ.1 41 ∧ τ4.1 43 = nI v ∧ τ4.1 46 = (if k ≤ 4 ∧ 1 ≤ m ∧ m ≤ 3 then 0 else 1) ∧ τ4.1 44 = nI (p_val t F (min m 3) * 10 ^ (ii - m)), ⟨3 - m, m, _, Nat.le_refl _, Or.inr rfl, rfl, rfl, rfl, rfl, rfl, rfl, x3.sI (by omega), ?_, ?_, ?_, ?_, tq1, ?_⟩, ?_⟩
            · rw [tq2 (by decide), c1]
            · rw [tq2 (by decide), c2]
            · rw [tq2 (by decide), c3]
            · rw [tq2 (by decide), c4]
            · rw [tq2 (by decide), c6, Nat.sub_self, Nat.pow_zero, Nat.mul_one]
            rintro n _ _ _ _ _ ⟨i, τ4, hi1, hi2, hn3, rfl, rfl, rfl, rfl, rfl, x4, d1, d2, d3, d4, d5, d6⟩
            have e3 : (3 : Int32) = nI 3 := rfl
            rw [e3]
            refine pk_le 3 i (fun h3 => ?_) (fun h3 => ?_)
            · refine hK τ4 x4 d2 d3 ?_
              by_cases q : k ≤ 4 ∧ 1 ≤ m ∧ m ≤ 3
              · rw [if_pos q] at d5 ⊢
                have hi3 : i = 3 := by omega
                subst hi3
                refine ⟨d5, d1, ?_, ?_⟩
                · rw [d4, hv4 q.1]
                · rw [d6, Nat.min_eq_left q.2.2]
                  rfl
              · rw [if_neg q] at d5 ⊢
                exact d5
            · simp only [tg_behind, tp_behind, hB, true_and, d6]
              intro z hz
              subst hz
              refine ⟨3 - (i + 1), by omega, i + 1, _, by omega, by omega, rfl, nI_1 i, rfl, x4.sI (by omega), ?_, ?_, ?_, ?_, ?_, ?_⟩
              · rw [tq2 (by decide), d1]
              · rw [tq2 (by decide), d2]
              · rw [tq2 (by decide), d3]
              · rw [tq2 (by decide), d4]
              · rw [tq2 (by decide), d5]
              · have e10 : (10 : Int32) = nI 10 := rfl
                rw [tq1, e10, pk_mul, show i + 1 - m = (i - m) + 1 by omega, Nat.pow_succ, Nat.mul_assoc]
          · by_cases q : 1 ≤ m ∧ m ≤ 3
            · rw [if_neg (fun h => hin.mp h q)]
              exact ⟨fun h => absurd h (by decide), fun _ => ⟨rfl, rfl, rfl, rfl, by rw [if_pos q], rfl, rfl⟩⟩
            · rw [if_pos (hin.mpr q)]
              exact ⟨fun _ => ⟨rfl, rfl, rfl, rfl, by rw [if_neg q], rfl, rfl⟩, fun h => absurd rfl h⟩
      · refine ⟨fun h => absurd h hdot, fun _ => ?_⟩
        rw [if_neg hdot] at hK
        refine hK τ2 x2 b2 b3 ?_
        by_cases q : k ≤ 4
        · rw [if_pos q] at b6 ⊢
          exact ⟨b6, b1, by rw [b5, hv4 q], b4⟩
        · rw [if_neg q] at b6 ⊢
          exact b6
    · have e4 : (4 : Int32) = nI 4 := rfl
      rw [e4]
      exact pk_le k 4 (fun q => ⟨rfl, by rw [if_pos q], rfl, rfl⟩) (fun q => ⟨rfl, by rw [if_neg (by omega)], rfl, rfl⟩)
end LY
