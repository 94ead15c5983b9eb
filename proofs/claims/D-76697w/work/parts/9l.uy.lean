set_option maxRecDepth 100000
/-! THE REFERENCE's operations: feed -/
section UY
variable {l : Launch} {g : zG} {d m0 : Nat} {τ τ' τm τ1 τ2 : tS} {hp : zHp} {nx : Nat}
/-- the tape is another -/
theorem tINV_tp (hI : tINV τ) (h57 : τ'.1 57 = τ.1 57) (hA : ∀ k, (k < 14 ∨ (58 ≤ k ∧ k ≤ 73)) → τ'.2.2.1 k = τ.2.2.1 k) (hD : ∀ k, (k < 14 ∨ (58 ≤ k ∧ k ≤ 73)) → τ'.2.2.2 k = τ.2.2.2 k) (hT : tTp τ') : tINV τ' ∧ tVw τ' = ((tVw τ).1, (tVw τ).2.1, ttp τ', (tVw τ).2.2.2) := by
  obtain ⟨h1, h2, h3, h4, h5⟩ := hI
  have pe : tpe τ τ' := ⟨fun k hk => hA k (Or.inl hk), fun k hk => hD k (Or.inl hk)⟩
  have im : tpe (tim τ) (tim τ') := ⟨fun k _ => hA (tiI k) (Or.inr (tiI_in k)), fun k _ => hD (tiD k) (Or.inr (tiD_in k))⟩
  refine ⟨⟨h1.pe pe, h2.pe pe, ?_, hT, ?_⟩, ?_⟩
  · rw [h57]
    rcases h3 with ⟨q, q1⟩ | ⟨q, q2⟩
    · exact Or.inl ⟨q, by rw [im.ow]; exact q1⟩
    · exact Or.inr ⟨q, q2.pe im⟩
  · unfold tRo
    rw [hA 70 (by decide), hA 71 (by decide), hA 73 (by decide), hD 72 (by decide)]
    exact h5
  · unfold tVw
    rw [pe.st, h57, im.st]
    unfold trw
    rw [hA 70 (by decide), hA 71 (by decide), hA 73 (by decide), hD 72 (by decide)]
def o_by (x : Int32) : Prop := x < 0 ∨ 255 < x
def o_xs (a b c e f : Int32) (k : Nat) : Int32 := if k = 0 then a else if k = 1 then b else if k = 2 then c else if k = 3 then e else f
noncomputable def o_feed (A : sV) (n a b c e f : Int32) : Int32 × sV :=
  s_if (n < 1 ∨ 5 < n ∨ o_by a ∨ o_by b ∨ o_by c ∨ o_by e ∨ o_by f) (-2, A)
    (if 96 < A.2.2.1.length + n.toNatClampNeg then (-4, A)
     else (nI (A.2.2.1.length + n.toNatClampNeg), A.1, A.2.1, A.2.2.1 ++ (List.range n.toNatClampNeg).map (fun k => (o_xs a b c e f k).toNatClampNeg), A.2.2.2))
theorem t_isByte {x : Int32} {K : Int32 → zHp → Nat → Prop} (hd : 2 ≤ d) (hK : K (if x < 0 ∨ 255 < x then 0 else 1) hp nx) : zMt l g yX5_isByte cX5_isByte 1 (some .boolean) d 0 0 [.int x] hp nx (zQi g K) := by
  obtain ⟨d, rfl⟩ := Nat.exists_eq_add_of_le' (show 1 ≤ d by omega)
  apply met_X5_isByte
  unfold wp_X5_isByte
  exact t_in' (by omega) ⟨s_01, hK⟩
theorem o_by_n {x : Int32} (h : ¬ o_by x) : ∃ b, b < 256 ∧ x = nI b := by
  rcases s_x_of (x := x) (M := 255) (n := 255) (by decide) with q | ⟨c, hc, e⟩
  · exact absurd q h
  · exact ⟨c, hc, e⟩
theorem ttp_len {n : Nat} (hn : n ≤ 96) (h : τ.1 34 = nI n) : (ttp τ).length = n := by
  unfold ttp
  rw [List.length_map, List.length_range, h, nI_clamp (by omega)]
theorem ttp_app {T k : Nat} (hT : T + k ≤ 96) (h34 : τ.1 34 = nI T) (h34' : τ'.1 34 = nI (T + k)) (eT : ∀ j, j < T → τ'.2.2.1 33 0 j = τ.2.2.1 33 0 j) : ttp τ' = ttp τ ++ (List.range k).map (fun j => (τ'.2.2.1 33 0 (T + j)).toNatClampNeg) := by
  unfold ttp
  rw [h34, h34', nI_clamp (by omega), nI_clamp (by omega), List.range_add, List.map_append, List.map_map]
  refine congrArg (fun q => q ++ _) ?_
  refine List.map_congr_left (fun j hj => ?_)
  exact congrArg Int32.toNatClampNeg (eT j (List.mem_range.mp hj))
theorem to_feed {n a b c e f : Int32} {K : Int32 → zHp → Nat → Prop} (hd : 200 ≤ d) (hB : zB g ≤ m0) (hI : tINV τ) (hK : ∀ τ', tINV τ' → tVw τ' = (o_feed (tVw τ) n a b c e f).2 → K (o_feed (tVw τ) n a b c e f).1 (tput g m0 τ' hp) nx) : zMt l g yX5_feed cX5_feed 8 (some .int) d 0 0 [.ref m0, .int n, .int a, .int b, .int c, .int e, .int f] (tput g m0 τ hp) nx (zQi g K) := by
  obtain ⟨d, rfl⟩ := Nat.exists_eq_add_of_le' (show 1 ≤ d by omega)
  apply met_X5_feed
  unfold wp_X5_feed
  unfold o_feed at hK
  have bad : (n < 1 ∨ 5 < n ∨ o_by a ∨ o_by b ∨ o_by c ∨ o_by e ∨ o_by f) → K (-2) (tput g m0 τ hp) nx := fun q => by
    have := hK τ hI
    rw [s_if_p q] at this
    exact this rfl
  refine t_in' (by omega) ?_
  refine ⟨_, fun _ _ h => h, ?_⟩
  by_cases q1 : n < 1 ∨ 5 < n
  · rw [if_pos q1]
    exact ⟨fun _ => bad (by rcases q1 with q | q <;> simp [q]), fun h => absurd rfl h⟩
  rw [if_neg q1]
  refine ⟨fun h => absurd h (by decide), fun _ => ?_⟩
  refine t_isByte (by omega) ?_
  by_cases q2 : a < 0 ∨ 255 < a
  · rw [if_pos q2]
    exact ⟨fun _ => bad (Or.inr (Or.inr (Or.inl q2))), fun h => absurd rfl h⟩
  rw [if_neg q2]
  refine ⟨fun h => absurd h (by decide), fun _ => ?_⟩
  refine t_isByte (by omega) ?_
  by_cases q3 : b < 0 ∨ 255 < b
  · rw [if_pos q3]
    exact ⟨fun _ => bad (Or.inr (Or.inr (Or.inr (Or.inl q3)))), fun h => absurd rfl h⟩
  rw [if_neg q3]
  refine ⟨fun h => absurd h (by decide), fun _ => ?_⟩
  refine t_isByte (by omega) ?_
  by_cases q4 : c < 0 ∨ 255 < c
  · rw [if_pos q4]
    exact ⟨fun _ => bad (Or.inr (Or.inr (Or.inr (Or.inr (Or.inl q4))))), fun h => absurd rfl h⟩
  rw [if_neg q4]
  refine ⟨fun h => absurd h (by decide), fun _ => ?_⟩
  refine t_isByte (by omega) ?_
  by_cases q5 : e < 0 ∨ 255 < e
  · rw [if_pos q5]
    exact ⟨fun _ => bad (Or.inr (Or.inr (Or.inr (Or.inr (Or.inr (Or.inl q5)))))), fun h => absurd rfl h⟩
  rw [if_neg q5]
  refine ⟨fun h => absurd h (by decide), fun _ => ?_⟩
  refine t_isByte (by omega) ?_
  by_cases q6 : f < 0 ∨ 255 < f
  · rw [if_pos q6]
    exact ⟨fun _ => bad (Or.inr (Or.inr (Or.inr (Or.inr (Or.inr (Or.inr q6)))))), fun h => absurd rfl h⟩
  rw [if_neg q6]
  refine ⟨fun h => absurd h (by decide), fun _ => ?_⟩
  rw [s_if_n (by
    rintro (q | q | q | q | q | q | q)
    · exact q1 (Or.inl q)
    · exact q1 (Or.inr q)
    · exact q2 q
    · exact q3 q
    · exact q4 q
    · exact q5 q
    · exact q6 q)] at hK
  obtain ⟨N, hN1, hN2, rfl⟩ : ∃ N, 1 ≤ N ∧ N ≤ 5 ∧ n = nI N := by
    have h1 : ¬ n < 1 := fun q => q1 (Or.inl q)
    have h2 : ¬ 5 < n := fun q => q1 (Or.inr q)
    rw [Int32.lt_iff_toInt_lt] at h1 h2
    have e1 : (1 : Int32).toInt = 1 := by decide
    have e5 : (5 : Int32).toInt = 5 := by decide
    rw [e1] at h1
    rw [e5] at h2
    refine ⟨n.toInt.toNat, by omega, by omega, ?_⟩
    apply Int32.toInt_inj.mp
    rw [nI_toInt (by omega)]
    omega
  have cN : (nI N).toNatClampNeg = N := nI_clamp (by omega)
  obtain ⟨T, hT, h34, hby⟩ := hI.2.2.2.1
  have hlen : (tVw τ).2.2.1.length = T := ttp_len hT h34
  rw [cN, hlen] at hK
  have hxs : ∀ k, ∃ y, y < 256 ∧ o_xs a b c e f k = nI y := by
    intro k
    unfold o_xs
    split
    · exact o_by_n q2
    · split
      · exact o_by_n q3
      · split
        · exact o_by_n q4
        · split
          · exact o_by_n q5
          · exact o_by_n q6
  simp only [tg_taped, tp_taped, h34]
  rw [nI_add]
  refine pk_le (T + N) 96 (fun hle => ?_) (fun hlt => ?_)
  · rw [if_neg (by omega)] at hK
    refine ⟨fun m k h n' => ∃ kk τ1, kk ≤ N ∧ m = N - kk ∧ k = nI kk ∧ h = tput g m0 τ1 hp ∧ nx = n' ∧ τ1.1 = τ.1 ∧ (∀ k, k ≠ 33 → τ1.2.2.1 k = τ.2.2.1 k) ∧ τ1.2.2.2 = τ.2.2.2 ∧ (∀ j, j < T → τ1.2.2.1 33 0 j = τ.2.2.1 33 0 j) ∧ ∀ j, j < kk → τ1.2.2.1 33 0 (T + j) = o_xs a b c e f j, ⟨N, 0, τ, by omega, rfl, rfl, rfl, rfl, rfl, fun _ _ => rfl, rfl, fun _ _ => rfl, fun j hj => absurd hj (by omega)⟩, ?_⟩
    rintro m _ _ _ ⟨k, τ1, hk, hm, rfl, rfl, rfl, e1, eI, eD, eT, eX⟩
    refine pk_le N k (fun hge => ?_) (fun hlt => ?_)
    · have : k = N := by omega
      subst this
      have e34 : τ1.1 34 = nI T := by rw [e1, h34]
      simp only [tg_taped, tp_taped, hB, e34, nI_add, true_implies, false_implies, implies_true, and_true, true_and, forall_eq, tq1, tq3, tq4, tq5, tq7, tq8, tq9, tqa, tqc, tqd, tqe, tqf, tqg, tqh, tqj, va_s, ne_eq, reduceCtorEq, not_false_eq_true, not_true_eq_false, if_true, if_false, Nat.reduceEqDiff]
      have hT2 : tTp (tsI τ1 34 (nI (T + k))) := by
        refine ⟨T + k, hle, tq1, fun j hj => ?_⟩
        show ∃ b, b < 256 ∧ τ1.2.2.1 33 0 j = nI b
        by_cases hj2 : j < T
        · rw [eT j hj2]
          exact hby j hj2
        · obtain ⟨i, rfl⟩ : ∃ i, j = T + i := ⟨j - T, by omega⟩
          rw [eX i (by omega)]
          exact hxs i
      obtain ⟨r1, r2⟩ := tINV_tp (τ' := tsI τ1 34 (nI (T + k))) hI (by rw [tq2 (by decide), e1]) (fun j hj => eI j (by omega)) (fun j _ => by show τ1.2.2.2 j = _; rw [eD]) hT2
      have e0 : (tVw τ).2.2.1 = ttp τ := rfl
      refine hK _ r1 (r2.trans ?_)
      refine Prod.ext rfl (Prod.ext rfl (Prod.ext ?_ rfl))
      show ttp (tsI τ1 34 (nI (T + k))) = (tVw τ).2.2.1 ++ _
      rw [e0]
      rw [ttp_app (τ' := tsI τ1 34 (nI (T + k))) hle h34 tq1 eT]
      refine congrArg (fun q => ttp τ ++ q) ?_
      refine List.map_congr_left (fun j hj => ?_)
      exact congrArg Int32.toNatClampNeg (eX j (List.mem_range.mp hj))
    · have e34 : τ1.1 34 = nI T := by rw [e1, h34]
      have hTk : T + k < 96 := by omega
      have cT : (nI (T + k)).toNatClampNeg = T + k := nI_clamp (by omega)
      have iT : vp_in (nI (T + k)) 96 := vp_in_nI hTk (by decide)
      have hB2 : ∀ n, zB g ≤ m0 + n := fun n => by omega
      simp only [tg_taped, tp_taped, tg_tape, ta_tape, tu_tape, e34, nI_add, true_implies, false_implies, implies_true, and_true, true_and, forall_eq, tq1, tq3, tq4, tq5, tq7, tq8, tq9, tqa, tqc, tqd, tqe, tqf, tqg, tqh, tqj, va_s, ne_eq, reduceCtorEq, not_false_eq_true, not_true_eq_false, if_true, if_false, Nat.reduceEqDiff]
      obtain ⟨P, hP⟩ : ∃ P : Int32 → Option Nat → Int32 → Int32 → zHp → Nat → Prop, P = fun k' r i x h n' => k' = nI k ∧ r = some (m0 + 162) ∧ i = nI (T + k) ∧ x = o_xs a b c e f k ∧ h = tput g m0 τ1 hp ∧ nx = n' := ⟨_, rfl⟩
      refine ⟨P, ?_, ?_⟩
      · intro k' r i x h n' hp'
        rw [hP] at hp'
        obtain ⟨rfl, rfl, rfl, rfl, rfl, rfl⟩ := hp'
        simp only [tg_taped, tp_taped, tg_tape, ta_tape, tu_tape, cT, iT, hB2, true_implies, false_implies, implies_true, and_true, true_and, forall_eq, tq1, tq3, tq4, tq5, tq7, tq8, tq9, tqa, tqc, tqd, tqe, tqf, tqg, tqh, tqj, va_s, ne_eq, reduceCtorEq, not_false_eq_true, not_true_eq_false, if_true, if_false, Nat.reduceEqDiff]
        refine ⟨N - (k + 1), by omega, k + 1, _, by omega, rfl, nI_1 k, rfl, e1, fun j hj => ?_, eD, fun j hj => ?_, fun j hj => ?_⟩
        · rw [tqc hj, eI j hj]
        · rw [tqa, va_o (by omega), eT j hj]
        · rw [tqa]
          by_cases ej : j = k
          · subst ej; rw [va_s]
          · rw [va_o (by omega), eX j (by omega)]
      · have key : ∀ x, x = o_xs a b c e f k → P (nI k) (some (m0 + 162)) (nI (T + k)) x (tput g m0 τ1 hp) nx := fun x hx => by rw [hP]; exact ⟨rfl, rfl, rfl, hx, rfl, rfl⟩
        refine pk_eq k 0 (fun h => key _ (by subst h; rfl)) (fun h0 => ?_)
        refine pk_eq k 1 (fun h => key _ (by subst h; rfl)) (fun h1 => ?_)
        refine pk_eq k 2 (fun h => key _ (by subst h; rfl)) (fun h2 => ?_)
        refine pk_eq k 3 (fun h => key _ (by subst h; rfl)) (fun h3 => ?_)
        refine key _ ?_
        unfold o_xs
        rw [if_neg h0, if_neg h1, if_neg h2, if_neg h3]
  · rw [if_pos (by omega)] at hK
    exact hK τ hI rfl
end UY
