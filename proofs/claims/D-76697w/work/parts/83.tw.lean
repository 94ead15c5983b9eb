set_option maxRecDepth 100000
/-! THE REFERENCE's operations: clear, kind, told, value, would -/
section TW
variable {l : Launch} {g : zG} {d m0 : Nat} {τ τ' τm τ2 : tS} {hp : zHp} {nx : Nat}
/-- a formula is another one (or none) -/
theorem tSh_fm {c n : Nat} (hS : tSh τ) (hc : c < 24)
    (hI : ∀ k i j, k < 12 → ¬ (k = 3 ∧ i = 0 ∧ j = c) → ¬ (k = 4 ∧ i = c) → ¬ (k = 1 ∧ i = 0 ∧ j = c) → τm.2.2.1 k i j = τ.2.2.1 k i j)
    (hD : ∀ k i j, k < 12 → ¬ (k = 5 ∧ i = c) → ¬ (k = 2 ∧ i = 0 ∧ j = c) → τm.2.2.2 k i j = τ.2.2.2 k i j)
    (h1 : τm.2.2.1 1 0 c = 0) (h2 : τm.2.2.2 2 0 c = 0) (hn : n ≤ 96) (hs : τm.2.2.1 3 0 c = nI n) (hmk : ∀ k, k < n → ∃ m, tok m ∧ τm.2.2.1 4 c k = nI m) (hht : n ≠ 0 → s_ht (tfm τm c) 0 = some 1) (hbf : ∀ m ∈ tfm τm c, s_B m.2)
    (hrk : ∃ rk, s_rk (s_up (tfm τ) c (tfm τm c)) (tly τ) rk) (htm : ¬ s_tm (s_up (tfm τ) c (tfm τm c)) (tly τ)) (hv : n ≠ 0 → ∀ t, t < 6 → ∀ L, tly τ t = some L → ¬ s_va L c) :
    tSh τm ∧ tst τm = (s_up (tfm τ) c (tfm τm c), tly τ, tkd τ, s_up (tow τ) c none) := by
  obtain ⟨⟨rk, hO⟩, hnb, hx⟩ := hS
  have eI : ∀ k, k < 12 → k ≠ 1 → k ≠ 3 → k ≠ 4 → τm.2.2.1 k = τ.2.2.1 k := fun k a b e f => funext fun i => funext fun j => hI k i j a (fun q => e q.1) (fun q => f q.1) (fun q => b q.1)
  have eD : ∀ k, k < 12 → k ≠ 2 → k ≠ 5 → τm.2.2.2 k = τ.2.2.2 k := fun k a b e => funext fun i => funext fun j => hD k i j a (fun q => e q.1) (fun q => b q.1)
  have eax : tax τm = tax τ := by funext a; unfold tax; rw [eI 10 (by decide) (by decide) (by decide) (by decide), eD 11 (by decide) (by decide) (by decide)]
  have ely : tly τm = tly τ := by
    funext t
    unfold tly
    rw [eI 6 (by decide) (by decide) (by decide) (by decide), eI 7 (by decide) (by decide) (by decide) (by decide), eI 8 (by decide) (by decide) (by decide) (by decide), eI 9 (by decide) (by decide) (by decide) (by decide), eax]
  have ekd : tkd τm = tkd τ := by unfold tkd; rw [eI 0 (by decide) (by decide) (by decide) (by decide)]
  have eow : tow τm = s_up (tow τ) c none := by
    funext y
    unfold tow
    by_cases e : y = c
    · subst e; rw [s_up_s, h1, if_pos rfl]
    · rw [s_up_o e, hI 1 0 y (by decide) (by omega) (by omega) (by omega), hD 2 0 y (by decide) (by omega) (by omega)]
  have efx : ∀ y, y ≠ c → tfm τm y = tfm τ y := by
    intro y e
    unfold tfm
    rw [hI 3 0 y (by decide) (by omega) (by omega) (by omega)]
    congr 1
    funext k
    unfold tmk
    rw [hI 4 y k (by decide) (by omega) (by omega) (by omega)]
    rw [show τm.2.2.2 5 y = τ.2.2.2 5 y from funext fun j => hD 5 y j (by decide) (by omega) (by omega)]
  have efm : tfm τm = s_up (tfm τ) c (tfm τm c) := by
    funext y
    by_cases e : y = c
    · subst e; rw [s_up_s]
    · rw [s_up_o e, efx y e]
  have est : tst τm = (s_up (tfm τ) c (tfm τm c), tly τ, tkd τ, s_up (tow τ) c none) := by
    unfold tst
    rw [ely, ekd, eow]
    exact congrArg (fun z => (z, tly τ, tkd τ, s_up (tow τ) c none)) efm
  have hWc : tWc τm := by
    intro y hy
    by_cases e : y = c
    · subst e; exact ⟨n, hn, hs, hmk, hht⟩
    · obtain ⟨s, a1, a2, a3, a4⟩ := hO.1 y hy
      refine ⟨s, a1, ?_, fun k hk => ?_, ?_⟩
      · rw [hI 3 0 y (by decide) (by omega) (by omega) (by omega)]; exact a2
      · rw [hI 4 y k (by decide) (by omega) (by omega) (by omega)]; exact a3 k hk
      · rw [efx y e]; exact a4
  have hmo := hWc.mo
  obtain ⟨rk0, hrk⟩ := hrk
  rw [← efm] at hrk
  rw [← ely] at hrk
  obtain ⟨rk', r1, r2⟩ := s_rk_small hrk hmo
  refine ⟨⟨⟨rk', hWc, ?_, r1, r2, ?_, ?_, ?_, ?_, ?_⟩, ?_, ?_⟩, est⟩
  · unfold tWt
    rw [eI 6 (by decide) (by decide) (by decide) (by decide), eI 7 (by decide) (by decide) (by decide) (by decide), eI 8 (by decide) (by decide) (by decide) (by decide), eI 9 (by decide) (by decide) (by decide) (by decide), eI 10 (by decide) (by decide) (by decide) (by decide)]
    exact hO.2.1
  · intro y hy m hm
    by_cases e : y = c
    · subst e; exact hbf m hm
    · rw [efx y e] at hm; exact hO.2.2.2.2.1 y hy m hm
  · rw [ely]; exact hO.2.2.2.2.2.1
  · rw [eow]
    intro y v hy
    by_cases e : y = c
    · subst e; rw [s_up_s] at hy; cases hy
    · rw [s_up_o e] at hy; exact hO.2.2.2.2.2.2.1 y v hy
  · intro y hy
    by_cases e : y = c
    · subst e; exact Or.inl h1
    · rw [hI 1 0 y (by decide) (by omega) (by omega) (by omega)]; exact hO.2.2.2.2.2.2.2.1 y hy
  · rw [eI 6 (by decide) (by decide) (by decide) (by decide)]; exact hO.2.2.2.2.2.2.2.2
  · refine ⟨fun y hy => ?_, fun a j ha hj => ?_⟩
    · by_cases e : y = c
      · subst e; rw [h2]; exact fk_B0
      · rw [hD 2 0 y (by decide) (by omega) (by omega)]; exact hnb.1 y hy
    · rw [hD 11 a j (by decide) (by omega) (by omega)]; exact hnb.2 a j ha hj
  · rw [est]
    refine ⟨hx.1, fun y hy hne => ?_, fun y hy v hv' => ?_, fun t ht L hL => ?_, htm⟩
    · by_cases e : y = c
      · subst e; exact s_up_s
      · have hne' : s_up (tfm τ) c (tfm τm c) y ≠ [] := hne
        rw [s_up_o e] at hne'
        exact (s_up_o e).trans (hx.2.1 y hy hne')
    · have hv'' : s_up (tow τ) c none y = some v := hv'
      by_cases e : y = c
      · subst e; rw [s_up_s] at hv''; cases hv''
      · rw [s_up_o e] at hv''; exact hx.2.2.1 y hy v hv''
    · have hnv : n ≠ 0 → ¬ s_va L c := fun h => hv h t ht L hL
      have hn0 : n = 0 → tfm τm c = [] := fun h => by rw [tfm_len hs hn, h]; rfl
      have hold := hx.2.2.2.1 t ht L hL
      refine ⟨?_, fun b hb => ?_⟩
      · show s_up (tfm τ) c (tfm τm c) L.2.1 = []
        by_cases e : L.2.1 = c
        · rw [e, s_up_s]
          by_cases h0 : n = 0
          · exact hn0 h0
          · exact absurd (Or.inl e.symm) (hnv h0)
        · rw [s_up_o e]; exact hold.1
      · show s_up (tfm τ) c (tfm τm c) b = []
        by_cases e : b = c
        · rw [e, s_up_s]
          by_cases h0 : n = 0
          · exact hn0 h0
          · subst e; exact absurd (Or.inr hb) (hnv h0)
        · rw [s_up_o e]; exact hold.2 b hb
/-- the rest behind a change of the sheet -/
theorem tINV_st {S' : sSt} (hI : tINV τ) (hS : tSh τm) (hst : tst τm = S') (hN : tNm τm) (h34 : τm.1 34 = τ.1 34) (h57 : τm.1 57 = τ.1 57) (hII : ∀ k, (k = 33 ∨ (58 ≤ k ∧ k ≤ 73)) → τm.2.2.1 k = τ.2.2.1 k) (hDD : ∀ k, (58 ≤ k ∧ k ≤ 73) → τm.2.2.2 k = τ.2.2.2 k) : tINV τm ∧ tVw τm = (S', (tVw τ).2) := by
  have im : tpe (tim τ) (tim τm) := ⟨fun k _ => hII _ (Or.inr (tiI_in k)), fun k _ => hDD _ (tiD_in k)⟩
  refine ⟨⟨hS, hN, ?_, ?_, ?_⟩, ?_⟩
  · rw [h57]
    rcases hI.2.2.1 with ⟨q, q1⟩ | ⟨q, q2⟩
    · exact Or.inl ⟨q, by rw [im.ow]; exact q1⟩
    · exact Or.inr ⟨q, q2.pe im⟩
  · unfold tTp
    rw [h34, hII 33 (by decide)]
    exact hI.2.2.2.1
  · unfold tRo
    rw [hII 70 (by decide), hII 71 (by decide), hII 73 (by decide), hDD 72 (by decide)]
    exact hI.2.2.2.2
  · unfold tVw ttp trw
    rw [hst, h34, h57, im.st, hII 33 (by decide), hII 70 (by decide), hII 71 (by decide), hII 73 (by decide), hDD 72 (by decide)]
theorem to_clear {x : Int32} {K : Int32 → zHp → Nat → Prop} (hd : 200 ≤ d) (hB : zB g ≤ m0) (hI : tINV τ) (hK : ∀ τ', tINV τ' → tVw τ' = (o_clear (tVw τ) x).2 → K (o_clear (tVw τ) x).1 (tput g m0 τ' hp) nx) : zMt l g yX5_clear cX5_clear 2 (some .int) d 0 0 [.ref m0, .int x] (tput g m0 τ hp) nx (zQi g K) := by
  obtain ⟨d, rfl⟩ := Nat.exists_eq_add_of_le' (show 1 ≤ d by omega)
  apply met_X5_clear
  unfold wp_X5_clear
  unfold o_clear at hK
  refine t_isCell' (by omega) ?_
  rcases s_cx_of x with hx | ⟨c, hc, rfl⟩
  · simp only [s_cx, if_pos hx] at hK ⊢
    exact ⟨fun _ => hK τ hI rfl, fun h => absurd (by trivial) h⟩
  · simp only [s_cx_s hc] at hK
    rw [if_neg (s_cx_n hc)]
    refine ⟨fun h => absurd h (by decide), fun _ => ?_⟩
    have cc : (nI c).toNatClampNeg = c := nI_clamp (by omega)
    have ic : vp_in (nI c) 24 := vp_in_nI hc (by decide)
    have hB2 : ∀ n, zB g ≤ m0 + n := fun n => by omega
    have n0 : vp_nar .boolean 0 = 0 := by decide
    simp only [tg_sizes, ta_sizes, tu_sizes, cc, ic, hB2, true_implies, false_implies, implies_true, and_true, true_and, forall_eq, tw_zo]
    refine t_tellNames (s := 0) (by omega) hB hc (by decide) (by rw [tqa, va_s]; rfl) (fun k hk => absurd hk (by omega)) fun τ1 f1 hn1 => ?_
    simp only [tg_given, ta_given, tu_given, tg_numbers, ta_numbers, tu_numbers, cc, ic, hB2, n0, true_implies, false_implies, implies_true, and_true, true_and, forall_eq, tq1, tq3, tq4, tq5, tq7, tq8, tq9, tqa, tqc, tqd, tqe, tqf, tqg, tqh, tqj, va_s, ne_eq, reduceCtorEq, not_false_eq_true, not_true_eq_false, if_true, if_false, Nat.reduceEqDiff]
    obtain ⟨τm, hτm⟩ : ∃ τm, τm = taD (taI τ1 1 0 (va_up (τ1.2.2.1 1 0) c 0)) 2 0 (va_up (τ1.2.2.2 2 0) c FP.dconst0) := ⟨_, rfl⟩
    rw [← hτm]
    have hIm : ∀ k i j, ¬ (k = 3 ∧ i = 0 ∧ j = c) → ¬ (k = 1 ∧ i = 0 ∧ j = c) → ¬ (k = 12 ∧ i = 0 ∧ j = c) → ¬ (k = 13 ∧ i = c) → τm.2.2.1 k i j = τ.2.2.1 k i j := by
      intro k i j a1 a2 a3 a4
      have s1 : τm.2.2.1 k i j = τ1.2.2.1 k i j := by
        rw [hτm, tqg]
        by_cases hk : k = 1
        · subst hk
          by_cases hi : i = 0
          · subst hi; rw [tqa, va_o (by omega)]
          · rw [tqb hi]
        · rw [tqc hk]
      rw [s1, f1.2.2.2 k i j a3 a4]
      by_cases hk : k = 3
      · subst hk
        by_cases hi : i = 0
        · subst hi; rw [tqa, va_o (by omega)]
        · rw [tqb hi]
      · rw [tqc hk]
    have hDm : ∀ k i j, ¬ (k = 2 ∧ i = 0 ∧ j = c) → τm.2.2.2 k i j = τ.2.2.2 k i j := by
      intro k i j a1
      rw [hτm]
      have e2 : τ1.2.2.2 = τ.2.2.2 := f1.2.2.1
      by_cases hk : k = 2
      · subst hk
        by_cases hi : i = 0
        · subst hi; rw [tqh, va_o (by omega), e2]
        · rw [tqi hi, tqd, e2]
      · rw [tqj hk, tqd, e2]
    have s3 : τm.2.2.1 3 0 c = nI 0 := by
      rw [hτm, tqg, tqc (by decide), f1.k 3 (by decide) (by decide), tqa, va_s]
      rfl
    have ec : tfm τm c = [] := by rw [tfm_len s3 (by decide)]; rfl
    obtain ⟨⟨rk, hO⟩, hnb, hx⟩ := hI.1
    obtain ⟨q1, q2⟩ := tSh_fm (n := 0) hI.1 hc (fun k i j hk a b e => hIm k i j a e (by omega) (by omega)) (fun k i j hk a b => hDm k i j b) (by rw [hτm, tqg, tqa, va_s]) (by rw [hτm, tqh, va_s]; rfl) (by decide) s3 (fun k hk => absurd hk (by omega)) (fun h => absurd rfl h) (by rw [ec]; intro m hm; cases hm)
      ⟨rk, s_rk_less hO.2.2.1 (fun y => by
        by_cases e : y = c
        · subst e; rw [s_up_s, ec]; exact Or.inr rfl
        · rw [s_up_o e]; exact Or.inl rfl) (fun _ => Or.inl rfl)⟩
      (s_tm_less (fun y => by
        by_cases e : y = c
        · subst e; rw [s_up_s, ec]; exact Or.inr rfl
        · rw [s_up_o e]; exact Or.inl rfl) (fun _ => Or.inl rfl) hx.2.2.2.2) (fun h => absurd rfl h)
    rw [ec] at q2
    have efm : tfm τm = s_up (tfm τ) c [] := congrArg Prod.fst q2
    have hN : tNm τm := by
      intro y hy
      have e12 : ∀ i j, τm.2.2.1 12 i j = τ1.2.2.1 12 i j := fun i j => by rw [hτm, tqg, tqc (by decide)]
      have e13 : ∀ i j, τm.2.2.1 13 i j = τ1.2.2.1 13 i j := fun i j => by rw [hτm, tqg, tqc (by decide)]
      by_cases e : y = c
      · subst e
        obtain ⟨w1, w2⟩ := hn1
        have ef1 : tfm τ1 y = [] := by
          rw [f1.fm, tfm_len (n := 0) (by rw [tqa, va_s]; rfl) (by decide)]
          rfl
        rw [ef1] at w1 w2
        refine ⟨fun k => ?_, fun t ht => ?_⟩
        · rw [e12, ec]; exact w1 k
        · rw [e13, ec]; exact w2 t ht
      · obtain ⟨w1, w2⟩ := hI.2.1 y hy
        refine ⟨fun k => ?_, fun t ht => ?_⟩
        · rw [hIm 12 0 y (by omega) (by omega) (by omega) (by omega), efm, s_up_o e]; exact w1 k
        · rw [hIm 13 y t (by omega) (by omega) (by omega) (by omega), efm, s_up_o e]; exact w2 t ht
    have e1 : τm.1 = τ.1 := by rw [hτm]; exact f1.1
    obtain ⟨r1, r2⟩ := tINV_st hI q1 q2 hN (by rw [e1]) (by rw [e1]) (fun k hk => funext fun i => funext fun j => hIm k i j (by omega) (by omega) (by omega) (by omega)) (fun k hk => funext fun i => funext fun j => hDm k i j (by omega))
    exact hK τm r1 r2
theorem to_kind {x k : Int32} {K : Int32 → zHp → Nat → Prop} (hd : 200 ≤ d) (hB : zB g ≤ m0) (hI : tINV τ) (hK : ∀ τ', tINV τ' → tVw τ' = (o_kind (tVw τ) x k).2 → K (o_kind (tVw τ) x k).1 (tput g m0 τ' hp) nx) : zMt l g yX5_kind cX5_kind 4 (some .int) d 0 0 [.ref m0, .int x, .int k] (tput g m0 τ hp) nx (zQi g K) := by
  obtain ⟨d, rfl⟩ := Nat.exists_eq_add_of_le' (show 1 ≤ d by omega)
  apply met_X5_kind
  unfold wp_X5_kind
  unfold o_kind at hK
  refine t_isCell' (by omega) ?_
  refine ⟨_, fun _ _ h => h, ?_⟩
  rcases s_cx_of x with hx | ⟨c, hc, rfl⟩
  · simp only [s_cx, if_pos hx] at hK ⊢
    exact ⟨fun _ => hK τ hI rfl, fun h => absurd (by trivial) h⟩
  · simp only [s_cx_s hc] at hK
    rw [if_neg (s_cx_n hc)]
    refine ⟨fun h => absurd h (by decide), fun _ => ?_⟩
    refine t_in' (by omega) ?_
    rcases s_x_of (x := k) (M := 5) (n := 5) (by decide) with hv | ⟨kk, hkk, rfl⟩
    · rw [if_pos hv] at hK ⊢
      exact ⟨fun _ => hK τ hI rfl, fun h => absurd (by trivial) h⟩
    · have hv := s_nx (n := 5) (M := 5) (by decide) hkk (by decide)
      rw [if_neg hv] at hK ⊢
      refine ⟨fun h => absurd h (by decide), fun _ => ?_⟩
      have cc : (nI c).toNatClampNeg = c := nI_clamp (by omega)
      have ic : vp_in (nI c) 24 := vp_in_nI hc (by decide)
      have hB2 : ∀ n, zB g ≤ m0 + n := fun n => by omega
      simp only [tg_kinds, ta_kinds, tu_kinds, cc, ic, hB2, true_implies, false_implies, implies_true, and_true, true_and, forall_eq, tw_zo]
      refine t_isInput' (by omega) hc ?_
      obtain ⟨⟨rk, hO⟩, hnb, hx⟩ := hI.1
      -- the new state, with any number that is right
      have fin : ∀ (w : Nat → UInt64), (∀ y, y ≠ c → w y = τ.2.2.2 2 0 y) → s_B (w c) → (tow τ c = none ∨ w c = s_kp (nI kk) (τ.2.2.2 2 0 c)) → K (τ.2.2.1 0 0 c) (tput g m0 (taD (taI τ 0 0 (va_up (τ.2.2.1 0 0) c (nI kk))) 2 0 w) hp) nx := by
        intro w hw hwB hwc
        obtain ⟨τm, hτm⟩ : ∃ τm, τm = taD (taI τ 0 0 (va_up (τ.2.2.1 0 0) c (nI kk))) 2 0 w := ⟨_, rfl⟩
        rw [← hτm]
        have eI : ∀ k, k ≠ 0 → τm.2.2.1 k = τ.2.2.1 k := fun k hk => by rw [hτm, tqg, tqc hk]
        have eD : ∀ k, k ≠ 2 → τm.2.2.2 k = τ.2.2.2 k := fun k hk => by rw [hτm, tqj hk, tqd]
        have efm : tfm τm = tfm τ := by
          funext y
          unfold tfm
          rw [eI 3 (by decide)]
          congr 1
          funext k
          unfold tmk
          rw [eI 4 (by decide), eD 5 (by decide)]
        have eax : tax τm = tax τ := by funext a; unfold tax; rw [eI 10 (by decide), eD 11 (by decide)]
        have ely : tly τm = tly τ := by
          funext t
          unfold tly
          rw [eI 6 (by decide), eI 7 (by decide), eI 8 (by decide), eI 9 (by decide), eax]
        have ekd : tkd τm = s_up (tkd τ) c (nI kk) := by
          funext y
          unfold tkd
          rw [hτm, tqg, tqa]
          by_cases e : y = c
          · subst e; rw [va_s, s_up_s]
          · rw [va_o e, s_up_o e]
        have eow : tow τm = s_up (tow τ) c ((tow τ c).map (s_kp (nI kk))) := by
          funext y
          by_cases e : y = c
          · subst e
            rw [s_up_s]
            unfold tow
            rw [eI 1 (by decide), hτm, tqh]
            by_cases hg : τ.2.2.1 1 0 y = 0
            · rw [if_pos hg, if_pos hg]; rfl
            · rw [if_neg hg, if_neg hg]
              have : tow τ y ≠ none := by unfold tow; rw [if_neg hg]; exact fun h => by cases h
              rw [hwc.resolve_left this]
              rfl
          · rw [s_up_o e]
            unfold tow
            rw [eI 1 (by decide), hτm, tqh, hw y e]
        have est : tst τm = (tfm τ, tly τ, s_up (tkd τ) c (nI kk), s_up (tow τ) c ((tow τ c).map (s_kp (nI kk)))) := by unfold tst; rw [efm, ely, ekd, eow]
        have hsh : tSh τm := by
          refine ⟨⟨rk, ?_, ?_, by rw [efm, ely]; exact hO.2.2.1, hO.2.2.2.1, by rw [efm]; exact hO.2.2.2.2.1, by rw [ely]; exact hO.2.2.2.2.2.1, ?_, ?_⟩, ?_, ?_⟩
          · unfold tWc
            rw [efm, eI 3 (by decide), eI 4 (by decide)]
            exact hO.1
          · unfold tWt
            rw [eI 6 (by decide), eI 7 (by decide), eI 8 (by decide), eI 9 (by decide), eI 10 (by decide)]
            exact hO.2.1
          · rw [eow]
            intro y v hy
            by_cases e : y = c
            · subst e
              rw [s_up_s] at hy
              cases ho : tow τ y with
              | none => rw [ho] at hy; cases hy
              | some u => rw [ho] at hy; cases hy; exact fb_kp (hO.2.2.2.2.2.2.1 y u ho)
            · rw [s_up_o e] at hy; exact hO.2.2.2.2.2.2.1 y v hy
          · unfold tBo
            rw [eI 1 (by decide), eI 6 (by decide)]
            exact hO.2.2.2.2.2.2.2
          · refine ⟨fun y hy => ?_, fun a j ha hj => by rw [eD 11 (by decide)]; exact hnb.2 a j ha hj⟩
            rw [hτm, tqh]
            by_cases e : y = c
            · subst e; exact hwB
            · rw [hw y e]; exact hnb.1 y hy
          · rw [est]
            refine ⟨fun y hy => ?_, fun y hy hne => ?_, fun y hy v hv => ?_, hx.2.2.2.1, hx.2.2.2.2⟩
            · by_cases e : y = c
              · subst e; exact ⟨kk, by omega, s_up_s⟩
              · obtain ⟨j, j1, j2⟩ := hx.1 y hy
                exact ⟨j, j1, (s_up_o e).trans j2⟩
            · have hne' := hx.2.1 y hy hne
              have hne'' : tow τ y = none := hne'
              show s_up (tow τ) c _ y = none
              by_cases e : y = c
              · subst e; rw [s_up_s, hne'']; rfl
              · rw [s_up_o e]; exact hne''
            · have hv' : s_up (tow τ) c ((tow τ c).map (s_kp (nI kk))) y = some v := hv
              show s_kp (s_up (tkd τ) c (nI kk) y) v = v
              by_cases e : y = c
              · subst e
                rw [s_up_s] at hv' ⊢
                cases ho : tow τ y with
                | none => rw [ho] at hv'; cases hv'
                | some u => rw [ho] at hv'; cases hv'; exact fb_kp_kp (hO.2.2.2.2.2.2.1 y u ho)
              · rw [s_up_o e] at hv' ⊢; exact hx.2.2.1 y hy v hv'
        have hN : tNm τm := by
          intro y hy
          obtain ⟨w1, w2⟩ := hI.2.1 y hy
          unfold tNc
          rw [eI 12 (by decide), eI 13 (by decide), efm]
          exact ⟨w1, w2⟩
        have e1 : τm.1 = τ.1 := by rw [hτm]; rfl
        obtain ⟨r1, r2⟩ := tINV_st hI hsh est hN (by rw [e1]) (by rw [e1]) (fun k hk => eI k (by omega)) (fun k hk => eD k (by omega))
        exact hK τm r1 r2
      simp only [tqc (show (3 : Nat) ≠ 0 by decide)]
      refine ⟨_, fun _ _ _ h => h, ?_⟩
      by_cases h3 : τ.2.2.1 3 0 c = 0
      · rw [if_pos h3]
        refine ⟨fun h => absurd h (by decide), fun _ => ?_⟩
        simp only [tg_numbers, ta_numbers, tu_numbers, cc, ic, true_implies, false_implies, implies_true, and_true, true_and, forall_eq, tq1, tq3, tq4, tq5, tq7, tq8, tq9, tqa, tqc, tqd, tqe, tqf, tqg, tqh, tqj, va_s, ne_eq, reduceCtorEq, not_false_eq_true, not_true_eq_false, if_true, if_false, Nat.reduceEqDiff]
        refine t_kept (by omega) (hnb.1 c hc) ?_
        simp only [tg_numbers, ta_numbers, tu_numbers, cc, ic, hB2, true_implies, false_implies, implies_true, and_true, true_and, forall_eq, tq1, tq3, tq4, tq5, tq7, tq8, tq9, tqa, tqc, tqd, tqe, tqf, tqg, tqh, tqj, va_s, ne_eq, reduceCtorEq, not_false_eq_true, not_true_eq_false, if_true, if_false, Nat.reduceEqDiff]
        exact fin _ (fun y e => va_o e) (by rw [va_s]; exact fb_kp (hnb.1 c hc)) (Or.inr va_s)
      · rw [if_neg h3]
        refine ⟨fun _ => ?_, fun h => absurd rfl h⟩
        have hn : tow τ c = none := hx.2.1 c hc (fun q => h3 ((hI.1.fmx hc).mpr q))
        have := fin (τ.2.2.2 2 0) (fun _ _ => rfl) (hnb.1 c hc) (Or.inl hn)
        have eq : taD (taI τ 0 0 (va_up (τ.2.2.1 0 0) c (nI kk))) 2 0 (τ.2.2.2 2 0) = taI τ 0 0 (va_up (τ.2.2.1 0 0) c (nI kk)) := by
          refine tS_ext (fun _ => rfl) (fun _ => rfl) (fun _ _ _ => rfl) (fun k i j => ?_)
          by_cases hk : k = 2
          · subst hk
            by_cases hi : i = 0
            · subst hi; rw [tqh, tqd]
            · rw [tqi hi]
          · rw [tqj hk]
        rw [eq] at this
        exact this
end TW
