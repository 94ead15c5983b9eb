set_option maxRecDepth 100000
/-! THE REFERENCE's operations: put, copy -/
section UF
variable {l : Launch} {g : zG} {d m0 : Nat} {τ τ' τm τ2 : tS} {hp : zHp} {nx : Nat}
/-- what a row of a sort holds of a number that is put -/
def s_pv (s : Nat) (v : Int32) : UInt64 := if s = 0 then FP.i2d v.toInt8.toInt32 else if s = 1 then FP.i2d v else if s = 2 then FP.f2d (FP.d2f (o_8 v)) else o_8 v
theorem s_pv_B {s : Nat} {v : Int32} : s_B (s_pv s v) := by
  unfold s_pv
  split
  · exact fb_i2d
  · split
    · exact fb_i2d
    · split
      · exact fb_f2d (fb_d2f fb_8)
      · exact fb_8
noncomputable def o_put (A : sV) (x i v : Int32) : Int32 × sV := if o_ino A x i ≠ 0 then (o_ino A x i, A) else match A.2.2.2 x.toNatClampNeg with
  | none => (0, A)
  | some q => (1, v_rw A (s_up A.2.2.2 x.toNatClampNeg (some (q.1, q.2.set i.toNatClampNeg (some (s_pv q.1 v))))))
theorem to_put {x i v : Int32} {K : Int32 → zHp → Nat → Prop} (hd : 200 ≤ d) (hB : zB g ≤ m0) (hI : tINV τ) (hK : ∀ τ', tINV τ' → tVw τ' = (o_put (tVw τ) x i v).2 → K (o_put (tVw τ) x i v).1 (tput g m0 τ' hp) nx) : zMt l g yX5_put cX5_put 5 (some .int) d 0 0 [.ref m0, .int x, .int i, .int v] (tput g m0 τ hp) nx (zQi g K) := by
  obtain ⟨d, rfl⟩ := Nat.exists_eq_add_of_le' (show 1 ≤ d by omega)
  apply met_X5_put
  unfold wp_X5_put
  unfold o_put at hK
  rw [tw_zo]
  refine t_itemRefusal (by omega) hI ?_
  refine ⟨fun h => ?_, fun h => ?_⟩
  · rw [if_neg (fun q => q h)] at hK
    have h' := h
    obtain ⟨r, k, s, n, hr, hs, hn, hk, rfl, rfl, h70, h71, h73, h72, h3⟩ := o_ino_0 hI h
    have el : (tVw τ).2.2.2 r = trw τ r := rfl
    have cr : (nI r).toNatClampNeg = r := nI_clamp (by omega)
    have ir : vp_in (nI r) 4 := vp_in_nI hr (by decide)
    have ck : (nI k).toNatClampNeg = k := nI_clamp (by omega)
    have ik : vp_in (nI k) 64 := vp_in_nI (by omega) (by decide)
    have hB3 : ∀ a b n, zB g ≤ m0 + a + b + n := fun a b n => by omega
    have n0 : vp_nar .boolean 0 = 0 := by decide
    rw [cr, ck, el, trw_some hs hn h70 h71] at hK
    simp only at hK
    simp only [tg_items, ta_items, tg_rows, ta_rows, tu_rows, cr, ir, h70, true_implies, false_implies, implies_true, and_true, true_and, forall_eq]
    refine ⟨fun _ ra a w h' n' => ra = some (m0 + 245 + 1 + r) ∧ a = nI k ∧ w = s_pv s v ∧ h' = tput g m0 τ hp ∧ nx = n', ?_, ?_⟩
    · rintro _ _ _ _ _ _ ⟨rfl, rfl, rfl, rfl, rfl⟩
      simp only [tg_isFailed, ta_isFailed, cr, ir, tb_items hr, tv_items hr, tb_isFailed hr, tv_isFailed hr, ck, ik, hB3, n0, true_implies, false_implies, implies_true, and_true, true_and, forall_eq, tq1, tq3, tq4, tq5, tq7, tq8, tq9, tqa, tqc, tqd, tqe, tqf, tqg, tqh, tqj, va_s, ne_eq, reduceCtorEq, not_false_eq_true, not_true_eq_false, if_true, if_false, Nat.reduceEqDiff]
      obtain ⟨τm, hτm⟩ : ∃ τm, τm = taI (taD τ 72 r (va_up (τ.2.2.2 72 r) k (s_pv s v))) 73 r (va_up (τ.2.2.1 73 r) k 0) := ⟨_, rfl⟩
      rw [← hτm]
      have eI : ∀ k' i j, ¬ (k' = 73 ∧ i = r) → τm.2.2.1 k' i j = τ.2.2.1 k' i j := by
        intro k' i j h
        rw [hτm]
        by_cases hk : k' = 73
        · subst hk; rw [tqb (by omega)]; rfl
        · rw [tqc hk]; rfl
      have eD : ∀ k' i j, ¬ (k' = 72 ∧ i = r) → τm.2.2.2 k' i j = τ.2.2.2 k' i j := by
        intro k' i j h
        rw [hτm, tqd]
        by_cases hk : k' = 72
        · subst hk; rw [tqi (by omega)]
        · rw [tqj hk]
      have v73 : ∀ j, τm.2.2.1 73 r j = va_up (τ.2.2.1 73 r) k 0 j := fun j => by rw [hτm, tqa]
      have v72 : ∀ j, τm.2.2.2 72 r j = va_up (τ.2.2.2 72 r) k (s_pv s v) j := fun j => by rw [hτm, tqd, tqh]
      have e70 : τm.2.2.1 70 0 r = nI s := by rw [eI 70 0 r (by omega)]; exact h70
      have e71 : τm.2.2.1 71 0 r = nI n := by rw [eI 71 0 r (by omega)]; exact h71
      have hrow : tR1 τm r := by
        refine Or.inr ⟨s, n, hs, hn, e70, e71, fun j hj => ?_, fun j hj => ?_, fun hs3 j hj => ?_⟩
        · rw [v73]
          by_cases e : j = k
          · rw [e, va_s]; exact Or.inl rfl
          · rw [va_o e]; exact h73 j hj
        · rw [v72]
          by_cases e : j = k
          · rw [e, va_s]; exact s_pv_B
          · rw [va_o e]; exact h72 j hj
        · rw [v73]
          by_cases e : j = k
          · rw [e, va_s]
          · rw [va_o e]; exact h3 hs3 j hj
      obtain ⟨r1, r2⟩ := tINV_rw (r := r) hI (fun k i j _ a1 a2 a3 => eI k i j a3) (fun k i j _ a1 => eD k i j a1) (by rw [hτm]; rfl) (by rw [hτm]; rfl) hrow
      refine hK τm r1 ?_
      rw [r2, trw_some hs hn e70 e71]
      congr 3
      congr 1
      apply List.ext_getElem?
      intro j
      by_cases hj : j < n
      · rw [List.getElem?_map, List.getElem?_range hj, List.getElem?_set]
        by_cases e : k = j
        · subst e
          rw [if_pos rfl]
          simp only [List.length_map, List.length_range, hj, if_true, Option.map_some, v73, v72, va_s]
        · rw [if_neg e, List.getElem?_map, List.getElem?_range hj]
          simp only [Option.map_some, v73, v72, va_o (Ne.symm e)]
      · rw [List.getElem?_eq_none (by simp; omega), List.getElem?_eq_none (by simp; omega)]
    · have s0 : nI s = 0 ↔ s = 0 := nI_eq (b := 0) (by omega) (by decide)
      have s1 : nI s = 1 ↔ s = 1 := nI_eq (b := 1) (by omega) (by decide)
      have s2 : nI s = 2 ↔ s = 2 := nI_eq (b := 2) (by omega) (by decide)
      refine ⟨fun q => ⟨rfl, rfl, ?_, rfl, rfl⟩, fun q => ⟨fun q1 => ⟨rfl, rfl, ?_, rfl, rfl⟩, fun q1 => ⟨fun q2 => ⟨fb_nn fb_8, fb_nn32 (fb_d2f fb_8), fb_nn (fb_f2d (fb_d2f fb_8)), rfl, rfl, ?_, rfl, rfl⟩, fun q2 => ⟨fb_nn fb_8, rfl, rfl, ?_, rfl, rfl⟩⟩⟩⟩
      · unfold s_pv; rw [if_pos (s0.mp q)]
      · unfold s_pv; rw [if_neg (fun z => q (s0.mpr z)), if_pos (s1.mp q1)]
      · unfold s_pv; rw [if_neg (fun z => q (s0.mpr z)), if_neg (fun z => q1 (s1.mpr z)), if_pos (s2.mp q2)]; rfl
      · unfold s_pv; rw [if_neg (fun z => q (s0.mpr z)), if_neg (fun z => q1 (s1.mpr z)), if_neg (fun z => q2 (s2.mpr z))]; rfl
  · rw [if_pos h] at hK
    exact hK τ hI rfl
def s_cp {α : Type} (a b : List α) (j i n : Nat) (z : α) : List α := (List.range a.length).map fun k => if j ≤ k ∧ k < j + n then b.getD (i + (k - j)) z else a.getD k z
def o_copy (A : sV) (x i y j n : Int32) : Int32 × sV := match s_rx x with
  | none => (-2, A)
  | some r => match s_rx y with
    | none => (-2, A)
    | some u => match A.2.2.2 r with
      | none => (-11, A)
      | some p => match A.2.2.2 u with
        | none => (-11, A)
        | some q => if p.1 ≠ q.1 then (-13, A) else if n < 0 ∨ i < 0 ∨ j < 0 ∨ nI p.2.length - n < i ∨ nI q.2.length - n < j then (-12, A) else (n, v_rw A (s_up A.2.2.2 u (some (q.1, s_cp q.2 p.2 j.toNatClampNeg i.toNatClampNeg n.toNatClampNeg none))))
theorem c_sub {a : Nat} {n : Int32} (hn : ¬ n < 0) (ha : a ≤ 64) : (nI a - n).toInt = (a : Int) - n.toInt := by
  rw [Int32.lt_iff_toInt_lt] at hn
  have e0 : (0 : Int32).toInt = 0 := by decide
  have h1 := n.toInt_lt
  rw [Int32.toInt_sub, nI_toInt (by omega)]
  exact Int.bmod_eq_of_le (by omega) (by omega)
theorem c_in {a : Nat} {i n : Int32} (hn : ¬ n < 0) (hi : ¬ i < 0) (ha : a ≤ 64) (h : ¬ nI a - n < i) : ∃ i' n', i = nI i' ∧ n = nI n' ∧ i' + n' ≤ a := by
  obtain ⟨i', hi', rfl⟩ := nI_of hi
  obtain ⟨n', hn', rfl⟩ := nI_of hn
  rw [Int32.lt_iff_toInt_lt, c_sub hn ha, nI_toInt hi', nI_toInt hn'] at h
  exact ⟨i', n', rfl, rfl, by omega⟩
theorem to_copy {x i y j n : Int32} {K : Int32 → zHp → Nat → Prop} (hd : 200 ≤ d) (hB : zB g ≤ m0) (hI : tINV τ) (hK : ∀ τ', tINV τ' → tVw τ' = (o_copy (tVw τ) x i y j n).2 → K (o_copy (tVw τ) x i y j n).1 (tput g m0 τ' hp) nx) : zMt l g yX5_copy cX5_copy 6 (some .int) d 0 0 [.ref m0, .int x, .int i, .int y, .int j, .int n] (tput g m0 τ hp) nx (zQi g K) := by
  obtain ⟨d, rfl⟩ := Nat.exists_eq_add_of_le' (show 1 ≤ d by omega)
  apply met_X5_copy
  unfold wp_X5_copy
  unfold o_copy at hK
  refine t_isRow' (by omega) ?_
  refine ⟨_, fun _ _ h => h, ?_⟩
  rcases s_rx_of x with hx | ⟨r, hr, rfl⟩
  · simp only [s_rx, if_pos hx] at hK ⊢
    exact ⟨fun _ => hK τ hI rfl, fun h => absurd (by trivial) h⟩
  · simp only [s_rx_s hr] at hK
    rw [if_neg (s_rx_n hr)]
    refine ⟨fun h => absurd h (by decide), fun _ => ?_⟩
    refine t_isRow' (by omega) ?_
    rcases s_rx_of y with hy | ⟨u, hu, rfl⟩
    · simp only [s_rx, if_pos hy] at hK ⊢
      exact ⟨fun _ => hK τ hI rfl, fun h => absurd (by trivial) h⟩
    · simp only [s_rx_s hu] at hK
      rw [if_neg (s_rx_n hu)]
      refine ⟨fun h => absurd h (by decide), fun _ => ?_⟩
      have el : ∀ r, (tVw τ).2.2.2 r = trw τ r := fun _ => rfl
      rw [el r, el u] at hK
      have cr : (nI r).toNatClampNeg = r := nI_clamp (by omega)
      have ir : vp_in (nI r) 4 := vp_in_nI hr (by decide)
      have cu : (nI u).toNatClampNeg = u := nI_clamp (by omega)
      have iu : vp_in (nI u) 4 := vp_in_nI hu (by decide)
      simp only [tg_rows, ta_rows, tu_rows, cr, ir, cu, iu, true_implies, false_implies, implies_true, and_true, true_and, forall_eq]
      refine ⟨_, fun _ _ h => h, ?_⟩
      rcases tRo_of hI hr with h70 | ⟨s, m, hs, hm, h70, h71, h73, h72, h3⟩
      · rw [trw_none h70] at hK
        refine ⟨fun _ => hK τ hI rfl, fun h => absurd (by rw [h70]; decide) h⟩
      · rw [trw_some hs hm h70 h71] at hK
        simp only at hK
        refine ⟨fun h => absurd h (by rw [h70]; exact nI_pos (by omega)), fun _ => ?_⟩
        rcases tRo_of hI hu with g70 | ⟨s', m', hs', hm', g70, g71, g73, g72, g3⟩
        · rw [trw_none g70] at hK
          refine ⟨fun h => absurd h (by rw [g70]; decide), fun _ => hK τ hI rfl⟩
        · rw [trw_some hs' hm' g70 g71] at hK
          simp only [List.length_map, List.length_range] at hK
          refine ⟨fun _ => ?_, fun h => absurd (by rw [g70]; exact nI_pos' (by omega)) h⟩
          rw [h70, g70]
          refine pk_eq s s' (fun es => ?_) (fun es => ?_)
          · rw [if_neg (fun q => q es)] at hK
            have le_lt : ∀ a b : Int32, a ≤ b ↔ ¬ b < a := fun a b => by rw [Int32.le_iff_toInt_le, Int32.lt_iff_toInt_lt]; omega
            have no : (n < 0 ∨ i < 0 ∨ j < 0 ∨ nI m - n < i ∨ nI m' - n < j) → K (-12) (tput g m0 τ hp) nx := fun h => by
              have := hK
              rw [if_pos h] at this
              exact this τ hI rfl
            refine ⟨_, fun _ _ h => h, ?_⟩
            refine ⟨fun q => no (Or.inl q), fun q => ⟨fun q1 => no (Or.inr (Or.inl q1)), fun q1 => ⟨fun q2 => no (Or.inr (Or.inr (Or.inl q2))), fun q2 => ?_⟩⟩⟩
            simp only [tg_lengths, ta_lengths, tu_lengths, cr, ir, cu, iu, h71, g71, true_implies, false_implies, implies_true, and_true, true_and, forall_eq]
            refine ⟨fun q3 => no (Or.inr (Or.inr (Or.inr (Or.inl q3)))), fun q3 => ⟨fun q4 => ?_, fun q4 => no (Or.inr (Or.inr (Or.inr (Or.inr (Classical.not_not.mp fun z => q4 ((le_lt _ _).mpr z))))))⟩⟩
            have q4' := (le_lt _ _).mp q4
            rw [if_neg (fun z => z.elim q fun z => z.elim q1 fun z => z.elim q2 fun z => z.elim q3 q4')] at hK
            obtain ⟨i', n', rfl, rfl, hin⟩ := c_in q q1 hm q3
            obtain ⟨j', n'', rfl, en, hjn⟩ := c_in q q2 hm' q4'
            have : n' = n'' := (nI_eq (by omega) (by omega)).mp en
            subst this
            have ci : (nI i').toNatClampNeg = i' := nI_clamp (by omega)
            have cj : (nI j').toNatClampNeg = j' := nI_clamp (by omega)
            have cn : (nI n').toNatClampNeg = n' := nI_clamp (by omega)
            have c0 : (0 : Int32).toNatClampNeg = 0 := by decide
            rw [ci, cj, cn] at hK
            have hB2 : ∀ n, zB g ≤ m0 + n := fun n => by omega
            have hB3 : ∀ a b n, zB g ≤ m0 + a + b + n := fun a b n => by omega
            have z0 : ¬ (0 : Int32) < 0 := by decide
            have l1 : i' + n' ≤ 64 := by omega
            have l2 : 0 + n' ≤ 64 := by omega
            have l3 : j' + n' ≤ 64 := by omega
            have fd : ∀ v : UInt64, fits .double (.double v) = true := fun v => rfl
            simp only [tg_items, ta_items, tg_passed, ta_passed, tu_passed, cr, ir, tb_items hr, tv_items hr, ci, cn, c0, q, q1, q2, z0, l1, l2, fd, hB2, hB3, not_false_eq_true, implies_true, true_implies, false_implies, implies_true, and_true, true_and, forall_eq, tq1, tq3, tq4, tq5, tq7, tq8, tq9, tqa, tqc, tqd, tqe, tqf, tqg, tqh, tqj, va_s, ne_eq, reduceCtorEq, not_false_eq_true, not_true_eq_false, if_true, if_false, Nat.reduceEqDiff]
            simp only [tg_isFailed, ta_isFailed, tg_passedFailed, ta_passedFailed, tu_passedFailed, cr, ir, tb_isFailed hr, tv_isFailed hr, ci, cn, c0, q, q1, q2, z0, l1, l2, hB2, hB3, not_false_eq_true, true_implies, false_implies, implies_true, and_true, true_and, forall_eq, tq1, tq3, tq4, tq5, tq7, tq8, tq9, tqa, tqc, tqd, tqe, tqf, tqg, tqh, tqj, va_s, ne_eq, reduceCtorEq, not_false_eq_true, not_true_eq_false, if_true, if_false, Nat.reduceEqDiff]
            refine ⟨fun k hk => z_fb (h73 _ (by omega)), ?_⟩
            simp only [tg_items, ta_items, tg_passed, ta_passed, tu_passed, cu, iu, tb_items hu, tv_items hu, cj, cn, c0, q, q1, q2, z0, l2, l3, fd, hB2, hB3, not_false_eq_true, implies_true, true_implies, false_implies, implies_true, and_true, true_and, forall_eq, tq1, tq3, tq4, tq5, tq7, tq8, tq9, tqa, tqc, tqd, tqe, tqf, tqg, tqh, tqj, va_s, ne_eq, reduceCtorEq, not_false_eq_true, not_true_eq_false, if_true, if_false, Nat.reduceEqDiff]
            simp only [tg_isFailed, ta_isFailed, tg_passedFailed, ta_passedFailed, tu_passedFailed, cu, iu, tb_isFailed hu, tv_isFailed hu, cj, cn, c0, q, q1, q2, z0, l2, l3, hB2, hB3, not_false_eq_true, true_implies, false_implies, implies_true, and_true, true_and, forall_eq, tq1, tq3, tq4, tq5, tq7, tq8, tq9, tqa, tqc, tqd, tqe, tqf, tqg, tqh, tqj, va_s, ne_eq, reduceCtorEq, not_false_eq_true, not_true_eq_false, if_true, if_false, Nat.reduceEqDiff]
            refine ⟨fun k hk => z_fb (by rw [pk_cpy_in (by omega) (by omega)]; exact h73 _ (by omega)), ?_⟩
            obtain ⟨τm, hτm⟩ : ∃ τm, τm = taI (taD (taI (taD τ 74 0 (va_cpy (τ.2.2.2 72 r) (τ.2.2.2 74 0) i' 0 n')) 75 0 (va_cpy (τ.2.2.1 73 r) (τ.2.2.1 75 0) i' 0 n')) 72 u (va_cpy (va_cpy (τ.2.2.2 72 r) (τ.2.2.2 74 0) i' 0 n') (τ.2.2.2 72 u) 0 j' n')) 73 u (va_cpy (va_cpy (τ.2.2.1 73 r) (τ.2.2.1 75 0) i' 0 n') (τ.2.2.1 73 u) 0 j' n') := ⟨_, rfl⟩
            rw [← hτm]
            have eI : ∀ k' i j, k' < 74 → ¬ (k' = 73 ∧ i = u) → τm.2.2.1 k' i j = τ.2.2.1 k' i j := by
              intro k' i j hk h
              rw [hτm]
              by_cases hk' : k' = 73
              · subst hk'; rw [tqb (by omega), tqg, tqc (by decide)]; rfl
              · rw [tqc hk', tqg, tqc (by omega)]; rfl
            have eD : ∀ k' i j, k' < 74 → ¬ (k' = 72 ∧ i = u) → τm.2.2.2 k' i j = τ.2.2.2 k' i j := by
              intro k' i j hk h
              rw [hτm, tqd]
              by_cases hk' : k' = 72
              · subst hk'; rw [tqi (by omega), tqd, tqj (by decide)]
              · rw [tqj hk', tqd, tqj (by omega)]
            have v73 : ∀ k, τm.2.2.1 73 u k = if j' ≤ k ∧ k < j' + n' then τ.2.2.1 73 r (i' + (k - j')) else τ.2.2.1 73 u k := fun k => by
              rw [hτm, tqa]
              unfold va_cpy
              by_cases hk : j' ≤ k ∧ k < j' + n'
              · simp only [if_pos hk]
                rw [if_pos (by omega)]
                simp only [Nat.zero_add, Nat.sub_zero]
              · simp only [if_neg hk]
            have v72 : ∀ k, τm.2.2.2 72 u k = if j' ≤ k ∧ k < j' + n' then τ.2.2.2 72 r (i' + (k - j')) else τ.2.2.2 72 u k := fun k => by
              rw [hτm, tqd, tqh]
              unfold va_cpy
              by_cases hk : j' ≤ k ∧ k < j' + n'
              · simp only [if_pos hk]
                rw [if_pos (by omega)]
                simp only [Nat.zero_add, Nat.sub_zero]
              · simp only [if_neg hk]
            have e70 : τm.2.2.1 70 0 u = nI s' := by rw [eI 70 0 u (by omega) (by omega)]; exact g70
            have e71 : τm.2.2.1 71 0 u = nI m' := by rw [eI 71 0 u (by omega) (by omega)]; exact g71
            have hrow : tR1 τm u := by
              refine Or.inr ⟨s', m', hs', hm', e70, e71, fun k hk => ?_, fun k hk => ?_, fun hs3 k hk => ?_⟩
              · rw [v73]
                split
                · exact h73 _ (by omega)
                · exact g73 k hk
              · rw [v72]
                split
                · exact h72 _ (by omega)
                · exact g72 k hk
              · rw [v73]
                split
                · exact h3 (by omega) _ (by omega)
                · exact g3 hs3 k hk
            obtain ⟨r1, r2⟩ := tINV_rw (r := u) hI (fun k i j hk a1 a2 a3 => eI k i j hk a3) (fun k i j hk a1 => eD k i j hk a1) (by rw [hτm]; rfl) (by rw [hτm]; rfl) hrow
            refine hK τm r1 ?_
            rw [r2, trw_some hs' hm' e70 e71]
            congr 3
            congr 1
            unfold s_cp
            simp only [List.length_map, List.length_range]
            refine List.map_congr_left fun k hk => ?_
            have hk := List.mem_range.mp hk
            rw [v73, v72]
            by_cases hc : j' ≤ k ∧ k < j' + n'
            · simp only [if_pos hc]
              rw [List.getD_eq_getElem?_getD, List.getElem?_map, List.getElem?_range (by omega)]
              rfl
            · simp only [if_neg hc]
              rw [List.getD_eq_getElem?_getD, List.getElem?_map, List.getElem?_range hk]
              rfl
          · rw [if_pos es] at hK
            exact hK τ hI rfl
end UF
