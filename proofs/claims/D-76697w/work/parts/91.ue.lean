set_option maxRecDepth 100000
/-! THE REFERENCE's operations: row, put, item -/
section UE
variable {l : Launch} {g : zG} {d m0 : Nat} {τ τ' τm τ2 : tS} {hp : zHp} {nx : Nat}
noncomputable def o_row (A : sV) (x s n : Int32) : Int32 × sV := match s_rx x with
  | none => (-2, A)
  | some r => if s < -1 ∨ 3 < s then (-2, A) else if ¬ s < 0 ∧ ¬ n ≤ 64 then (-2, A) else if ¬ s < 0 ∧ ¬ 0 ≤ n then (-14, A) else (1, v_rw A (s_up A.2.2.2 r (if s < 0 then none else some (s.toNatClampNeg, List.replicate n.toNatClampNeg (some 0)))))
theorem s_s_of {s : Int32} (h : ¬ (s < -1 ∨ 3 < s)) : s = -1 ∨ ∃ k, k < 4 ∧ s = nI k := by
  by_cases h0 : s < 0
  · left
    have h1 : ¬ s < -1 := fun q => h (Or.inl q)
    rw [Int32.lt_iff_toInt_lt] at h0 h1
    apply Int32.toInt_inj.mp
    have e0 : (0 : Int32).toInt = 0 := by decide
    have e1 : (-1 : Int32).toInt = -1 := by decide
    omega
  · right
    rcases s_rx_of s with q | q
    · exact absurd q (fun z => z.elim h0 (fun z => h (Or.inr z)))
    · exact q
theorem to_row {x s n : Int32} {K : Int32 → zHp → Nat → Prop} (hd : 200 ≤ d) (hB : zB g ≤ m0) (hI : tINV τ) (hK : ∀ τ', tINV τ' → tVw τ' = (o_row (tVw τ) x s n).2 → K (o_row (tVw τ) x s n).1 (tput g m0 τ' hp) nx) : zMt l g yX5_row cX5_row 5 (some .int) d 0 0 [.ref m0, .int x, .int s, .int n] (tput g m0 τ hp) nx (zQi g K) := by
  obtain ⟨d, rfl⟩ := Nat.exists_eq_add_of_le' (show 1 ≤ d by omega)
  apply met_X5_row
  unfold wp_X5_row
  unfold o_row at hK
  refine t_isRow' (by omega) ?_
  refine ⟨_, fun _ _ h => h, ?_⟩
  rcases s_rx_of x with hx | ⟨r, hr, rfl⟩
  · simp only [s_rx, if_pos hx] at hK ⊢
    exact ⟨fun _ => hK τ hI rfl, fun h => absurd (by trivial) h⟩
  · simp only [s_rx_s hr] at hK
    rw [if_neg (s_rx_n hr)]
    refine ⟨fun h => absurd h (by decide), fun _ => ?_⟩
    refine t_in' (by omega) ?_
    by_cases hv : s < -1 ∨ 3 < s
    · rw [if_pos hv] at hK ⊢
      exact ⟨fun _ => hK τ hI rfl, fun h => absurd (by trivial) h⟩
    · rw [if_neg hv] at hK ⊢
      refine ⟨fun h => absurd h (by decide), fun _ => ?_⟩
      have cr : (nI r).toNatClampNeg = r := nI_clamp (by omega)
      have ir : vp_in (nI r) 4 := vp_in_nI hr (by decide)
      have hB2 : ∀ n, zB g ≤ m0 + n := fun n => by omega
      have hB3 : ∀ a b n, zB g ≤ m0 + a + b + n := fun a b n => by omega
      have n0 : vp_nar .boolean 0 = 0 := by decide
      have hss := s_s_of hv
      refine ⟨fun h n' => h = tput g m0 τ hp ∧ nx = n' ∧ (s < 0 ∨ n ≤ 64), ?_, fun h => ⟨rfl, rfl, Or.inl h⟩, fun h => ⟨fun h2 => ⟨rfl, rfl, Or.inr h2⟩, fun h2 => ?_⟩⟩
      · rintro _ _ ⟨rfl, rfl, h64⟩
        rw [if_neg (fun q => h64.elim q.1 q.2)] at hK
        refine ⟨fun h n' => h = tput g m0 τ hp ∧ nx = n' ∧ (s < 0 ∨ 0 ≤ n), ?_, fun h => ⟨rfl, rfl, Or.inl h⟩, fun h => ⟨fun h2 => ⟨rfl, rfl, Or.inr h2⟩, fun h2 => ?_⟩⟩
        · rintro _ _ ⟨rfl, rfl, h0⟩
          rw [if_neg (fun q => h0.elim q.1 q.2)] at hK
          obtain ⟨kk, hkk, ekk, ekk2⟩ : ∃ kk, kk ≤ 64 ∧ (s < 0 → kk = 0) ∧ (¬ s < 0 → n = nI kk) := by
            by_cases hs : s < 0
            · exact ⟨0, by decide, fun _ => rfl, fun q => absurd hs q⟩
            · have h1 := h64.resolve_left hs
              have h2 := h0.resolve_left hs
              obtain ⟨j, hj, e⟩ := nI_of2 (x := n) (M := 64) (n := 64) (by decide) (fun q => by rw [Int32.lt_iff_toInt_lt] at q; rw [Int32.le_iff_toInt_le] at h2; omega) h1
              exact ⟨j, hj, fun q => absurd q hs, fun _ => e⟩
          simp only [tg_rows, ta_rows, tu_rows, tg_lengths, ta_lengths, tu_lengths, cr, ir, hB2, true_implies, false_implies, implies_true, and_true, true_and, forall_eq, tq1, tq3, tq4, tq5, tq7, tq8, tq9, tqa, tqc, tqd, tqe, tqf, tqg, tqh, tqj, va_s, ne_eq, reduceCtorEq, not_false_eq_true, not_true_eq_false, if_true, if_false, Nat.reduceEqDiff]
          refine ⟨fun ra a b h n' => ra = some (m0 + 244) ∧ a = nI r ∧ b = nI kk ∧ h = tput g m0 (taI τ 70 0 (va_up (τ.2.2.1 70 0) r s)) hp ∧ nx = n', ?_, fun h => ?_, fun h => ?_⟩
          · rintro _ _ _ _ _ ⟨rfl, rfl, rfl, rfl, rfl⟩
            simp only [tg_rows, ta_rows, tu_rows, tg_lengths, ta_lengths, tu_lengths, cr, ir, hB2, true_implies, false_implies, implies_true, and_true, true_and, forall_eq, tq1, tq3, tq4, tq5, tq7, tq8, tq9, tqa, tqc, tqd, tqe, tqf, tqg, tqh, tqj, va_s, ne_eq, reduceCtorEq, not_false_eq_true, not_true_eq_false, if_true, if_false, Nat.reduceEqDiff]
            obtain ⟨τ0, hτ0⟩ : ∃ τ0, τ0 = taI (taI τ 70 0 (va_up (τ.2.2.1 70 0) r s)) 71 0 (va_up (τ.2.2.1 71 0) r (nI kk)) := ⟨_, rfl⟩
            rw [← hτ0]
            refine ⟨fun n i h nx' => ∃ ii τ1, ii ≤ 64 ∧ n = 64 - ii ∧ i = nI ii ∧ h = tput g m0 τ1 hp ∧ nx = nx' ∧ τ1.1 = τ.1 ∧ (∀ k i j, ¬ (k = 73 ∧ i = r) → τ1.2.2.1 k i j = τ0.2.2.1 k i j) ∧ (∀ k i j, ¬ (k = 72 ∧ i = r) → τ1.2.2.2 k i j = τ.2.2.2 k i j) ∧ ∀ j, j < ii → τ1.2.2.1 73 r j = 0 ∧ τ1.2.2.2 72 r j = 0, ⟨64, 0, τ0, by omega, rfl, rfl, rfl, rfl, by rw [hτ0]; rfl, fun _ _ _ _ => rfl, fun _ _ _ _ => by rw [hτ0]; rfl, fun j hj => absurd hj (by omega)⟩, ?_⟩
            rintro nn _ _ _ ⟨ii, τ1, hii, hn, rfl, rfl, rfl, e1, hI1, hD1, hz⟩
            refine pk_le 64 ii (fun hle => ?_) (fun hlt => ?_)
            · have hIt : ∀ k i j, ¬ (k = 70 ∧ i = 0 ∧ j = r) → ¬ (k = 71 ∧ i = 0 ∧ j = r) → τ0.2.2.1 k i j = τ.2.2.1 k i j := by
                intro k i j a1 a2
                rw [hτ0]
                by_cases hk : k = 71
                · subst hk
                  by_cases hi : i = 0
                  · subst hi; rw [tqa, va_o (by omega)]
                  · rw [tqb hi, tqc (by decide)]
                · rw [tqc hk]
                  by_cases hk : k = 70
                  · subst hk
                    by_cases hi : i = 0
                    · subst hi; rw [tqa, va_o (by omega)]
                    · rw [tqb hi]
                  · rw [tqc hk]
              have e70 : τ1.2.2.1 70 0 r = s := by rw [hI1 70 0 r (by omega), hτ0, tqc (by decide), tqa, va_s]
              have e71 : τ1.2.2.1 71 0 r = nI kk := by rw [hI1 71 0 r (by omega), hτ0, tqa, va_s]
              have hrow : tR1 τ1 r := by
                rcases hss with q | ⟨k, hk, q⟩
                · exact Or.inl (by rw [e70]; exact q)
                · exact Or.inr ⟨k, kk, hk, hkk, by rw [e70]; exact q, e71, fun j hj => Or.inl (hz j (by omega)).1, fun j hj => by rw [(hz j (by omega)).2]; exact fk_B0, fun _ j hj => (hz j (by omega)).1⟩
              obtain ⟨r1, r2⟩ := tINV_rw (r := r) hI (fun k i j _ a1 a2 a3 => by rw [hI1 k i j a3, hIt k i j a1 a2]) (fun k i j _ a1 => hD1 k i j a1) (by rw [e1]) (by rw [e1]) hrow
              refine hK τ1 r1 ?_
              rw [r2]
              congr 2
              rcases hss with q | ⟨k, hk, q⟩
              · rw [trw_none (by rw [e70]; exact q), if_pos (by rw [q]; decide)]
              · have hns : ¬ s < 0 := by rw [q]; exact nI_pos (by omega)
                rw [trw_some hk hkk (by rw [e70]; exact q) e71, if_neg hns, ekk2 hns, q, nI_clamp (by omega), nI_clamp (by omega)]
                congr 2
                apply List.ext_getElem?
                intro j
                by_cases hj : j < kk
                · rw [List.getElem?_map, List.getElem?_range hj, List.getElem?_replicate, if_pos hj]
                  simp only [Option.map_some, (hz j (by omega)).1, (hz j (by omega)).2, if_true]
                · rw [List.getElem?_eq_none (by simp; omega), List.getElem?_eq_none (by simp; omega)]
            · have ci : (nI ii).toNatClampNeg = ii := nI_clamp (by omega)
              have iii : vp_in (nI ii) 64 := vp_in_nI hlt (by decide)
              simp only [tg_items, ta_items, tg_isFailed, ta_isFailed, cr, ir, tb_items hr, tv_items hr, tb_isFailed hr, tv_isFailed hr, ci, iii, hB3, n0, true_implies, false_implies, implies_true, and_true, true_and, forall_eq, tq1, tq3, tq4, tq5, tq7, tq8, tq9, tqa, tqc, tqd, tqe, tqf, tqg, tqh, tqj, va_s, ne_eq, reduceCtorEq, not_false_eq_true, not_true_eq_false, if_true, if_false, Nat.reduceEqDiff]
              refine ⟨64 - (ii + 1), by omega, ii + 1, _, by omega, rfl, nI_1 ii, rfl, e1, fun k i j h => ?_, fun k i j h => ?_, fun j hj => ?_⟩
              · rw [← hI1 k i j h]
                by_cases hk : k = 73
                · subst hk; rw [tqb (by omega)]; rfl
                · rw [tqc hk]; rfl
              · rw [← hD1 k i j h, tqd]
                by_cases hk : k = 72
                · subst hk; rw [tqi (by omega)]
                · rw [tqj hk]
              · rw [tqa, tqd, tqh]
                by_cases e : j = ii
                · subst e; rw [va_s, va_s]; exact ⟨rfl, rfl⟩
                · rw [va_o e, va_o e]; exact hz j (by omega)
          · refine ⟨rfl, rfl, ekk2 ?_, rfl, rfl⟩
            intro q
            rw [Int32.lt_iff_toInt_lt] at q
            rw [Int32.le_iff_toInt_le] at h
            omega
          · refine ⟨rfl, rfl, ?_, rfl, rfl⟩
            have hs : s < 0 := by
              rw [Int32.le_iff_toInt_le] at h
              rw [Int32.lt_iff_toInt_lt]
              omega
            rw [ekk hs]
            rfl
        · rw [if_pos ⟨h, h2⟩] at hK
          exact hK τ hI rfl
      · rw [if_pos ⟨h, h2⟩] at hK
        exact hK τ hI rfl
/-- whether there is such an item -/
def o_ino (A : sV) (x i : Int32) : Int32 := match s_rx x with
  | none => -2
  | some r => match A.2.2.2 r with
    | none => -11
    | some q => if i < 0 ∨ nI q.2.length - 1 < i then -12 else 0
theorem tRo_of (hI : tINV τ) {r : Nat} (hr : r < 4) : tR1 τ r := hI.2.2.2.2 r hr
theorem t_itemRefusal {x i : Int32} {K : Int32 → zHp → Nat → Prop} (hd : 10 ≤ d) (hI : tINV τ) (hK : K (o_ino (tVw τ) x i) (tput g m0 τ hp) nx) : zMt l g yX5_itemRefusal cX5_itemRefusal 3 (some .int) d 0 0 [.ref m0, .int x, .int i] (tput g m0 τ hp) nx (zQi g K) := by
  obtain ⟨d, rfl⟩ := Nat.exists_eq_add_of_le' (show 1 ≤ d by omega)
  apply met_X5_itemRefusal
  unfold wp_X5_itemRefusal
  unfold o_ino at hK
  refine t_isRow' (by omega) ?_
  rcases s_rx_of x with hx | ⟨r, hr, rfl⟩
  · simp only [s_rx, if_pos hx] at hK ⊢
    exact ⟨fun _ => hK, fun h => absurd (by trivial) h⟩
  · simp only [s_rx_s hr] at hK
    rw [if_neg (s_rx_n hr)]
    refine ⟨fun h => absurd h (by decide), fun _ => ?_⟩
    have cr : (nI r).toNatClampNeg = r := nI_clamp (by omega)
    have ir : vp_in (nI r) 4 := vp_in_nI hr (by decide)
    have el : (tVw τ).2.2.2 r = trw τ r := rfl
    rw [el] at hK
    simp only [tg_rows, ta_rows, tu_rows, cr, ir, true_implies, false_implies, implies_true, and_true, true_and, forall_eq]
    rcases tRo_of hI hr with h70 | ⟨s, n, hs, hn, h70, h71, -⟩
    · rw [trw_none h70] at hK
      refine ⟨fun h => absurd h (by rw [h70]; decide), fun _ => hK⟩
    · rw [trw_some hs hn h70 h71] at hK
      simp only [List.length_map, List.length_range] at hK
      refine ⟨fun _ => ?_, fun h => absurd (by rw [h70]; exact nI_pos' (by omega)) h⟩
      simp only [tg_lengths, ta_lengths, tu_lengths, cr, ir, h71, true_implies, false_implies, implies_true, and_true, true_and, forall_eq]
      refine t_in' (by omega) ?_
      refine ⟨_, fun _ _ _ h => h, ?_⟩
      by_cases hi : i < 0 ∨ nI n - 1 < i
      · rw [if_pos hi] at hK ⊢
        exact ⟨fun _ => hK, fun h => absurd (by trivial) h⟩
      · rw [if_neg hi] at hK ⊢
        exact ⟨fun h => absurd h (by decide), fun _ => hK⟩
theorem o_ino_0 {x i : Int32} (hI : tINV τ) (h : o_ino (tVw τ) x i = 0) : ∃ r k s n, r < 4 ∧ s < 4 ∧ n ≤ 64 ∧ k < n ∧ x = nI r ∧ i = nI k ∧ τ.2.2.1 70 0 r = nI s ∧ τ.2.2.1 71 0 r = nI n ∧ (∀ k, k < n → τ.2.2.1 73 r k = 0 ∨ τ.2.2.1 73 r k = 1) ∧ (∀ k, k < n → s_B (τ.2.2.2 72 r k)) ∧ (s ≠ 3 → ∀ k, k < n → τ.2.2.1 73 r k = 0) := by
  unfold o_ino at h
  rcases s_rx_of x with hx | ⟨r, hr, rfl⟩
  · simp only [s_rx, if_pos hx] at h; exact absurd h (by decide)
  · simp only [s_rx_s hr] at h
    have el : (tVw τ).2.2.2 r = trw τ r := rfl
    rw [el] at h
    rcases tRo_of hI hr with h70 | ⟨s, n, hs, hn, h70, h71, h73, h72, h3⟩
    · rw [trw_none h70] at h
      exact absurd (show (-11 : Int32) = 0 from h) (by decide)
    · rw [trw_some hs hn h70 h71] at h
      simp only [List.length_map, List.length_range] at h
      by_cases hi : i < 0 ∨ nI n - 1 < i
      · rw [if_pos hi] at h; exact absurd h (by decide)
      · by_cases hn0 : n = 0
        · subst hn0
          exfalso
          apply hi
          by_cases q : i < 0
          · exact Or.inl q
          · right
            rw [Int32.lt_iff_toInt_lt] at q ⊢
            have e1 : (nI 0 - 1 : Int32).toInt = -1 := by decide
            have e0 : (0 : Int32).toInt = 0 := by decide
            omega
        · obtain ⟨k, hk, e⟩ := s_in_of hn (by omega) hi
          exact ⟨r, k, s, n, hr, hs, hn, hk, rfl, e, h70, h71, h73, h72, h3⟩
noncomputable def o_item (A : sV) (x i : Int32) : Int64 := if o_ino A x i ≠ 0 then (o_ino A x i).toInt64 else match A.2.2.2 x.toNatClampNeg with
  | none => 0
  | some q => match q.2.getD i.toNatClampNeg none with | none => -1 | some v => v.toInt64
theorem to_item {x i : Int32} {K : Int64 → zHp → Nat → Prop} (hd : 200 ≤ d) (hI : tINV τ) (hK : ∀ τ', tINV τ' → tVw τ' = tVw τ → K (o_item (tVw τ) x i) (tput g m0 τ' hp) nx) : zMt l g yX5_item cX5_item 4 (some .long) d 0 0 [.ref m0, .int x, .int i] (tput g m0 τ hp) nx (zQl g K) := by
  obtain ⟨d, rfl⟩ := Nat.exists_eq_add_of_le' (show 1 ≤ d by omega)
  apply met_X5_item
  unfold wp_X5_item
  have hK := hK τ hI rfl
  unfold o_item at hK
  rw [tw_zo]
  refine t_itemRefusal (by omega) hI ?_
  refine ⟨fun h => ?_, fun h => ?_⟩
  · rw [if_neg (fun q => q h)] at hK
    obtain ⟨r, k, s, n, hr, hs, hn, hk, rfl, rfl, h70, h71, h73, h72, h3⟩ := o_ino_0 hI h
    have el : (tVw τ).2.2.2 r = trw τ r := rfl
    rw [nI_clamp (by omega), nI_clamp (by omega), el, trw_some hs hn h70 h71] at hK
    simp only [List.getD_eq_getElem?_getD, List.getElem?_map, List.getElem?_range hk, Option.map_some, Option.getD_some] at hK
    have cr : (nI r).toNatClampNeg = r := nI_clamp (by omega)
    have ir : vp_in (nI r) 4 := vp_in_nI hr (by decide)
    have ck : (nI k).toNatClampNeg = k := nI_clamp (by omega)
    have ik : vp_in (nI k) 64 := vp_in_nI (by omega) (by decide)
    simp only [tg_isFailed, ta_isFailed, tg_items, ta_items, cr, ir, tb_isFailed hr, tv_isFailed hr, tb_items hr, tv_items hr, ck, ik, true_implies, false_implies, implies_true, and_true, true_and, forall_eq]
    refine ⟨_, fun _ _ _ _ h => h, ?_⟩
    refine ⟨fun h0 => ?_, fun h0 => ?_⟩
    · rw [if_pos h0] at hK
      exact t_bits (by omega) (h72 k hk).f hK
    · rw [if_neg h0] at hK
      exact hK
  · rw [if_pos h] at hK
    exact hK
end UE
