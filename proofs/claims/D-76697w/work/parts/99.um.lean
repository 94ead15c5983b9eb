set_option maxRecDepth 100000
/-! THE REFERENCE's operations: axisBy -/
section UM
variable {l : Launch} {g : zG} {d m0 : Nat} {τ τ' τm τ1 τ2 : tS} {hp : zHp} {nx : Nat}
noncomputable def o_axisBy (A : sV) (x w y p n : Int32) : Int32 × sV := match s_tx x with
  | none => (-2, A)
  | some t => if w < 0 ∨ 1 < w then (-2, A) else match s_rx y with
    | none => (-2, A)
    | some r => if n < 1 ∨ 8 < n then (-2, A) else match A.1.2.1 t with
      | none => (-3, A)
      | some L => if w = 1 ∧ L.2.2.1 = none then (-3, A) else match A.2.2.2 r with
        | none => (-11, A)
        | some q => if q.1 ≠ 3 then (-13, A) else if p < 0 ∨ q.2.length < p.toNatClampNeg + n.toNatClampNeg then (-12, A) else
          s_if (∃ k, k < n.toNatClampNeg ∧ q.2.getD (p.toNatClampNeg + k) none = none) (-3, A) (o_lay A t (s_ax L w.toNatClampNeg ((List.range n.toNatClampNeg).map fun k => (q.2.getD (p.toNatClampNeg + k) none).getD 0)))
theorem s_p_of {p : Int32} {n len : Nat} (hn : n ≤ 8) (hl : len ≤ 64) (h : ¬ p < 0) : ∃ k, k < 2 ^ 31 ∧ p = nI k ∧ (p ≤ nI len - nI n ↔ k + n ≤ len) := by
  have h' : 0 ≤ p.toInt := by
    rw [Int32.lt_iff_toInt_lt] at h
    have e0 : (0 : Int32).toInt = 0 := by decide
    omega
  have hlt := Int32.toInt_lt p
  have hc : p.toNatClampNeg = p.toInt.toNat := rfl
  refine ⟨p.toNatClampNeg, by omega, ?_, ?_⟩
  · apply Int32.toInt_inj.mp
    rw [nI_toInt (by omega)]
    omega
  · rw [Int32.le_iff_toInt_le, Int32.toInt_sub, nI_toInt (by omega), nI_toInt (by omega), Int.bmod_eq_of_le (by omega) (by omega)]
    omega
theorem to_axisBy {x w y p n : Int32} {K : Int32 → zHp → Nat → Prop} (hd : 200 ≤ d) (hB : zB g ≤ m0) (hI : tINV τ) (hK : ∀ τ', tINV τ' → tVw τ' = (o_axisBy (tVw τ) x w y p n).2 → K (o_axisBy (tVw τ) x w y p n).1 (tput g m0 τ' hp) nx) : zMt l g yX5_axisBy cX5_axisBy 7 (some .int) d 0 0 [.ref m0, .int x, .int w, .int y, .int p, .int n] (tput g m0 τ hp) nx (zQi g K) := by
  obtain ⟨d, rfl⟩ := Nat.exists_eq_add_of_le' (show 1 ≤ d by omega)
  apply met_X5_axisBy
  unfold wp_X5_axisBy
  unfold o_axisBy at hK
  refine t_isTable' (by omega) ?_
  refine ⟨_, fun _ _ h => h, ?_⟩
  rcases s_tx_of x with hx | ⟨t, ht, rfl⟩
  · simp only [s_tx, if_pos hx] at hK ⊢
    exact ⟨fun _ => hK τ hI rfl, fun h => absurd (by trivial) h⟩
  simp only [s_tx_s ht] at hK
  rw [if_neg (s_tx_n ht)]
  refine ⟨fun h => absurd h (by decide), fun _ => ?_⟩
  refine t_in' (by omega) ?_
  by_cases h1 : w < 0 ∨ 1 < w
  · rw [if_pos h1] at hK ⊢; exact ⟨fun _ => hK τ hI rfl, fun h => absurd (by trivial) h⟩
  rw [if_neg h1] at hK ⊢
  refine ⟨fun h => absurd h (by decide), fun _ => ?_⟩
  refine t_isRow' (by omega) ?_
  rcases s_rx_of y with hy | ⟨r, hr, rfl⟩
  · simp only [s_rx, if_pos hy] at hK ⊢
    exact ⟨fun _ => hK τ hI rfl, fun h => absurd (by trivial) h⟩
  simp only [s_rx_s hr] at hK
  rw [if_neg (s_rx_n hr)]
  refine ⟨fun h => absurd h (by decide), fun _ => ?_⟩
  refine t_in' (by omega) ?_
  by_cases h4 : n < 1 ∨ 8 < n
  · rw [if_pos h4] at hK ⊢; exact ⟨fun _ => hK τ hI rfl, fun h => absurd (by trivial) h⟩
  rw [if_neg h4] at hK ⊢
  refine ⟨fun h => absurd h (by decide), fun _ => ?_⟩
  obtain ⟨nn, hnn, rfl⟩ := s_n_of h4
  obtain ⟨ww, hww, rfl⟩ : ∃ k, k < 2 ∧ w = nI k := by
    rcases s_x_of (x := w) (M := 1) (n := 1) (by decide) with q | q
    · exact absurd q h1
    · exact q
  have ct : (nI t).toNatClampNeg = t := nI_clamp (by omega)
  have it : vp_in (nI t) 6 := vp_in_nI ht (by decide)
  have cr : (nI r).toNatClampNeg = r := nI_clamp (by omega)
  have ir : vp_in (nI r) 4 := vp_in_nI hr (by decide)
  have el : (tVw τ).1.2.1 t = tly τ t := rfl
  have er : (tVw τ).2.2.2 r = trw τ r := rfl
  have w1 : nI ww = 1 ↔ ww = 1 := nI_eq (b := 1) (by omega) (by decide)
  rw [el, er, nI_clamp (show ww < 2 ^ 31 by omega), nI_clamp (show nn < 2 ^ 31 by omega)] at hK
  rw [tg_laid, ta_laid]
  refine ⟨it, fun x6 hx6 => ?_⟩
  rw [ct] at hx6
  subst hx6
  refine ⟨_, fun _ _ h => h, ?_⟩
  refine ⟨fun h6 => ?_, fun h6 => ?_⟩
  · rw [tly_none.mp h6] at hK
    exact hK τ hI rfl
  obtain ⟨L, hL⟩ : ∃ L, tly τ t = some L := by
    cases hl : tly τ t with
    | none => exact absurd (tly_none.mpr hl) h6
    | some L => exact ⟨L, rfl⟩
  rw [hL] at hK
  simp only at hK
  obtain ⟨⟨rk, hO⟩, hnb, hx⟩ := hI.1
  obtain ⟨_, lo, la, e7, e8, ⟨hn1, hn8, e10⟩, eax, hot⟩ := tly_some hO.2.1 ht hL
  refine ⟨fun h n' => h = tput g m0 τ hp ∧ nx = n' ∧ ¬ (nI ww = 1 ∧ L.2.2.1 = none), fun h n' hh => ?_, fun hw => ?_, fun hw => ⟨rfl, rfl, fun q => hw q.1⟩⟩
  · obtain ⟨rfl, rfl, hno⟩ := hh
    rw [if_neg hno] at hK
    have hw1 : ww = 1 → L.2.2.1 ≠ none := fun e q => hno ⟨w1.mpr e, q⟩
    simp only [tg_rows, ta_rows, tu_rows, cr, ir, true_implies, false_implies, implies_true, and_true, true_and, forall_eq]
    rcases tRo_of hI hr with h70 | ⟨s, len, hs, hn, h70, h71, h73, h72, h3⟩
    · rw [trw_none h70] at hK
      exact ⟨fun h => absurd h (by rw [h70]; decide), fun _ => hK τ hI rfl⟩
    rw [trw_some hs hn h70 h71] at hK
    simp only [List.length_map, List.length_range] at hK
    refine ⟨fun _ => ?_, fun h => absurd (by rw [h70]; exact nI_pos' (by omega)) h⟩
    rw [h70]
    refine pk_eq s 3 (fun es => ?_) (fun es => ?_)
    · rw [if_neg (fun q => q es)] at hK
      refine ⟨_, fun _ _ h => h, ?_⟩
      refine ⟨fun hp0 => ?_, fun hp0 => ?_⟩
      · rw [if_pos (Or.inl hp0)] at hK
        exact hK τ hI rfl
      obtain ⟨pp, hpp, rfl, hple⟩ := s_p_of (n := nn) (len := len) hnn.2 hn hp0
      have cp : (nI pp).toNatClampNeg = pp := nI_clamp hpp
      rw [cp] at hK
      simp only [tg_lengths, ta_lengths, tu_lengths, cr, ir, h71, true_implies, false_implies, implies_true, and_true, true_and, forall_eq]
      refine ⟨fun hle => ?_, fun hle => ?_⟩
      rotate_left
      · have hq : ¬ (pp + nn ≤ len) := fun q => hle (hple.mpr q)
        rw [if_pos (Or.inr (Nat.lt_of_not_le hq))] at hK
        exact hK τ hI rfl
      have hpn := hple.mp hle
      rw [if_neg (fun q => q.elim hp0 (fun q => by omega))] at hK
      have eg : ∀ k, k < nn → (((List.range len).map fun k => if τ.2.2.1 73 r k = 0 then some (τ.2.2.2 72 r k) else none).getD (pp + k) none) = if τ.2.2.1 73 r (pp + k) = 0 then some (τ.2.2.2 72 r (pp + k)) else none := fun k hk => by
        rw [List.getD_eq_getElem?_getD, List.getElem?_map, List.getElem?_range (by omega)]
        rfl
      refine ⟨fun m i h nx' => ∃ ii, ii ≤ nn ∧ m = nn - ii ∧ i = nI ii ∧ h = tput g m0 τ hp ∧ nx = nx' ∧ ∀ k, k < ii → τ.2.2.1 73 r (pp + k) = 0, ⟨nn, 0, by omega, rfl, rfl, rfl, rfl, fun k hk => absurd hk (by omega)⟩, ?_⟩
      rintro m _ _ _ ⟨ii, hii, hm, rfl, rfl, rfl, hz⟩
      refine pk_le nn ii (fun hle => ?_) (fun hlt => ?_)
      rotate_left
      · have epi : nI pp + nI ii = nI (pp + ii) := nI_add _ _
        have cpi : (nI (pp + ii)).toNatClampNeg = pp + ii := nI_clamp (by omega)
        have ipi : vp_in (nI (pp + ii)) 64 := vp_in_nI (by omega) (by decide)
        simp only [tg_isFailed, ta_isFailed, cr, ir, tb_isFailed hr, tv_isFailed hr, epi, cpi, ipi, true_implies, false_implies, implies_true, and_true, true_and, forall_eq]
        refine ⟨fun q => ⟨nn - (ii + 1), by omega, ii + 1, by omega, rfl, nI_1 ii, fun k hk => ?_⟩, fun q => ?_⟩
        · by_cases e : k = ii
          · subst e; exact q
          · exact hz k (by omega)
        · rw [s_if_p ⟨ii, hlt, by rw [eg ii hlt, if_neg q]⟩] at hK
          exact hK τ hI rfl
      have : ii = nn := by omega
      subst this
      rw [s_if_n (fun ⟨k, hk, q⟩ => by rw [eg k hk, if_pos (hz k hk)] at q; cases q)] at hK
      obtain ⟨F, hF⟩ : ∃ F : Nat → UInt64, F = fun k => τ.2.2.2 72 r (pp + k) := ⟨_, rfl⟩
      have eF : ((List.range ii).map fun k => ((((List.range len).map fun k => if τ.2.2.1 73 r k = 0 then some (τ.2.2.2 72 r k) else none).getD (pp + k) none)).getD 0) = (List.range ii).map F := List.map_congr_left fun k hk => by
        have hk := List.mem_range.mp hk
        rw [eg k hk, if_pos (hz k hk), hF]
        rfl
      rw [eF] at hK
      have sim := s_sim_up (ly := tly τ) (t := t) (s_nc_ax (L := L) (w := ww) (a := (List.range ii).map (τ.2.2.2 11 (2 * t + ww))) (b := (List.range ii).map F) (by simp)).1 (s_nc_ax (by simp)).2
      have etm := s_tm_sim (fm := tfm τ) sim
      unfold o_lay at hK
      rw [tw_zo]
      refine t_hasRoom (L := L) (by omega) hB hI ht hww hL hnn hw1 (fun htm τ1 f1 => ?_) (fun htm τ1 f1 => ?_)
      · have htm' := fun q => htm (etm.mpr q)
        have htm'' : ¬ s_tm (tVw τ).1.1 (s_up (tVw τ).1.2.1 t (some (s_ax L ww ((List.range ii).map F)))) := htm'
        rw [s_if_n htm''] at hK
        refine ⟨fun h => absurd h (by decide), fun _ => ?_⟩
        have e2 : (2 : Int32) * nI t = nI (2 * t) := pk_mul 2 t
        have e2w : nI (2 * t) + nI ww = nI (2 * t + ww) := nI_add _ _
        have c2 : (nI (2 * t + ww)).toNatClampNeg = 2 * t + ww := nI_clamp (by omega)
        have i2 : vp_in (nI (2 * t + ww)) 12 := vp_in_nI (by omega) (by decide)
        have l2 : 2 * t + ww < 12 := by omega
        have hB3 : ∀ a b n, zB g ≤ m0 + a + b + n := fun a b n => by omega
        refine ⟨fun m i h nx' => ∃ jj τ2, jj ≤ ii ∧ m = ii - jj ∧ i = nI jj ∧ h = tput g m0 τ2 hp ∧ nx = nx' ∧ tap (2 * t + ww) ii jj F τ τ2, ⟨ii, 0, τ1, by omega, rfl, rfl, rfl, rfl, tap.z f1⟩, ?_⟩
        rintro m _ _ _ ⟨jj, τ2, hjj, hm, rfl, rfl, rfl, hap⟩
        refine pk_le ii jj (fun hle => ?_) (fun hlt => ?_)
        · have : jj = ii := by omega
          subst this
          obtain ⟨r1, r2, r3, ⟨rk2, O2⟩⟩ := hap.inv hI ht hww hL hnn hw1 (fun k hk => by rw [hF]; exact h72 _ (by omega)) htm'
          rw [tw_zo]
          refine t_cases (L := s_ax L ww ((List.range jj).map F)) (by omega) O2.2.1 ht r3 ?_
          exact hK τ2 r1 r2
        · have ci : (nI jj).toNatClampNeg = jj := nI_clamp (by omega)
          have iii : vp_in (nI jj) 8 := vp_in_nI (by omega) (by decide)
          have epi : nI pp + nI jj = nI (pp + jj) := nI_add _ _
          have cpi : (nI (pp + jj)).toNatClampNeg = pp + jj := nI_clamp (by omega)
          have ipi : vp_in (nI (pp + jj)) 64 := vp_in_nI (by omega) (by decide)
          simp only [tg_axes, ta_axes, tg_items, ta_items, e2, e2w, c2, i2, cr, ir, tb_axes l2, tv_axes l2, tb_items hr, tv_items hr, epi, cpi, ipi, ci, iii, hB3, true_implies, false_implies, implies_true, and_true, true_and, forall_eq]
          have es : τ2.2.2.2 72 r (pp + jj) = F jj := by rw [hF, hap.2.2.1 72 r (pp + jj) (by omega)]
          rw [es]
          exact ⟨ii - (jj + 1), by omega, jj + 1, _, by omega, rfl, nI_1 jj, rfl, hap.s⟩
      · have htm'' : s_tm (tVw τ).1.1 (s_up (tVw τ).1.2.1 t (some (s_ax L ww ((List.range ii).map F)))) := etm.mp htm
        rw [s_if_p htm''] at hK
        exact ⟨fun _ => hK τ1 ((f1.sc (by decide) (by decide)).sp.inv hI) (f1.sc (by decide) (by decide)).sp.vw, fun h => absurd rfl h⟩
    · rw [if_pos es] at hK
      exact hK τ hI rfl
  · simp only [tg_others, ta_others, tu_others, ct, it, true_implies, false_implies, implies_true, and_true, true_and, forall_eq]
    rcases hot with ⟨h9, n9, _⟩ | ⟨b, hb, hba, my1, my8, h9, n9, e11, s9, eb⟩
    · rw [if_pos ⟨hw, n9⟩] at hK
      exact ⟨fun _ => hK τ hI rfl, fun q => absurd h9 q⟩
    · exact ⟨fun q => absurd q n9, fun _ q => by rw [s9] at q; cases q.2⟩
end UM
