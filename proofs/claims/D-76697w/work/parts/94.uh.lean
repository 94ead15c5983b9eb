set_option maxRecDepth 100000
/-! THE REFERENCE's operations: film, tells -/
section UH
variable {l : Launch} {g : zG} {d m0 : Nat} {τ τ' τm τ2 : tS} {hp : zHp} {nx : Nat}
/-- as it was, but for what was told and the items of a row -/
def tfL (r : Nat) (τ τ' : tS) : Prop := τ'.1 34 = τ.1 34 ∧ τ'.1 57 = τ.1 57 ∧ (∀ k i j, ¬ (14 ≤ k ∧ k ≤ 29) → k ≠ 49 → k ≠ 50 → ¬ (k = 73 ∧ i = r) → τ'.2.2.1 k i j = τ.2.2.1 k i j) ∧ ∀ k i j, ¬ (14 ≤ k ∧ k ≤ 29) → ¬ (k = 72 ∧ i = r) → τ'.2.2.2 k i j = τ.2.2.2 k i j
theorem tsc.fL {r : Nat} (h : tsc τ τ') : tfL r τ τ' := ⟨h.1 34 (by decide) (by decide) (by decide) (by decide), h.1 57 (by decide) (by decide) (by decide) (by decide), fun k i j a b c _ => by rw [h.2.2.1 k a b c], fun k i j a _ => by rw [h.2.2.2 k a]⟩
theorem tfL.tr {r : Nat} {a b c : tS} (h : tfL r a b) (h2 : tfL r b c) : tfL r a c := ⟨h2.1.trans h.1, h2.2.1.trans h.2.1, fun k i j p q s t => (h2.2.2.1 k i j p q s t).trans (h.2.2.1 k i j p q s t), fun k i j p q => (h2.2.2.2 k i j p q).trans (h.2.2.2 k i j p q)⟩
theorem tfL.rf {r : Nat} : tfL r τ τ := ⟨rfl, rfl, fun _ _ _ _ _ _ _ => rfl, fun _ _ _ _ _ => rfl⟩
theorem tfL.aI {r : Nat} {f : Nat → Int32} (h : tfL r τ τ') : tfL r τ (taI τ' 73 r f) := h.tr ⟨rfl, rfl, fun k i j _ _ _ q => by
  by_cases hk : k = 73
  · subst hk; rw [tqb (by omega)]
  · rw [tqc hk], fun _ _ _ _ _ => rfl⟩
theorem tfL.aD {r : Nat} {f : Nat → UInt64} (h : tfL r τ τ') : tfL r τ (taD τ' 72 r f) := h.tr ⟨rfl, rfl, fun _ _ _ _ _ _ _ => rfl, fun k i j _ q => by
  by_cases hk : k = 72
  · subst hk; rw [tqi (by omega)]
  · rw [tqj hk]⟩
theorem tfL.pe {r : Nat} (h : tfL r τ τ') : tpe τ τ' := ⟨fun k hk => funext fun i => funext fun j => h.2.2.1 k i j (by omega) (by omega) (by omega) (by omega), fun k hk => funext fun i => funext fun j => h.2.2.2 k i j (by omega) (by omega)⟩
/-- the cases as items -/
noncomputable def s_flm (S : sSt) (L : sL) : List (Option UInt64) := (List.range (s_nc L)).map fun k => if (s_cv S L (k / s_my L) (k % s_my L)).2.1 = 0 then some (s_cv S L (k / s_my L) (k % s_my L)).1 else none
noncomputable def o_film (A : sV) (x y : Int32) : Int32 × sV := match s_tx x with
  | none => (-2, A)
  | some t => match s_rx y with
    | none => (-2, A)
    | some r => match A.1.2.1 t with
      | none => (-3, A)
      | some L => (nI (s_nc L), v_rw A (s_up A.2.2.2 r (some (3, s_flm A.1 L))))
theorem to_film {x y : Int32} {K : Int32 → zHp → Nat → Prop} (hd : 200 ≤ d) (hB : zB g ≤ m0) (hI : tINV τ) (hK : ∀ τ', tINV τ' → tVw τ' = (o_film (tVw τ) x y).2 → K (o_film (tVw τ) x y).1 (tput g m0 τ' hp) nx) : zMt l g yX5_film cX5_film 5 (some .int) d 0 0 [.ref m0, .int x, .int y] (tput g m0 τ hp) nx (zQi g K) := by
  obtain ⟨d, rfl⟩ := Nat.exists_eq_add_of_le' (show 1 ≤ d by omega)
  apply met_X5_film
  unfold wp_X5_film
  unfold o_film at hK
  refine t_isTable' (by omega) ?_
  refine ⟨_, fun _ _ h => h, ?_⟩
  rcases s_tx_of x with hx | ⟨t, ht, rfl⟩
  · simp only [s_tx, if_pos hx] at hK ⊢
    exact ⟨fun _ => hK τ hI rfl, fun h => absurd (by trivial) h⟩
  · simp only [s_tx_s ht] at hK
    rw [if_neg (s_tx_n ht)]
    refine ⟨fun h => absurd h (by decide), fun _ => ?_⟩
    refine t_isRow' (by omega) ?_
    rcases s_rx_of y with hy | ⟨r, hr, rfl⟩
    · simp only [s_rx, if_pos hy] at hK ⊢
      exact ⟨fun _ => hK τ hI rfl, fun h => absurd (by trivial) h⟩
    · simp only [s_rx_s hr] at hK
      rw [if_neg (s_rx_n hr)]
      refine ⟨fun h => absurd h (by decide), fun _ => ?_⟩
      have ct : (nI t).toNatClampNeg = t := nI_clamp (by omega)
      have it : vp_in (nI t) 6 := vp_in_nI ht (by decide)
      have cr : (nI r).toNatClampNeg = r := nI_clamp (by omega)
      have ir : vp_in (nI r) 4 := vp_in_nI hr (by decide)
      have hB2 : ∀ n, zB g ≤ m0 + n := fun n => by omega
      have hB3 : ∀ a b n, zB g ≤ m0 + a + b + n := fun a b n => by omega
      have el : (tVw τ).1.2.1 t = tly τ t := rfl
      rw [el] at hK
      simp only [tg_laid, ta_laid, tu_laid, ct, it, true_implies, false_implies, implies_true, and_true, true_and, forall_eq]
      refine ⟨fun h6 => ?_, fun h6 => ?_⟩
      · rw [tly_none.mp h6] at hK
        exact hK τ hI rfl
      · obtain ⟨L, hL⟩ : ∃ L, tly τ t = some L := by
          cases hl : tly τ t with
          | none => exact absurd (tly_none.mpr hl) h6
          | some L => exact ⟨L, rfl⟩
        rw [hL] at hK
        simp only at hK
        obtain ⟨⟨rk, hO⟩, hnb, hx⟩ := hI.1
        obtain ⟨_, lo, la, e7, e8, ⟨hn1, hn8, e10⟩, eax, hot⟩ := tly_some hO.2.1 ht hL
        have e2 : (2 : Int32) * nI t = nI (2 * t) := pk_mul 2 t
        have e21 : nI (2 * t) + 1 = nI (2 * t + 1) := nI_1 _
        have c21 : (nI (2 * t + 1)).toNatClampNeg = 2 * t + 1 := nI_clamp (by omega)
        have i21 : vp_in (nI (2 * t + 1)) 12 := vp_in_nI (by omega) (by decide)
        obtain ⟨my, hmy⟩ : ∃ my, my = s_my L := ⟨_, rfl⟩
        have my1 : 1 ≤ my ∧ my ≤ 8 := by
          rcases hot with ⟨_, _, _, q⟩ | ⟨_, _, _, q1, q2, _⟩ <;> omega
        obtain ⟨n, hn⟩ : ∃ n, n = s_nc L := ⟨_, rfl⟩
        have hnl : n = L.2.2.2.1.length * my := by rw [hn]; unfold s_nc; rw [hmy]
        have h64 : n ≤ 64 := by rw [hnl]; exact Nat.le_trans (Nat.mul_le_mul hn8 my1.2) (by decide)
        rw [← hn] at hK
        simp only [tg_others, ta_others, tu_others, tg_axisSizes, ta_axisSizes, tu_axisSizes, ct, it, e2, e21, c21, i21, true_implies, false_implies, implies_true, and_true, true_and, forall_eq]
        obtain ⟨P, hP⟩ : ∃ P : Int32 → zHp → Nat → Prop, P = (fun last h n' => last = nI my ∧ h = tput g m0 τ hp ∧ nx = n') := ⟨_, rfl⟩
        refine ⟨P, ?_, ?_⟩
        · intro last h n' hh
          rw [hP] at hh
          obtain ⟨rfl, rfl, rfl⟩ := hh
          simp only [tg_rows, ta_rows, tu_rows, tg_lengths, ta_lengths, tu_lengths, cr, ir, hB2, true_implies, false_implies, implies_true, and_true, true_and, forall_eq, tw_zo]
          have pe0 : tpe τ (taI τ 70 0 (va_up (τ.2.2.1 70 0) r 3)) := ⟨fun k hk => tqc (by omega), fun _ _ => rfl⟩
          refine t_cases (L := L) (by omega) (hO.pe pe0).2.1 ht (by rw [pe0.ly]; exact hL) ?_
          simp only [tg_lengths, ta_lengths, tu_lengths, cr, ir, hB2, true_implies, false_implies, implies_true, and_true, true_and, forall_eq, tq1, tq3, tq4, tq5, tq7, tq8, tq9, tqa, tqc, tqd, tqe, tqf, tqg, tqh, tqj, va_s, ne_eq, reduceCtorEq, not_false_eq_true, not_true_eq_false, if_true, if_false, Nat.reduceEqDiff]
          rw [← hn]
          obtain ⟨τ0, hτ0⟩ : ∃ τ0, τ0 = taI (taI τ 70 0 (va_up (τ.2.2.1 70 0) r 3)) 71 0 (va_up (τ.2.2.1 71 0) r (nI n)) := ⟨_, rfl⟩
          rw [← hτ0]
          have peτ0 : tpe τ τ0 := by rw [hτ0]; exact ⟨fun k hk => by rw [tqc (by omega), tqc (by omega)], fun _ _ => rfl⟩
          have z70 : τ0.2.2.1 70 0 r = nI 3 := by rw [hτ0, tqc (by decide), tqa, va_s]; rfl
          have z71 : τ0.2.2.1 71 0 r = nI n := by rw [hτ0, tqa, va_s]
          have z0 : ∀ k i j, ¬ (k = 70 ∧ i = 0 ∧ j = r) → ¬ (k = 71 ∧ i = 0 ∧ j = r) → τ0.2.2.1 k i j = τ.2.2.1 k i j := by
            intro k i j a1 a2
            rw [hτ0]
            by_cases hk : k = 71
            · subst hk
              by_cases hi : i = 0
              · subst hi; rw [tqa, va_o (by omega)]
              · rw [tqb hi, tqc (by decide)]
            · rw [tqc hk]
              by_cases hk : k = 70
              · subst hk
                by_cases hi : i = 0
                · subst hi; rw [tqa, va_o (by omega)]
                · rw [tqb hi]
              · rw [tqc hk]
          obtain ⟨cv, hcv⟩ : ∃ cv : Nat → sT, cv = fun k => s_cv (tst τ) L (k / my) (k % my) := ⟨_, rfl⟩
          refine ⟨fun m last i h nx' => ∃ ii τ1, ii ≤ n ∧ m = n - ii ∧ i = nI ii ∧ last = nI my ∧ h = tput g m0 τ1 hp ∧ nx = nx' ∧ tfL r τ0 τ1 ∧ ∀ k, k < ii → (if (cv k).2.1 = 0 then τ1.2.2.1 73 r k = 0 ∧ τ1.2.2.2 72 r k = (cv k).1 else τ1.2.2.1 73 r k = 1 ∧ τ1.2.2.2 72 r k = 0), ⟨n, 0, τ0, by omega, rfl, rfl, rfl, rfl, rfl, tfL.rf, fun k hk => absurd hk (by omega)⟩, ?_⟩
          rintro m _ _ _ _ ⟨ii, τ1, hii, hm, rfl, rfl, rfl, rfl, f1, hks⟩
          have pe1 : tpe τ τ1 := ⟨fun k hk => (f1.pe.1 k hk).trans (peτ0.1 k hk), fun k hk => (f1.pe.2 k hk).trans (peτ0.2 k hk)⟩
          have k71 : τ1.2.2.1 71 0 r = nI n := by rw [f1.2.2.1 71 0 r (by omega) (by omega) (by omega) (by omega)]; exact z71
          have k70 : τ1.2.2.1 70 0 r = nI 3 := by rw [f1.2.2.1 70 0 r (by omega) (by omega) (by omega) (by omega)]; exact z70
          have hcB : ∀ k, s_B (cv k).1 := fun k => by
            rw [hcv]
            exact s_EV_B hO.2.2.1 hO.1.mo hO.2.2.2.1 hO.2.2.2.2.1 hO.2.2.2.2.2.1 _ L.1 (Nat.lt_succ_self _) lo _ (s_bi_B hO.2.2.2.2.2.2.1 (hO.2.2.2.2.2.1 t ht L hL).1 (hO.2.2.2.2.2.1 t ht L hL).2.1)
          simp only [tg_lengths, ta_lengths, tu_lengths, cr, ir, k71, true_implies, false_implies, implies_true, and_true, true_and, forall_eq]
          refine pk_le n ii (fun hle => ?_) (fun hlt => ?_)
          · have : ii = n := by omega
            subst this
            have hrow : tR1 τ1 r := by
              refine Or.inr ⟨3, ii, by decide, h64, k70, k71, fun k hk => ?_, fun k hk => ?_, fun q => absurd rfl q⟩
              · have := hks k hk
                split at this
                · exact Or.inl this.1
                · exact Or.inr this.1
              · have := hks k hk
                split at this
                · rw [this.2]; exact hcB k
                · rw [this.2]; exact fk_B0
            -- as it was before, but for the row (the scratch rides along)
            have hsp : tINV τ1 ∧ tVw τ1 = v_rw (tVw τ) (s_up (trw τ) r (trw τ1 r)) := by
              obtain ⟨τa, hτa⟩ : ∃ τa : tS, τa = (τ.1, τ.2.1, (fun k => if 14 ≤ k ∧ k ≤ 29 ∨ k = 49 ∨ k = 50 then τ.2.2.1 k else τ1.2.2.1 k), fun k => if 14 ≤ k ∧ k ≤ 29 then τ.2.2.2 k else τ1.2.2.2 k) := ⟨_, rfl⟩
              have aI : ∀ k, ¬ (14 ≤ k ∧ k ≤ 29) → k ≠ 49 → k ≠ 50 → τa.2.2.1 k = τ1.2.2.1 k := fun k a b c => by rw [hτa]; exact if_neg (by omega)
              have aD : ∀ k, ¬ (14 ≤ k ∧ k ≤ 29) → τa.2.2.2 k = τ1.2.2.2 k := fun k a => by rw [hτa]; exact if_neg a
              have hra : tR1 τa r := by
                unfold tR1
                rw [aI 70 (by omega) (by omega) (by omega), aI 71 (by omega) (by omega) (by omega), aI 73 (by omega) (by omega) (by omega), aD 72 (by omega)]
                exact hrow
              have tra : trw τa r = trw τ1 r := by
                unfold trw
                rw [aI 70 (by omega) (by omega) (by omega), aI 71 (by omega) (by omega) (by omega), aI 73 (by omega) (by omega) (by omega), aD 72 (by omega)]
              obtain ⟨r1, r2⟩ := tINV_rw (τm := τa) (r := r) hI (fun k i j _ a1 a2 a3 => by
                  by_cases hk : 14 ≤ k ∧ k ≤ 29 ∨ k = 49 ∨ k = 50
                  · rw [hτa]; show (if _ then _ else _ : Nat → Nat → Int32) i j = _; rw [if_pos hk]
                  · rw [aI k (by omega) (by omega) (by omega), f1.2.2.1 k i j (by omega) (by omega) (by omega) a3, z0 k i j a1 a2]) (fun k i j _ a1 => by
                  by_cases hk : 14 ≤ k ∧ k ≤ 29
                  · rw [hτa]; show (if _ then _ else _ : Nat → Nat → UInt64) i j = _; rw [if_pos hk]
                  · rw [aD k hk, f1.2.2.2 k i j hk a1, hτ0]; rfl) (by rw [hτa]) (by rw [hτa]) hra
              have sp : tsp τa τ1 := by
                refine ⟨?_, ?_, fun k hk => (aI k (by omega) (by omega) (by omega)).symm, fun k hk => (aD k (by omega)).symm⟩
                · rw [f1.1, hτ0, hτa]; rfl
                · rw [f1.2.1, hτ0, hτa]; rfl
              rw [tra] at r2
              exact ⟨sp.inv r1, sp.vw.trans r2⟩
            refine hK τ1 hsp.1 ?_
            rw [hsp.2, trw_some (by decide) h64 k70 k71]
            unfold s_flm
            rw [← hn, ← hmy]
            congr 3
            congr 1
            refine List.map_congr_left fun k hk => ?_
            have hk := List.mem_range.mp hk
            have := hks k hk
            have ecv : cv k = s_cv (tVw τ).1 L (k / my) (k % my) := by rw [hcv]; rfl
            rw [ecv] at this
            by_cases he : (s_cv (tVw τ).1 L (k / my) (k % my)).2.1 = 0
            · rw [if_pos he] at this ⊢
              rw [this.1, this.2, if_pos rfl]
            · rw [if_neg he] at this ⊢
              rw [this.1, if_neg (by decide)]
          · have nmy : ¬ nI my = 0 := nI_ne0 (by omega) (by omega)
            refine ⟨nmy, nmy, ?_⟩
            have ed : nI ii / nI my = nI (ii / my) := pk_div (by omega) (by omega) (by omega)
            have em : nI ii - nI (ii / my) * nI my = nI (ii % my) := by rw [← ed]; exact pk_rem (by omega) (by omega) (by omega)
            rw [ed, em, tw_zo]
            have hdi : ii / my < L.2.2.2.1.length := Nat.div_lt_of_lt_mul (by rw [Nat.mul_comm]; omega)
            have hmi : ii % my < my := Nat.mod_lt _ (by omega)
            refine t_tellCaseNow (τ := τ1) (L := L) (by omega) hB (hO.pe pe1) ht (by rw [pe1.ly]; exact hL) hdi (by omega) fun τ2 f2 qv => ?_
            have rv : cv ii = (τ2.2.1 30, τ2.1 31, τ2.1 32) := by
              rw [qv, hcv, pe1.fm, pe1.ly, pe1.kd, pe1.ow]
              rfl
            have v30 : τ2.2.1 30 = (cv ii).1 := by rw [rv]
            have v31 : τ2.1 31 = (cv ii).2.1 := by rw [rv]
            have f12 := f1.tr (f2.fL (r := r))
            have ci : (nI ii).toNatClampNeg = ii := nI_clamp (by omega)
            have iii : vp_in (nI ii) 64 := vp_in_nI (by omega) (by decide)
            have nb : ∀ b : Int32, (b = 0 ∨ b = 1) → vp_nar .boolean b = b := fun b h => vp_nb h
            have old : ∀ k, k < ii → τ2.2.2.1 73 r k = τ1.2.2.1 73 r k ∧ τ2.2.2.2 72 r k = τ1.2.2.2 72 r k := fun k _ => ⟨by rw [f2.2.2.1 73 (by omega) (by omega) (by omega)], by rw [f2.2.2.2 72 (by omega)]⟩
            by_cases he : (cv ii).2.1 = 0
            · simp only [tg_items, ta_items, tg_caseError, tp_caseError, tg_caseValue, tp_caseValue, cr, ir, v30, v31, he, not_true_eq_false, true_implies, false_implies, implies_true, and_true, true_and, forall_eq]
              refine ⟨_, fun _ _ _ _ _ _ _ h => h, ?_⟩
              simp only [tg_isFailed, ta_isFailed, tg_caseError, tp_caseError, cr, ir, tb_items hr, tv_items hr, ci, iii, hB3, v31, he, not_true_eq_false, true_implies, false_implies, implies_true, and_true, true_and, forall_eq, tq1, tq3, tq4, tq5, tq7, tq8, tq9, tqa, tqc, tqd, tqe, tqf, tqg, tqh, tqj, va_s, ne_eq, reduceCtorEq, not_false_eq_true, not_true_eq_false, if_true, if_false, Nat.reduceEqDiff]
              refine ⟨_, fun _ _ _ _ _ _ _ h => h, ?_⟩
              simp only [tb_isFailed hr, tv_isFailed hr, ci, iii, hB3, nb 0 (Or.inl rfl), true_implies, false_implies, implies_true, and_true, true_and, forall_eq, tq1, tq3, tq4, tq5, tq7, tq8, tq9, tqa, tqc, tqd, tqe, tqf, tqg, tqh, tqj, va_s, ne_eq, reduceCtorEq, not_false_eq_true, not_true_eq_false, if_true, if_false, Nat.reduceEqDiff]
              refine ⟨n - (ii + 1), by omega, ii + 1, _, by omega, rfl, nI_1 ii, rfl, (f12.aD).aI, fun k hk => ?_⟩
              rw [tqa, tqd, tqh]
              by_cases e : k = ii
              · subst e; rw [if_pos he, va_s, va_s]; exact ⟨rfl, rfl⟩
              · rw [va_o e, va_o e, (old k (by omega)).1, (old k (by omega)).2]; exact hks k (by omega)
            · simp only [tg_items, ta_items, tg_caseError, tp_caseError, tg_caseValue, tp_caseValue, cr, ir, v31, he, not_false_eq_true, true_implies, false_implies, implies_true, and_true, true_and, forall_eq]
              refine ⟨_, fun _ _ _ _ _ _ _ h => h, ?_⟩
              simp only [tg_isFailed, ta_isFailed, tg_caseError, tp_caseError, cr, ir, tb_items hr, tv_items hr, ci, iii, hB3, v31, he, not_false_eq_true, true_implies, false_implies, implies_true, and_true, true_and, forall_eq, tq1, tq3, tq4, tq5, tq7, tq8, tq9, tqa, tqc, tqd, tqe, tqf, tqg, tqh, tqj, va_s, ne_eq, reduceCtorEq, not_false_eq_true, not_true_eq_false, if_true, if_false, Nat.reduceEqDiff]
              refine ⟨_, fun _ _ _ _ _ _ _ h => h, ?_⟩
              simp only [tb_isFailed hr, tv_isFailed hr, ci, iii, hB3, nb 1 (Or.inr rfl), true_implies, false_implies, implies_true, and_true, true_and, forall_eq, tq1, tq3, tq4, tq5, tq7, tq8, tq9, tqa, tqc, tqd, tqe, tqf, tqg, tqh, tqj, va_s, ne_eq, reduceCtorEq, not_false_eq_true, not_true_eq_false, if_true, if_false, Nat.reduceEqDiff]
              refine ⟨n - (ii + 1), by omega, ii + 1, _, by omega, rfl, nI_1 ii, rfl, (f12.aD).aI, fun k hk => ?_⟩
              rw [tqa, tqd, tqh]
              by_cases e : k = ii
              · subst e; rw [if_neg he, va_s, va_s]; exact ⟨rfl, rfl⟩
              · rw [va_o e, va_o e, (old k (by omega)).1, (old k (by omega)).2]; exact hks k (by omega)
        · rw [hP]
          rcases hot with ⟨q9, _, _, q⟩ | ⟨b, _, _, q1, q2, q9, qn, q11, _⟩
          · refine ⟨fun _ => ⟨?_, rfl, rfl⟩, fun h => absurd q9 h⟩
            rw [hmy, q]; rfl
          · refine ⟨fun h => absurd h qn, fun _ => ⟨?_, rfl, rfl⟩⟩
            rw [q11, ← hmy]
end UH
