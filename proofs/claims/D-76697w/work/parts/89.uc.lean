set_option maxRecDepth 100000
/-! THE REFERENCE's operations: asks -/
section UC
variable {l : Launch} {g : zG} {d m0 : Nat} {τ τ' τm τ2 : tS} {hp : zHp} {nx : Nat}
noncomputable def o_ask (S : sSt) (t : Nat) (L : sL) (w : Nat) : Int32 :=
  if w = 0 then s_ca (s_my L) (s_bst s_lt (fun k => s_cv S L (k / s_my L) (k % s_my L)) (s_nc L))
  else if w = 1 then s_ca (s_my L) (s_bst (fun x y => s_lt y x) (fun k => s_cv S L (k / s_my L) (k % s_my L)) (s_nc L))
  else if w = 2 then s_ms (s_sl S L) 24
  else if w = 3 then nI (s_TL S.1 S.2.1 S.2.2.1 t)
  else if w = 4 then nI (s_BU S.1 S.2.1 L.1 * s_nc L)
  else if w = 5 then nI L.2.2.2.1.length
  else if w = 6 then (if L.2.2.1 = none then 0 else nI (s_my L))
  else nI (s_uo S L (w - 7))
noncomputable def o_asks (A : sV) (x w : Int32) : Int32 := match s_tx x with
  | none => -2
  | some t => if w < 0 ∨ 8 < w then -2 else match A.1.2.1 t with
    | none => -3
    | some L => o_ask A.1 t L w.toNatClampNeg
theorem to_asks {x w : Int32} {K : Int32 → zHp → Nat → Prop} (hd : 200 ≤ d) (hB : zB g ≤ m0) (hI : tINV τ) (hK : ∀ τ', tINV τ' → tVw τ' = tVw τ → K (o_asks (tVw τ) x w) (tput g m0 τ' hp) nx) : zMt l g yX5_asks cX5_asks 4 (some .int) d 0 0 [.ref m0, .int x, .int w] (tput g m0 τ hp) nx (zQi g K) := by
  obtain ⟨d, rfl⟩ := Nat.exists_eq_add_of_le' (show 1 ≤ d by omega)
  apply met_X5_asks
  unfold wp_X5_asks
  unfold o_asks at hK
  refine t_isTable' (by omega) ?_
  refine ⟨_, fun _ _ h => h, ?_⟩
  rcases s_tx_of x with hx | ⟨t, ht, rfl⟩
  · simp only [s_tx, if_pos hx] at hK ⊢
    exact ⟨fun _ => hK τ hI rfl, fun h => absurd (by trivial) h⟩
  · simp only [s_tx_s ht] at hK
    rw [if_neg (s_tx_n ht)]
    refine ⟨fun h => absurd h (by decide), fun _ => ?_⟩
    refine t_in' (by omega) ?_
    rcases s_x_of (x := w) (M := 8) (n := 8) (by decide) with hv | ⟨f, hf, rfl⟩
    · rw [if_pos hv] at hK ⊢
      exact ⟨fun _ => hK τ hI rfl, fun h => absurd (by trivial) h⟩
    · have hv := s_nx (n := 8) (M := 8) (by decide) hf (by decide)
      rw [if_neg hv] at hK ⊢
      refine ⟨fun h => absurd h (by decide), fun _ => ?_⟩
      have ct : (nI t).toNatClampNeg = t := nI_clamp (by omega)
      have it : vp_in (nI t) 6 := vp_in_nI ht (by decide)
      have el : (tVw τ).1.2.1 t = tly τ t := rfl
      rw [el, nI_clamp (show f < 2 ^ 31 by omega)] at hK
      rw [tg_laid, ta_laid]
      refine ⟨it, fun x6 hx6 => ?_⟩
      rw [ct] at hx6
      subst hx6
      refine ⟨fun h6 => ?_, fun h6 => ?_⟩
      · rw [tly_none.mp h6] at hK
        exact hK τ hI rfl
      · obtain ⟨L, hL⟩ : ∃ L, tly τ t = some L := by
          cases hl : tly τ t with
          | none => exact absurd (tly_none.mpr hl) h6
          | some L => exact ⟨L, rfl⟩
        rw [hL] at hK
        simp only at hK
        have hI0 := hI
        obtain ⟨⟨⟨rk, hO⟩, hnb, hx⟩, hN, -⟩ := hI0
        obtain ⟨_, lo, la, e7, e8, ⟨hn1, hn8, e10⟩, eax, hot⟩ := tly_some hO.2.1 ht hL
        have e2 : (2 : Int32) * nI t = nI (2 * t) := pk_mul 2 t
        have e21 : nI (2 * t) + 1 = nI (2 * t + 1) := nI_1 _
        have c2 : (nI (2 * t)).toNatClampNeg = 2 * t := nI_clamp (by omega)
        have c21 : (nI (2 * t + 1)).toNatClampNeg = 2 * t + 1 := nI_clamp (by omega)
        have i2 : vp_in (nI (2 * t)) 12 := vp_in_nI (by omega) (by decide)
        have i21 : vp_in (nI (2 * t + 1)) 12 := vp_in_nI (by omega) (by decide)
        unfold o_ask at hK
        refine pk_le 2 f (fun h2 => ?_) (fun h2 => ?_)
        · rw [if_neg (by omega), if_neg (by omega)] at hK
          refine pk_eq f 2 (fun w2 => ?_) (fun w2 => pk_eq f 4 (fun w4 => ?_) (fun w4 => pk_eq f 5 (fun w5 => ?_) (fun w5 => pk_eq f 6 (fun w6 => ?_) (fun w6 => pk_le f 6 (fun h36 => ?_) (fun h36 => ?_)))))
          · rw [if_pos w2] at hK
            rw [tw_zo]
            refine t_slice (by omega) hB hO hN ht hL fun τ1 f1 => ?_
            exact tsp_vw_inv hI hK (f1.sc (by decide) (by decide)).sp
          · rw [if_neg w2, if_neg (by omega), if_pos w4] at hK
            simp only [tg_outputs, ta_outputs, tu_outputs, ct, it, e7, true_implies, false_implies, implies_true, and_true, true_and, forall_eq, tw_zo]
            refine t_burdenNow (by omega) hB hO hN lo fun τ1 f1 hM1 => ?_
            have pe1 := f1.pe (by decide) (by decide)
            rw [tw_zo]
            refine t_burdenOfTable (n := 30) (L := L) (t_burdenOf hB 30) ht (by rw [pe1.ly]; exact hL) (hO.2.2.2.1 L.1 (by omega)) (by have := hO.2.2.2.1 L.1 (by omega); omega) (hO.pe pe1) (hN.pe pe1) hM1 fun τ2 f2 _ => ?_
            rw [pe1.fm, pe1.ly]
            have eb : s_bt (tfm τ) (tly τ) t = s_BU (tfm τ) (tly τ) L.1 * s_nc L := by
              have h1 : ¬ 2000 < s_BU (tfm τ) (tly τ) L.1 * s_nc L := fun h => hx.2.2.2.2 (Or.inr ⟨t, ht, L, hL, h⟩)
              have h3 : ¬ 2000 < s_BU (tfm τ) (tly τ) L.1 := fun h => hx.2.2.2.2 (Or.inl ⟨L.1, lo, h⟩)
              have h4 : s_mn (s_BU (tfm τ) (tly τ) L.1) = s_BU (tfm τ) (tly τ) L.1 := by unfold s_mn; omega
              unfold s_bt
              rw [hL]
              simp only
              rw [h4]
              generalize s_BU (tfm τ) (tly τ) L.1 * s_nc L = X at h1 ⊢
              unfold s_mn
              omega
            rw [eb]
            exact tsp_vw_inv hI hK ((f1.tr f2).sc (by decide) (by decide)).sp
          · rw [if_neg w2, if_neg (by omega), if_neg w4, if_pos w5] at hK
            simp only [tg_axisSizes, ta_axisSizes, tu_axisSizes, e2, c2, i2, e10, true_implies, false_implies, implies_true, and_true, true_and, forall_eq]
            exact hK τ hI rfl
          · rw [if_neg w2, if_neg (by omega), if_neg w4, if_neg w5, if_pos w6] at hK
            simp only [tg_others, ta_others, tu_others, tg_axisSizes, ta_axisSizes, tu_axisSizes, ct, it, e2, e21, c21, i21, true_implies, false_implies, implies_true, and_true, true_and, forall_eq]
            refine ⟨_, fun _ _ _ h => h, ?_⟩
            rcases hot with ⟨h9, n9, b9, my⟩ | ⟨b, hb, hba, my1, my8, h9, n9, e11, s9, eb⟩
            · rw [if_pos n9] at hK
              exact ⟨fun _ => hK τ hI rfl, fun h => absurd h9 h⟩
            · rw [if_neg (by rw [s9]; exact fun h => by cases h)] at hK
              rw [e11]
              exact ⟨fun h => absurd h n9, fun _ => hK τ hI rfl⟩
          · have w3 : f = 3 := by omega
            rw [if_neg w2, if_pos w3] at hK
            have hB2 : ∀ n, zB g ≤ m0 + n := fun n => by omega
            have n0 : vp_nar .boolean 0 = 0 := by decide
            refine ⟨fun n i h nx' => ∃ ii τ1, ii ≤ 6 ∧ n = 6 - ii ∧ i = nI ii ∧ h = tput g m0 τ1 hp ∧ nx = nx' ∧ tlf τ τ1 ∧ ∀ j, j < ii → τ1.2.2.1 49 0 j = 0, ⟨6, 0, τ, by omega, rfl, rfl, rfl, rfl, tlf.rf, fun j hj => absurd hj (by omega)⟩, ?_⟩
            rintro n _ _ _ ⟨ii, τ1, hii, hn, rfl, rfl, rfl, f1, h49⟩
            refine pk_le 6 ii (fun hle => ?_) (fun hlt => ?_)
            · rw [tw_zo]
              refine t_toldLeast hB 30 d t L τ1 _ ht (hO.2.2.2.1 _ (by omega)) (by have := hO.2.2.2.1 (24 + t) (by omega); omega) (hO.pe f1.pe) (hN.pe f1.pe) (by rw [f1.pe.ly]; exact hL) (fun u hu h => absurd (h49 u (by omega)) h) fun τ2 f2 _ => ?_
              rw [f1.pe.fm, f1.pe.ly, f1.pe.kd]
              exact tsp_vw_inv hI hK (f1.tr f2).sc.sp
            · have ci : (nI ii).toNatClampNeg = ii := nI_clamp (by omega)
              have iii : vp_in (nI ii) 6 := vp_in_nI hlt (by decide)
              simp only [tg_hasLeast, ta_hasLeast, tu_hasLeast, ci, iii, hB2, n0, true_implies, false_implies, implies_true, and_true, true_and, forall_eq]
              refine ⟨6 - (ii + 1), by omega, ii + 1, _, by omega, rfl, nI_1 ii, rfl, f1.aI (Or.inl rfl), fun j hj => ?_⟩
              rw [tqa]
              by_cases e : j = ii
              · rw [e, va_s]
              · rw [va_o e]; exact h49 j (by omega)
          · rw [if_neg w2, if_neg (by omega), if_neg w4, if_neg w5, if_neg w6] at hK
            have es : nI f - 7 = nI (f - 7) := pk_sub (a := f) (b := 7) (by omega)
            rw [es, tw_zo]
            refine t_unlikeOnes (w := f - 7) (L := L) (by omega) hB hO ht (by omega) hL ?_
            exact hK τ hI rfl
        · obtain ⟨P, hP⟩ : ∃ P : Option Nat → Int32 → Int32 → zHp → Nat → Prop, P = (fun r a b h n' => r = some m0 ∧ a = nI t ∧ b = (if f = 0 then 1 else 0) ∧ h = tput g m0 τ hp ∧ nx = n') := ⟨_, rfl⟩
          refine ⟨P, ?_, ?_⟩
          · intro r a b h n' hh
            rw [hP] at hh
            obtain ⟨rfl, rfl, rfl, rfl, rfl⟩ := hh
            rw [tw_zo]
            refine t_caseOf (L := L) (by omega) hB hO ht hL fun τ1 f1 => ?_
            by_cases f0 : f = 0
            · rw [if_pos f0] at hK
              rw [if_pos f0, if_neg (by decide)]
              exact tsp_vw_inv hI hK f1.sp
            · rw [if_neg f0, if_pos (by omega)] at hK
              rw [if_neg f0, if_pos rfl]
              exact tsp_vw_inv hI hK f1.sp
          · rw [hP]
            refine pk_eq f 0 (fun h => ?_) (fun h => ?_)
            · rw [if_pos h]; exact ⟨rfl, rfl, rfl, rfl, rfl⟩
            · rw [if_neg h]; exact ⟨rfl, rfl, rfl, rfl, rfl⟩
end UC
