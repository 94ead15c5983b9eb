set_option maxRecDepth 100000
/-! THE REFERENCE's operations: axis -/
section UL
variable {l : Launch} {g : zG} {d m0 : Nat} {τ τ' τm τ1 τ2 : tS} {hp : zHp} {nx : Nat}
theorem t_hasRoom {t w n : Nat} {L : sL} {K : Int32 → zHp → Nat → Prop} (hd : 60 ≤ d) (hB : zB g ≤ m0) (hI : tINV τ) (ht : t < 6) (hw : w < 2) (hL : tly τ t = some L) (hn : 1 ≤ n ∧ n ≤ 8) (hw1 : w = 1 → L.2.2.1 ≠ none)
    (hK1 : ¬ s_tm (tfm τ) (s_up (tly τ) t (some (s_ax L w ((List.range n).map (τ.2.2.2 11 (2 * t + w)))))) → ∀ τ', trf 16 17 (tas τ (2 * t + w) n) τ' → K 1 (tput g m0 τ' hp) nx)
    (hK0 : s_tm (tfm τ) (s_up (tly τ) t (some (s_ax L w ((List.range n).map (τ.2.2.2 11 (2 * t + w)))))) → ∀ τ', trf 16 17 τ τ' → K 0 (tput g m0 τ' hp) nx) : zMt l g yX5_hasRoom cX5_hasRoom 7 (some .boolean) d 0 0 [.ref m0, .int (nI t), .int (nI w), .int (nI n)] (tput g m0 τ hp) nx (zQi g K) := by
  obtain ⟨d, rfl⟩ := Nat.exists_eq_add_of_le' (show 1 ≤ d by omega)
  apply met_X5_hasRoom
  unfold wp_X5_hasRoom
  have e2 : (2 : Int32) * nI t = nI (2 * t) := pk_mul 2 t
  have e2w : nI (2 * t) + nI w = nI (2 * t + w) := nI_add _ _
  have c2 : (nI (2 * t + w)).toNatClampNeg = 2 * t + w := nI_clamp (by omega)
  have i2 : vp_in (nI (2 * t + w)) 12 := vp_in_nI (by omega) (by decide)
  have hB2 : ∀ n, zB g ≤ m0 + n := fun n => by omega
  simp only [tg_axisSizes, ta_axisSizes, tu_axisSizes, e2, e2w, c2, i2, hB2, true_implies, false_implies, implies_true, and_true, true_and, forall_eq, tw_zo]
  obtain ⟨⟨rk, hO⟩, -, hst, hNs⟩ := tSh_ax (τm := tas τ (2 * t + w) n) hI.1 hI.2.1 ht hw hL hn hw1 (fun k _ hk => tqc hk) rfl (fun _ _ _ _ _ => rfl) (fun j hj => hI.1.2.1.2 _ j (by omega) hj)
  have efm : tfm (tas τ (2 * t + w) n) = tfm τ := congrArg Prod.fst hst
  have ely : tly (tas τ (2 * t + w) n) = s_up (tly τ) t (some (s_ax L w ((List.range n).map (τ.2.2.2 11 (2 * t + w))))) := congrArg (fun q => q.2.1) hst
  refine t_isTooMuch (τ := tas τ (2 * t + w) n) (by omega) hB hO hNs fun τ1 f1 => ?_
  rw [efm, ely]
  by_cases htm : s_tm (tfm τ) (s_up (tly τ) t (some (s_ax L w ((List.range n).map (τ.2.2.2 11 (2 * t + w))))))
  · rw [s_if_p htm]
    refine ⟨_, fun _ _ _ _ _ h => h, ?_⟩
    refine ⟨fun h => absurd h (by decide), fun _ => ?_⟩
    refine ⟨_, fun _ _ _ _ _ h => h, ?_⟩
    refine ⟨fun _ => ?_, fun h => absurd rfl h⟩
    simp only [tg_axisSizes, ta_axisSizes, tu_axisSizes, c2, i2, hB2, true_implies, false_implies, implies_true, and_true, true_and, forall_eq]
    refine ⟨Or.inl trivial, hK0 htm _ ⟨f1.1, f1.2.1, f1.2.2.1, fun k a b => ?_⟩⟩
    funext i j
    by_cases hk : k = 10
    · subst hk
      have e := f1.2.2.2 10 (by decide) (by decide)
      by_cases hi : i = 0
      · subst hi
        rw [tqa]
        by_cases hj : j = 2 * t + w
        · subst hj; rw [va_s]
        · rw [va_o hj, e]; unfold tas; rw [tqa, va_o hj]
      · rw [tqb hi, e]; unfold tas; rw [tqb hi]
    · rw [tqc hk, f1.2.2.2 k a b]; unfold tas; rw [tqc hk]
  · rw [s_if_n htm]
    refine ⟨_, fun _ _ _ _ _ h => h, ?_⟩
    refine ⟨fun _ => ?_, fun h => absurd rfl h⟩
    refine ⟨_, fun _ _ _ _ _ h => h, ?_⟩
    exact ⟨fun h => absurd h (by decide), fun _ => ⟨Or.inr rfl, hK1 htm τ1 f1⟩⟩
/-- the numbers of an axis are put, one by one -/
def tap (a n ii : Nat) (F : Nat → UInt64) (τ τ1 : tS) : Prop := τ1.1 = τ.1 ∧ (∀ k, k ≠ 16 → k ≠ 17 → τ1.2.2.1 k = (tas τ a n).2.2.1 k) ∧ (∀ k i j, ¬ (k = 11 ∧ i = a) → τ1.2.2.2 k i j = τ.2.2.2 k i j) ∧ (∀ j, j < ii → τ1.2.2.2 11 a j = F j) ∧ ∀ j, ii ≤ j → τ1.2.2.2 11 a j = τ.2.2.2 11 a j
theorem tap.z {a n : Nat} {F : Nat → UInt64} (h : trf 16 17 (tas τ a n) τ1) : tap a n 0 F τ τ1 := ⟨h.1, h.2.2.2, fun _ _ _ _ => by rw [h.2.2.1]; rfl, fun j hj => absurd hj (by omega), fun j _ => by rw [h.2.2.1]; rfl⟩
theorem tap.s {a n ii : Nat} {F : Nat → UInt64} (h : tap a n ii F τ τ1) : tap a n (ii + 1) F τ (taD τ1 11 a (va_up (τ1.2.2.2 11 a) ii (F ii))) := by
  obtain ⟨h1, h2, h3, h4, h5⟩ := h
  refine ⟨h1, h2, fun k i j q => ?_, fun j hj => ?_, fun j hj => ?_⟩
  · by_cases hk : k = 11
    · subst hk; rw [tqi (by omega)]; exact h3 11 i j (by omega)
    · rw [tqj hk]; exact h3 k i j (by omega)
  · rw [tqh]
    by_cases e : j = ii
    · subst e; rw [va_s]
    · rw [va_o e]; exact h4 j (by omega)
  · rw [tqh, va_o (by omega)]; exact h5 j (by omega)
/-- the view behind it -/
theorem tap.inv {t w n : Nat} {L : sL} {F : Nat → UInt64} (h : tap (2 * t + w) n n F τ τ1) (hI : tINV τ) (ht : t < 6) (hw : w < 2) (hL : tly τ t = some L) (hn : 1 ≤ n ∧ n ≤ 8) (hw1 : w = 1 → L.2.2.1 ≠ none) (hF : ∀ k, k < n → s_B (F k)) (htm : ¬ s_tm (tfm τ) (s_up (tly τ) t (some (s_ax L w ((List.range n).map F))))) : tINV τ1 ∧ tVw τ1 = ((tfm τ, s_up (tly τ) t (some (s_ax L w ((List.range n).map F))), tkd τ, tow τ), (tVw τ).2) ∧ tly τ1 t = some (s_ax L w ((List.range n).map F)) ∧ ∃ rk, tOK rk τ1 := by
  obtain ⟨h1, h2, h3, h4, h5⟩ := h
  have eF : (List.range n).map (τ1.2.2.2 11 (2 * t + w)) = (List.range n).map F := List.map_congr_left fun k hk => h4 k (List.mem_range.mp hk)
  obtain ⟨ok, sh, st, nm⟩ := tSh_ax (τm := τ1) hI.1 hI.2.1 ht hw hL hn hw1 (fun k hk a => by rw [h2 k (by omega) (by omega)]; exact tqc a) (h2 10 (by decide) (by decide)) (fun k i j _ a => h3 k i j a) (fun j hj => by
    by_cases e : j < n
    · rw [h4 j e]; exact hF j e
    · rw [h5 j (by omega)]; exact hI.1.2.1.2 _ j (by omega) hj)
  rw [eF] at sh st
  obtain ⟨r1, r2⟩ := tINV_st hI (sh htm) st nm (by rw [h1]) (by rw [h1]) (fun k hk => by rw [h2 k (by omega) (by omega)]; exact tqc (by omega)) (fun k hk => funext fun i => funext fun j => h3 k i j (by omega))
  refine ⟨r1, r2, ?_, ok⟩
  have : tly τ1 = s_up (tly τ) t (some (s_ax L w ((List.range n).map F))) := congrArg (fun q => q.2.1) st
  rw [this, s_up_s]
theorem s_nc_ax {L : sL} {w : Nat} {a b : List UInt64} (h : a.length = b.length) : (s_ax L w a).1 = (s_ax L w b).1 ∧ s_nc (s_ax L w a) = s_nc (s_ax L w b) := by
  unfold s_ax s_nc s_my
  split
  · simp only [h]; exact ⟨trivial, trivial⟩
  · simp only [h]; exact ⟨trivial, trivial⟩
noncomputable def o_lay (A : sV) (t : Nat) (L : sL) : Int32 × sV := s_if (s_tm A.1.1 (s_up A.1.2.1 t (some L))) (-4, A) (nI (s_nc L), (A.1.1, s_up A.1.2.1 t (some L), A.1.2.2.1, A.1.2.2.2), A.2)
noncomputable def o_axis (A : sV) (x w s st n : Int32) : Int32 × sV := match s_tx x with
  | none => (-2, A)
  | some t => if (w < 0 ∨ 1 < w) ∨ (s < -80000 ∨ 80000 < s) ∨ (st < -8000 ∨ 8000 < st) ∨ (n < 1 ∨ 8 < n) then (-2, A) else match A.1.2.1 t with
    | none => (-3, A)
    | some L => if w = 1 ∧ L.2.2.1 = none then (-3, A) else o_lay A t (s_ax L w.toNatClampNeg ((List.range n.toNatClampNeg).map fun k => o_8 (s + nI k * st)))
theorem s_n_of {n : Int32} (h : ¬ (n < 1 ∨ 8 < n)) : ∃ k, (1 ≤ k ∧ k ≤ 8) ∧ n = nI k := by
  have h0 : ¬ (n < 0 ∨ 8 < n) := by
    intro q
    rcases q with q | q
    · apply h
      left
      rw [Int32.lt_iff_toInt_lt] at q ⊢
      have e0 : (0 : Int32).toInt = 0 := by decide
      have e1 : (1 : Int32).toInt = 1 := by decide
      omega
    · exact h (Or.inr q)
  rcases s_x_of (x := n) (M := 8) (n := 8) (by decide) with q | ⟨k, hk, e⟩
  · exact absurd q h0
  · refine ⟨k, ⟨?_, by omega⟩, e⟩
    apply Decidable.byContradiction
    intro hk0
    have : k = 0 := by omega
    subst this
    exact h (Or.inl (by rw [e]; decide))
theorem to_axis {x w s st n : Int32} {K : Int32 → zHp → Nat → Prop} (hd : 200 ≤ d) (hB : zB g ≤ m0) (hI : tINV τ) (hK : ∀ τ', tINV τ' → tVw τ' = (o_axis (tVw τ) x w s st n).2 → K (o_axis (tVw τ) x w s st n).1 (tput g m0 τ' hp) nx) : zMt l g yX5_axis cX5_axis 7 (some .int) d 0 0 [.ref m0, .int x, .int w, .int s, .int st, .int n] (tput g m0 τ hp) nx (zQi g K) := by
  obtain ⟨d, rfl⟩ := Nat.exists_eq_add_of_le' (show 1 ≤ d by omega)
  apply met_X5_axis
  unfold wp_X5_axis
  unfold o_axis at hK
  refine t_isTable' (by omega) ?_
  refine ⟨_, fun _ _ h => h, ?_⟩
  rcases s_tx_of x with hx | ⟨t, ht, rfl⟩
  · simp only [s_tx, if_pos hx] at hK ⊢
    exact ⟨fun _ => hK τ hI rfl, fun h => absurd (by trivial) h⟩
  simp only [s_tx_s ht] at hK
  rw [if_neg (s_tx_n ht)]
  have no : ((w < 0 ∨ 1 < w) ∨ (s < -80000 ∨ 80000 < s) ∨ (st < -8000 ∨ 8000 < st) ∨ (n < 1 ∨ 8 < n)) → K (-2) (tput g m0 τ hp) nx := fun h => by
    have := hK
    rw [if_pos h] at this
    exact this τ hI rfl
  refine ⟨fun h => absurd h (by decide), fun _ => ?_⟩
  refine t_in' (by omega) ?_
  by_cases h1 : w < 0 ∨ 1 < w
  · rw [if_pos h1]; exact ⟨fun _ => no (Or.inl h1), fun h => absurd (by trivial) h⟩
  rw [if_neg h1]
  refine ⟨fun h => absurd h (by decide), fun _ => ?_⟩
  refine t_in' (by omega) ?_
  by_cases h2 : s < -80000 ∨ 80000 < s
  · rw [if_pos h2]; exact ⟨fun _ => no (Or.inr (Or.inl h2)), fun h => absurd (by trivial) h⟩
  rw [if_neg h2]
  refine ⟨fun h => absurd h (by decide), fun _ => ?_⟩
  refine t_in' (by omega) ?_
  by_cases h3 : st < -8000 ∨ 8000 < st
  · rw [if_pos h3]; exact ⟨fun _ => no (Or.inr (Or.inr (Or.inl h3))), fun h => absurd (by trivial) h⟩
  rw [if_neg h3]
  refine ⟨fun h => absurd h (by decide), fun _ => ?_⟩
  refine t_in' (by omega) ?_
  by_cases h4 : n < 1 ∨ 8 < n
  · rw [if_pos h4]; exact ⟨fun _ => no (Or.inr (Or.inr (Or.inr h4))), fun h => absurd (by trivial) h⟩
  rw [if_neg h4]
  refine ⟨fun h => absurd h (by decide), fun _ => ?_⟩
  rw [if_neg (fun q => q.elim h1 fun q => q.elim h2 fun q => q.elim h3 h4)] at hK
  obtain ⟨nn, hnn, rfl⟩ := s_n_of h4
  obtain ⟨ww, hww, rfl⟩ : ∃ k, k < 2 ∧ w = nI k := by
    rcases s_x_of (x := w) (M := 1) (n := 1) (by decide) with q | q
    · exact absurd q h1
    · exact q
  have ct : (nI t).toNatClampNeg = t := nI_clamp (by omega)
  have it : vp_in (nI t) 6 := vp_in_nI ht (by decide)
  have el : (tVw τ).1.2.1 t = tly τ t := rfl
  have w1 : nI ww = 1 ↔ ww = 1 := nI_eq (b := 1) (by omega) (by decide)
  rw [el, nI_clamp (show ww < 2 ^ 31 by omega), nI_clamp (show nn < 2 ^ 31 by omega)] at hK
  rw [tg_laid, ta_laid]
  refine ⟨it, fun x6 hx6 => ?_⟩
  rw [ct] at hx6
  subst hx6
  refine ⟨_, fun _ _ h => h, ?_⟩
  refine ⟨fun h6 => ?_, fun h6 => ?_⟩
  · rw [tly_none.mp h6] at hK
    exact hK τ hI rfl
  obtain ⟨L, hL⟩ : ∃ L, tly τ t = some L := by
    cases hl : tly τ t with
    | none => exact absurd (tly_none.mpr hl) h6
    | some L => exact ⟨L, rfl⟩
  rw [hL] at hK
  simp only at hK
  obtain ⟨⟨rk, hO⟩, hnb, hx⟩ := hI.1
  obtain ⟨_, lo, la, e7, e8, ⟨hn1, hn8, e10⟩, eax, hot⟩ := tly_some hO.2.1 ht hL
  refine ⟨fun h n' => h = tput g m0 τ hp ∧ nx = n' ∧ ¬ (nI ww = 1 ∧ L.2.2.1 = none), fun h n' hh => ?_, fun hw => ?_, fun hw => ⟨rfl, rfl, fun q => hw q.1⟩⟩
  · obtain ⟨rfl, rfl, hno⟩ := hh
    rw [if_neg hno] at hK
    have hw1 : ww = 1 → L.2.2.1 ≠ none := fun e q => hno ⟨w1.mpr e, q⟩
    obtain ⟨F, hF⟩ : ∃ F : Nat → UInt64, F = fun k => o_8 (s + nI k * st) := ⟨_, rfl⟩
    rw [← hF] at hK
    have sim := s_sim_up (ly := tly τ) (t := t) (s_nc_ax (L := L) (w := ww) (a := (List.range nn).map (τ.2.2.2 11 (2 * t + ww))) (b := (List.range nn).map F) (by simp)).1 (s_nc_ax (by simp)).2
    have etm := s_tm_sim (fm := tfm τ) sim
    unfold o_lay at hK
    rw [tw_zo]
    refine t_hasRoom (L := L) (by omega) hB hI ht hww hL hnn hw1 (fun htm τ1 f1 => ?_) (fun htm τ1 f1 => ?_)
    · have htm' := fun q => htm (etm.mpr q)
      have htm'' : ¬ s_tm (tVw τ).1.1 (s_up (tVw τ).1.2.1 t (some (s_ax L ww ((List.range nn).map F)))) := htm'
      rw [s_if_n htm''] at hK
      refine ⟨fun h => absurd h (by decide), fun _ => ?_⟩
      have e2 : (2 : Int32) * nI t = nI (2 * t) := pk_mul 2 t
      have e2w : nI (2 * t) + nI ww = nI (2 * t + ww) := nI_add _ _
      have c2 : (nI (2 * t + ww)).toNatClampNeg = 2 * t + ww := nI_clamp (by omega)
      have i2 : vp_in (nI (2 * t + ww)) 12 := vp_in_nI (by omega) (by decide)
      have l2 : 2 * t + ww < 12 := by omega
      have hB3 : ∀ a b n, zB g ≤ m0 + a + b + n := fun a b n => by omega
      refine ⟨fun m i h nx' => ∃ ii τ2, ii ≤ nn ∧ m = nn - ii ∧ i = nI ii ∧ h = tput g m0 τ2 hp ∧ nx = nx' ∧ tap (2 * t + ww) nn ii F τ τ2, ⟨nn, 0, τ1, by omega, rfl, rfl, rfl, rfl, tap.z f1⟩, ?_⟩
      rintro m _ _ _ ⟨ii, τ2, hii, hm, rfl, rfl, rfl, hap⟩
      refine pk_le nn ii (fun hle => ?_) (fun hlt => ?_)
      · have : ii = nn := by omega
        subst this
        obtain ⟨r1, r2, r3, ⟨rk2, O2⟩⟩ := hap.inv hI ht hww hL hnn hw1 (fun k _ => by rw [hF]; exact fb_8) htm'
        rw [tw_zo]
        refine t_cases (L := s_ax L ww ((List.range ii).map F)) (by omega) O2.2.1 ht r3 ?_
        exact hK τ2 r1 r2
      · have ci : (nI ii).toNatClampNeg = ii := nI_clamp (by omega)
        have iii : vp_in (nI ii) 8 := vp_in_nI (by omega) (by decide)
        simp only [tg_axes, ta_axes, e2, e2w, c2, i2, tb_axes l2, tv_axes l2, ci, iii, hB3, true_implies, false_implies, implies_true, and_true, true_and, forall_eq]
        refine ⟨fb_nn fb_8, ?_⟩
        have es : FP.ddiv (FP.i2d (s + nI ii * st)) 4620693217682128896 = F ii := by rw [hF]; rfl
        rw [es]
        exact ⟨nn - (ii + 1), by omega, ii + 1, _, by omega, rfl, nI_1 ii, rfl, hap.s⟩
    · have htm'' : s_tm (tVw τ).1.1 (s_up (tVw τ).1.2.1 t (some (s_ax L ww ((List.range nn).map F)))) := etm.mp htm
      rw [s_if_p htm''] at hK
      exact ⟨fun _ => hK τ1 ((f1.sc (by decide) (by decide)).sp.inv hI) (f1.sc (by decide) (by decide)).sp.vw, fun h => absurd rfl h⟩
  · simp only [tg_others, ta_others, tu_others, ct, it, true_implies, false_implies, implies_true, and_true, true_and, forall_eq]
    rcases hot with ⟨h9, n9, _⟩ | ⟨b, hb, hba, my1, my8, h9, n9, e11, s9, eb⟩
    · rw [if_pos ⟨hw, n9⟩] at hK
      exact ⟨fun _ => hK τ hI rfl, fun q => absurd h9 q⟩
    · exact ⟨fun q => absurd q n9, fun _ q => by rw [s9] at q; cases q.2⟩
end UL
