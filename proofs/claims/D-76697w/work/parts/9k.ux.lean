set_option maxRecDepth 100000
/-! THE REFERENCE's operations: chance -/
section UX
variable {l : Launch} {g : zG} {d m0 : Nat} {τ τ' τm τ1 τ2 : tS} {hp : zHp} {nx : Nat}
def s_dz (z : Int32) : Int32 := z * 1103515245 + 12345
def s_dv (z : Int32) : UInt64 := FP.ddiv (FP.i2d ((((z.toUInt32 >>> ((9 : Int32).toUInt32 &&& Int32.toUInt32 31)).toInt32) - ((z.toUInt32 >>> ((9 : Int32).toUInt32 &&& Int32.toUInt32 31)).toInt32) / (401 : Int32) * (401 : Int32)) - (200 : Int32))) (4620693217682128896 : UInt64)
/-- the numbers that are drawn for the cells of P -/
noncomputable def s_dr (P : Nat → Prop) (seed : Int32) (ow : sO) : Nat → Int32 × sO
  | 0 => (seed, ow)
  | c + 1 => s_if (P c) (s_dz (s_dr P seed ow c).1, s_up (s_dr P seed ow c).2 c (some (s_dv (s_dz (s_dr P seed ow c).1)))) (s_dr P seed ow c)
noncomputable def s_lve (S : sSt) (cell : Nat) (seed : Int32) : sT := s_EV S.1 S.2.1 S.2.2.1 (s_dr (s_RD S.1 S.2.1 cell) seed S.2.2.2 24).2 cell
def s_lot (S : sSt) (cell : Nat) (seed : Int32) (w : UInt64) : Prop := (s_lve S cell seed).2.1 = 0 ∧ ¬ s_lt (s_lve S cell seed).1 w
noncomputable def s_ch (S : sSt) (cell : Nat) (seed : Int32) (w : UInt64) (m : Nat) : Nat := s_cn (fun k => s_lot S cell (seed + nI k) w) m
noncomputable def o_chance (A : sV) (x seed m want part : Int32) : Int32 := match s_cx x with
  | none => -2
  | some c => s_if (m < 1 ∨ 20 < m ∨ want < -80000 ∨ 80000 < want ∨ part < 0 ∨ 1 < part) (-2) ((if part = 0 then nI (s_ch A.1 c seed (o_8 want) m.toNatClampNeg) else m) / nI (Nat.gcd (s_ch A.1 c seed (o_8 want) m.toNatClampNeg) m.toNatClampNeg))
theorem t_common : ∀ (b a d : Nat) (K : Int32 → zHp → Nat → Prop), a ≤ 20 → b ≤ 20 → b + 1 ≤ d → K (nI (Nat.gcd a b)) hp nx → zMt l g yX5_common cX5_common 2 (some .int) d 0 0 [.int (nI a), .int (nI b)] hp nx (zQi g K) := by
  intro b
  induction b using Nat.strongRecOn with
  | ind b ih =>
    intro a d K ha hb hd hK
    obtain ⟨d, rfl⟩ := Nat.exists_eq_add_of_le' (show 1 ≤ d by omega)
    apply met_X5_common
    unfold wp_X5_common
    refine ⟨_, fun _ _ _ h => h, ?_⟩
    refine ⟨fun h => ?_, fun h => ⟨h, ?_⟩⟩
    · have : b = 0 := (nI_eq (by omega) (by decide)).mp (h.trans nI_0.symm)
      subst this
      rw [Nat.gcd_zero_right] at hK
      exact hK
    · have hb0 : 0 < b := by
        rcases Nat.eq_zero_or_pos b with e | e
        · subst e; exact absurd nI_0 h
        · exact e
      rw [pk_rem (by omega) hb0 (by omega)]
      have hm := Nat.mod_lt a hb0
      refine ih (a % b) hm b d _ hb (by omega) (by omega) ?_
      rw [Nat.gcd_comm a b, Nat.gcd_rec b a, Nat.gcd_comm] at hK
      exact hK
theorem tow_up {y : Nat} {v : UInt64} : tow (taI (taD τ 2 0 (va_up (τ.2.2.2 2 0) y v)) 1 0 (va_up (τ.2.2.1 1 0) y 1)) = s_up (tow τ) y (some v) := by
  funext x
  unfold tow
  simp only [tq1, tq3, tq4, tq5, tq7, tq8, tq9, tqa, tqc, tqd, tqe, tqf, tqg, tqh, tqj, va_s, ne_eq, reduceCtorEq, not_false_eq_true, not_true_eq_false, if_true, if_false, Nat.reduceEqDiff]
  by_cases e : x = y
  · subst e; rw [s_up_s, va_s, va_s]; rfl
  · rw [s_up_o e, va_o e, va_o e]
theorem s_dr_BO {P : Nat → Prop} {seed : Int32} {ow : sO} (h : s_BO ow) : ∀ n, s_BO (s_dr P seed ow n).2 := by
  intro n
  induction n with
  | zero => exact h
  | succ n ih =>
    unfold s_dr s_if
    split
    · exact s_up_BO ih fb_8
    · exact ih
set_option maxHeartbeats 1000000 in
theorem t_isSoByLot {rk : Nat → Nat} {c : Nat} {seed : Int32} {w : UInt64} {K : Int32 → zHp → Nat → Prop} (hd : 140 ≤ d) (hB : zB g ≤ m0) (hO : tOK rk τ) (hc : c < 24) (hw : s_F w) (hK : ∀ τ', tsp τ τ' → K (s_if (s_lot (tst τ) c seed w) 1 0) (tput g m0 τ' hp) nx) : zMt l g yX5_isSoByLot cX5_isSoByLot 10 (some .boolean) d 0 0 [.ref m0, .int (nI c), .int (s_ms (s_RD (tfm τ) (tly τ) c) 24), .int seed, .double w] (tput g m0 τ hp) nx (zQi g K) := by
  obtain ⟨d, rfl⟩ := Nat.exists_eq_add_of_le' (show 1 ≤ d by omega)
  apply met_X5_isSoByLot
  unfold wp_X5_isSoByLot
  have hB2 : ∀ n, zB g ≤ m0 + n := fun n => by omega
  have c0 : (0 : Int32).toNatClampNeg = 0 := by decide
  have c24 : (24 : Int32).toNatClampNeg = 24 := by decide
  have n0 : ¬ (0 : Int32) < 0 := by decide
  have n24 : ¬ (24 : Int32) < 0 := by decide
  have l24 : 0 + 24 ≤ 24 := by decide
  have fd : ∀ v : UInt64, Jvm.fits .double (.double v) = true := fun _ => rfl
  simp only [tg_numbers, ta_numbers, tu_numbers, tg_given, ta_given, tu_given, tg_oldNumbers, ta_oldNumbers, tu_oldNumbers, tg_oldGiven, ta_oldGiven, tu_oldGiven, hB2, c0, c24, n0, n24, l24, fd, not_false_eq_true, implies_true, true_implies, false_implies, implies_true, and_true, true_and, forall_eq, tq1, tq3, tq4, tq5, tq7, tq8, tq9, tqa, tqc, tqd, tqe, tqf, tqg, tqh, tqj, va_s, ne_eq, reduceCtorEq, not_false_eq_true, not_true_eq_false, if_true, if_false, Nat.reduceEqDiff]
  refine ⟨fun i hi => z_fb (by rw [Nat.zero_add]; exact hO.2.2.2.2.2.2.2.1 i hi), ?_⟩
  obtain ⟨τ0, hτ0⟩ : ∃ τ0, τ0 = taI (taD τ 55 0 (va_cpy (τ.2.2.2 2 0) (τ.2.2.2 55 0) 0 0 24)) 56 0 (va_cpy (τ.2.2.1 1 0) (τ.2.2.1 56 0) 0 0 24) := ⟨_, rfl⟩
  rw [← hτ0]
  have I0 : ∀ k, k ≠ 56 → τ0.2.2.1 k = τ.2.2.1 k := fun k hk => by rw [hτ0]; exact tqc hk
  have D0 : ∀ k, k ≠ 55 → τ0.2.2.2 k = τ.2.2.2 k := fun k hk => by rw [hτ0]; exact tqj hk
  have pe0 : tpe τ τ0 := ⟨fun k hk => I0 k (by omega), fun k hk => D0 k (by omega)⟩
  have O0 := hO.pe pe0
  have I56 : ∀ j, j < 24 → τ0.2.2.1 56 0 j = τ.2.2.1 1 0 j := fun j hj => by rw [hτ0, tqa, s_cpy0, if_pos hj]
  have D55 : ∀ j, j < 24 → τ0.2.2.2 55 0 j = τ.2.2.2 2 0 j := fun j hj => by rw [hτ0]; exact (congrFun (tqh (τ := τ) (k := 55) (i := 0) (f := va_cpy (τ.2.2.2 2 0) (τ.2.2.2 55 0) 0 0 24)) j).trans (s_cpy0.trans (if_pos hj))
  have e1 : τ0.1 = τ.1 := by rw [hτ0]; rfl
  have e2 : τ0.2.1 = τ.2.1 := by rw [hτ0]; rfl
  clear hτ0
  refine ⟨fun n z y h n' => ∃ yy τ1, yy ≤ 24 ∧ n = 24 - yy ∧ y = nI yy ∧ z = (s_dr (s_RD (tfm τ) (tly τ) c) seed (tow τ) yy).1 ∧ h = tput g m0 τ1 hp ∧ nx = n' ∧ τ1.1 = τ0.1 ∧ τ1.2.1 = τ0.2.1 ∧ (∀ k i j, ¬ (k = 1 ∧ i = 0 ∧ j < 24) → τ1.2.2.1 k i j = τ0.2.2.1 k i j) ∧ (∀ k i j, ¬ (k = 2 ∧ i = 0 ∧ j < 24) → τ1.2.2.2 k i j = τ0.2.2.2 k i j) ∧ (∀ j, j < 24 → τ1.2.2.1 1 0 j = 0 ∨ τ1.2.2.1 1 0 j = 1) ∧ tow τ1 = (s_dr (s_RD (tfm τ) (tly τ) c) seed (tow τ) yy).2, ⟨24, 0, τ0, by omega, rfl, rfl, rfl, rfl, rfl, rfl, rfl, fun _ _ _ _ => rfl, fun _ _ _ _ => rfl, O0.2.2.2.2.2.2.2.1, pe0.ow⟩, ?_⟩
  rintro n _ _ _ _ ⟨y, τ1, hy, hn, rfl, rfl, rfl, rfl, a1, a2, a3, a4, a5, a6⟩
  refine pk_le 24 y (fun hle => ?_) (fun hlt => ?_)
  · have : y = 24 := by omega
    subst this
    obtain ⟨O1, m1, m2, m3⟩ := O0.nw (τm := τ1) (fun k i j h => a3 k i j (fun q => h ⟨q.1, q.2.1⟩)) (fun k i j h => a4 k i j (fun q => h ⟨q.1, q.2.1⟩)) (by rw [a6]; exact s_dr_BO hO.2.2.2.2.2.2.1 24) a5
    rw [tw_zo]
    refine t_valueNow (by omega) hB O1 hc fun τ2 f2 ev => ?_
    rw [tw_zo]
    refine t_errorOf (by omega) hc ?_
    rw [ev.2.1]
    have eE : tEV τ1 c = s_lve (tst τ) c seed := by
      unfold tEV
      rw [m1, m2, m3, a6, pe0.fm, pe0.ly, pe0.kd]
      rfl
    rw [eE]
    have hF : s_F (s_lve (tst τ) c seed).1 := by rw [← eE]; exact (tEV_B O1 hc).f
    have fin : ∀ z : Int32, (z = 0 ∨ z = 1) → z = s_if (s_lot (tst τ) c seed w) 1 0 → (∀ i, i < 24 → Jvm.fits .boolean (.int (τ2.2.2.1 56 0 i)) = true) ∧ K z (tput g m0 (taI (taD τ2 2 0 (va_cpy (τ2.2.2.2 55 0) (τ2.2.2.2 2 0) 0 0 24)) 1 0 (va_cpy (τ2.2.2.1 56 0) (τ2.2.2.1 1 0) 0 0 24)) hp) nx := by
      intro z _ hz
      have i56 : ∀ i, i < 24 → τ2.2.2.1 56 0 i = τ.2.2.1 1 0 i := fun i hi => by rw [f2.2.2.1 56 (by omega) (by omega) (by omega), a3 56 0 i (by omega), I56 i hi]
      have d55 : ∀ i, i < 24 → τ2.2.2.2 55 0 i = τ.2.2.2 2 0 i := fun i hi => by rw [f2.2.2.2 55 (by omega), a4 55 0 i (by omega), D55 i hi]
      refine ⟨fun i hi => z_fb (by rw [i56 i hi]; exact hO.2.2.2.2.2.2.2.1 i hi), ?_⟩
      rw [hz]
      have gI : ∀ k, ¬ (14 ≤ k ∧ k ≤ 29) → k ≠ 49 → k ≠ 50 → k ≠ 1 → k ≠ 56 → τ2.2.2.1 k = τ.2.2.1 k := fun k p q r s t => by
        rw [f2.2.2.1 k p q r, ← I0 k t]
        funext i j
        exact a3 k i j (by omega)
      have gD : ∀ k, ¬ (14 ≤ k ∧ k ≤ 29) → k ≠ 2 → k ≠ 55 → τ2.2.2.2 k = τ.2.2.2 k := fun k p s t => by
        rw [f2.2.2.2 k p, ← D0 k t]
        funext i j
        exact a4 k i j (by omega)
      refine hK _ ⟨?_, ?_, fun k hk => ?_, fun k hk => ?_⟩
      · show τ2.1 34 = _
        rw [f2.1 34 (by decide) (by decide) (by decide) (by decide), a1, e1]
      · show τ2.1 57 = _
        rw [f2.1 57 (by decide) (by decide) (by decide) (by decide), a1, e1]
      · by_cases k1 : k = 1
        · subst k1
          funext i j
          by_cases hi : i = 0
          · subst hi
            rw [tqa, s_cpy0]
            by_cases hj : j < 24
            · rw [if_pos hj, i56 j hj]
            · rw [if_neg hj, f2.2.2.1 1 (by omega) (by omega) (by omega), a3 1 0 j (by omega), I0 1 (by omega)]
          · rw [tqb hi]
            show τ2.2.2.1 1 i j = _
            rw [f2.2.2.1 1 (by omega) (by omega) (by omega), a3 1 i j (by omega), I0 1 (by omega)]
        · rw [tqc k1]
          exact gI k (by omega) (by omega) (by omega) k1 (by omega)
      · show (taD τ2 2 0 _).2.2.2 k = _
        by_cases k2 : k = 2
        · subst k2
          funext i j
          by_cases hi : i = 0
          · subst hi
            rw [tqh, s_cpy0]
            by_cases hj : j < 24
            · rw [if_pos hj, d55 j hj]
            · rw [if_neg hj, f2.2.2.2 2 (by omega), a4 2 0 j (by omega), D0 2 (by omega)]
          · rw [tqi hi]
            rw [f2.2.2.2 2 (by omega), a4 2 i j (by omega), D0 2 (by omega)]
        · rw [tqj k2]
          exact gD k (by omega) k2 (by omega)
    refine ⟨fun z v s h n' => h = tput g m0 τ2 hp ∧ nx = n' ∧ (s = 0 ∨ s = 1) ∧ s = s_if (s_lot (tst τ) c seed w) 1 0, ?_, ?_⟩
    · rintro z v s _ _ ⟨rfl, rfl, hs, hs2⟩
      obtain ⟨q1, q2⟩ := fin s hs hs2
      simp only [tg_numbers, ta_numbers, tu_numbers, tg_given, ta_given, tu_given, tg_oldNumbers, ta_oldNumbers, tu_oldNumbers, tg_oldGiven, ta_oldGiven, tu_oldGiven, hB2, c0, c24, n0, n24, l24, fd, not_false_eq_true, implies_true, true_implies, false_implies, implies_true, and_true, true_and, forall_eq, tq1, tq3, tq4, tq5, tq7, tq8, tq9, tqa, tqc, tqd, tqe, tqf, tqg, tqh, tqj, va_s, ne_eq, reduceCtorEq, not_false_eq_true, not_true_eq_false, if_true, if_false, Nat.reduceEqDiff, Nat.zero_add]
      exact ⟨q1, hs, q2⟩
    · refine ⟨fun z v h n' => h = tput g m0 τ2 hp ∧ nx = n' ∧ ¬ s_lot (tst τ) c seed w, ?_, ?_⟩
      · rintro z v _ _ ⟨rfl, rfl, hq⟩
        exact ⟨rfl, rfl, Or.inl rfl, (s_if_n hq).symm⟩
      · rw [fc_ll hF hw]
        exact ⟨fun q1 => ⟨fun q2 => ⟨rfl, rfl, fun h => h.2 q2⟩, fun q2 => ⟨rfl, rfl, Or.inr rfl, (s_if_p ⟨q1, q2⟩).symm⟩⟩, fun q1 => ⟨rfl, rfl, fun h => q1 h.1⟩⟩
  · have cy : (nI y).toNatClampNeg = y := nI_clamp (by omega)
    have iy : vp_in (nI y) 24 := vp_in_nI hlt (by decide)
    have n1 : vp_nar .boolean 1 = 1 := by decide
    have n401 : ¬ (401 : Int32) = 0 := by decide
    have hb := b_t0 (x := s_ms (s_RD (tfm τ) (tly τ) c) 24) (c := y) (by omega)
    have hms := s_ms_b (P := s_RD (tfm τ) (tly τ) c) (n := 24) (k := y) (by omega)
    obtain ⟨P, hP⟩ : ∃ P : Int32 → Int32 → zHp → Nat → Prop, P = fun z y' h n' => y' = nI y ∧ z = (s_dr (s_RD (tfm τ) (tly τ) c) seed (tow τ) (y + 1)).1 ∧ ∃ τ2, h = tput g m0 τ2 hp ∧ nx = n' ∧ τ2.1 = τ0.1 ∧ τ2.2.1 = τ0.2.1 ∧ (∀ k i j, ¬ (k = 1 ∧ i = 0 ∧ j < 24) → τ2.2.2.1 k i j = τ0.2.2.1 k i j) ∧ (∀ k i j, ¬ (k = 2 ∧ i = 0 ∧ j < 24) → τ2.2.2.2 k i j = τ0.2.2.2 k i j) ∧ (∀ j, j < 24 → τ2.2.2.1 1 0 j = 0 ∨ τ2.2.2.1 1 0 j = 1) ∧ tow τ2 = (s_dr (s_RD (tfm τ) (tly τ) c) seed (tow τ) (y + 1)).2 := ⟨_, rfl⟩
    refine ⟨P, ?_, ?_⟩
    · intro z' y' h' n' hp'
      rw [hP] at hp'
      obtain ⟨rfl, rfl, τ2, rfl, rfl, b1, b2, b3, b4, b5, b6⟩ := hp'
      exact ⟨24 - (y + 1), by omega, y + 1, τ2, by omega, rfl, nI_1 y, rfl, rfl, rfl, b1, b2, b3, b4, b5, b6⟩
    · rw [hb]
      by_cases hR : s_RD (tfm τ) (tly τ) c y
      · have hbt : bs (s_ms (s_RD (tfm τ) (tly τ) c) 24) y = true := hms.mpr ⟨hlt, hR⟩
        refine ⟨fun h => absurd hbt h, fun _ => ?_⟩
        have es : s_dr (s_RD (tfm τ) (tly τ) c) seed (tow τ) (y + 1) = (s_dz (s_dr (s_RD (tfm τ) (tly τ) c) seed (tow τ) y).1, s_up (s_dr (s_RD (tfm τ) (tly τ) c) seed (tow τ) y).2 y (some (s_dv (s_dz (s_dr (s_RD (tfm τ) (tly τ) c) seed (tow τ) y).1)))) := by
          rw [s_dr]
          exact s_if_p hR
        simp only [tg_numbers, ta_numbers, tu_numbers, tg_given, ta_given, tu_given, hB2, cy, iy, n1, n401, not_false_eq_true, true_implies, false_implies, implies_true, and_true, true_and, forall_eq, tq1, tq3, tq4, tq5, tq7, tq8, tq9, tqa, tqc, tqd, tqe, tqf, tqg, tqh, tqj, va_s, ne_eq, reduceCtorEq, not_false_eq_true, not_true_eq_false, if_true, if_false, Nat.reduceEqDiff]
        refine ⟨fb_nn fb_8, ?_⟩
        rw [hP]
        refine ⟨rfl, by rw [es]; rfl, _, rfl, rfl, a1, a2, fun k i j hk => ?_, fun k i j hk => ?_, fun j hj => ?_, ?_⟩
        · by_cases k1 : k = 1
          · subst k1
            by_cases hi : i = 0
            · subst hi
              rw [tqa, va_o (by omega)]
              exact a3 1 0 j hk
            · rw [tqb hi]
              exact a3 1 i j hk
          · rw [tqc k1]
            exact a3 k i j hk
        · show (taD τ1 2 0 _).2.2.2 k i j = _
          by_cases k2 : k = 2
          · subst k2
            by_cases hi : i = 0
            · subst hi
              rw [tqh, va_o (by omega)]
              exact a4 2 0 j hk
            · rw [tqi hi]
              exact a4 2 i j hk
          · rw [tqj k2]
            exact a4 k i j hk
        · rw [tqa]
          by_cases e : j = y
          · subst e; rw [va_s]; exact Or.inr rfl
          · rw [va_o e]; exact a5 j hj
        · rw [es, ← a6]
          exact tow_up
      · have hbt : ¬ bs (s_ms (s_RD (tfm τ) (tly τ) c) 24) y = true := fun h => hR (hms.mp h).2
        refine ⟨fun _ => ?_, fun h => absurd hbt h⟩
        have es : s_dr (s_RD (tfm τ) (tly τ) c) seed (tow τ) (y + 1) = s_dr (s_RD (tfm τ) (tly τ) c) seed (tow τ) y := by
          rw [s_dr]
          exact s_if_n hR
        rw [hP]
        exact ⟨rfl, by rw [es], τ1, rfl, rfl, a1, a2, a3, a4, a5, by rw [es]; exact a6⟩
theorem to_chance {x seed m want part : Int32} {K : Int32 → zHp → Nat → Prop} (hd : 200 ≤ d) (hB : zB g ≤ m0) (hI : tINV τ) (hK : ∀ τ', tINV τ' → tVw τ' = tVw τ → K (o_chance (tVw τ) x seed m want part) (tput g m0 τ' hp) nx) : zMt l g yX5_chance cX5_chance 9 (some .int) d 0 0 [.ref m0, .int x, .int seed, .int m, .int want, .int part] (tput g m0 τ hp) nx (zQi g K) := by
  obtain ⟨d, rfl⟩ := Nat.exists_eq_add_of_le' (show 1 ≤ d by omega)
  apply met_X5_chance
  unfold wp_X5_chance
  refine t_isCell' (by omega) ?_
  refine ⟨_, fun _ _ h => h, ?_⟩
  rcases s_cx_of x with hx | ⟨c, hc, rfl⟩
  · have hK := hK τ hI rfl
    unfold o_chance at hK
    simp only [s_cx, if_pos hx] at hK ⊢
    exact ⟨fun _ => hK, fun h => absurd (by trivial) h⟩
  · rw [if_neg (s_cx_n hc)]
    refine ⟨fun h => absurd h (by decide), fun _ => ?_⟩
    unfold o_chance at hK
    simp only [s_cx_s hc] at hK
    have bad : (m < 1 ∨ 20 < m ∨ want < -80000 ∨ 80000 < want ∨ part < 0 ∨ 1 < part) → K (-2) (tput g m0 τ hp) nx := fun q => by
      have := hK τ hI rfl
      rw [s_if_p q] at this
      exact this
    refine t_in' (by omega) ?_
    by_cases q1 : m < 1 ∨ 20 < m
    · rw [if_pos q1]
      exact ⟨fun _ => bad (by rcases q1 with q | q <;> simp [q]), fun h => absurd rfl h⟩
    rw [if_neg q1]
    refine ⟨fun h => absurd h (by decide), fun _ => ?_⟩
    refine t_isWanted (by omega) ?_
    by_cases q2 : want < -80000 ∨ 80000 < want
    · rw [if_pos q2]
      exact ⟨fun _ => bad (by rcases q2 with q | q <;> simp [q]), fun h => absurd rfl h⟩
    rw [if_neg q2]
    refine ⟨fun h => absurd h (by decide), fun _ => ?_⟩
    refine t_in' (by omega) ?_
    by_cases q3 : part < 0 ∨ 1 < part
    · rw [if_pos q3]
      exact ⟨fun _ => bad (by rcases q3 with q | q <;> simp [q]), fun h => absurd rfl h⟩
    rw [if_neg q3]
    refine ⟨fun h => absurd h (by decide), fun _ => ?_⟩
    rw [s_if_n (by
      rintro (q | q | q | q | q | q)
      · exact q1 (Or.inl q)
      · exact q1 (Or.inr q)
      · exact q2 (Or.inl q)
      · exact q2 (Or.inr q)
      · exact q3 (Or.inl q)
      · exact q3 (Or.inr q))] at hK
    obtain ⟨M, hM1, hM2, rfl⟩ : ∃ M, 1 ≤ M ∧ M ≤ 20 ∧ m = nI M := by
      have h1 : ¬ m < 1 := fun q => q1 (Or.inl q)
      have h2 : ¬ 20 < m := fun q => q1 (Or.inr q)
      rw [Int32.lt_iff_toInt_lt] at h1 h2
      have e1 : (1 : Int32).toInt = 1 := by decide
      have e20 : (20 : Int32).toInt = 20 := by decide
      rw [e1] at h1
      rw [e20] at h2
      refine ⟨m.toInt.toNat, by omega, by omega, ?_⟩
      apply Int32.toInt_inj.mp
      rw [nI_toInt (by omega)]
      omega
    have cM : (nI M).toNatClampNeg = M := nI_clamp (by omega)
    rw [cM] at hK
    obtain ⟨⟨⟨rk, hO⟩, hnb, hx⟩, hN, -⟩ := id hI
    rw [tw_zo]
    refine t_reads (by omega) hB hO hN hc fun τ0 f0 => ?_
    have sp0 : tsp τ τ0 := (f0.sc (by decide) (by decide)).sp
    obtain ⟨P, hP⟩ : ∃ P : Nat → Prop, P = fun k => s_lot (tst τ) c (seed + nI k) (o_8 want) := ⟨_, rfl⟩
    have hK : ∀ τ', tsp τ τ' → K ((if part = 0 then nI (s_cn P M) else nI M) / nI (Nat.gcd (s_cn P M) M)) (tput g m0 τ' hp) nx := fun τ' s => by
      have := hK τ' (s.inv hI) s.vw
      rw [hP]
      exact this
    refine ⟨fun n so set k h n' => ∃ kk τ1, kk ≤ M ∧ n = M - kk ∧ k = nI kk ∧ set = s_ms (s_RD (tfm τ) (tly τ) c) 24 ∧ so = nI (s_cn P kk) ∧ h = tput g m0 τ1 hp ∧ nx = n' ∧ tsp τ τ1, ⟨M, 0, τ0, by omega, rfl, rfl, rfl, rfl, rfl, rfl, sp0⟩, ?_⟩
    rintro n _ _ _ _ _ ⟨k, τ1, hk, hn, rfl, rfl, rfl, rfl, rfl, s1⟩
    refine pk_le M k (fun hle => ?_) (fun hlt => ?_)
    · have : k = M := by omega
      subst this
      have hcn := s_cn_le P k
      have hg0 : 0 < Nat.gcd (s_cn P k) k := Nat.gcd_pos_of_pos_right _ (by omega)
      have hgl : Nat.gcd (s_cn P k) k ≤ k := Nat.gcd_le_right _ (by omega)
      have hK := hK τ1 s1
      refine ⟨_, fun _ _ _ _ _ _ h => h, ?_⟩
      refine ⟨fun p0 => ?_, fun p0 => ?_⟩
      · rw [if_pos p0] at hK
        exact t_common _ _ _ _ (by omega) (by omega) (by omega) ⟨nI_ne0 hg0 (by omega), hK⟩
      · rw [if_neg p0] at hK
        exact t_common _ _ _ _ (by omega) (by omega) (by omega) ⟨nI_ne0 hg0 (by omega), hK⟩
    · refine ⟨fb_nn fb_8, ?_⟩
      rw [tw_zo]
      have ems : s_ms (s_RD (tfm τ) (tly τ) c) 24 = s_ms (s_RD (tfm τ1) (tly τ1) c) 24 := by rw [s1.pe.fm, s1.pe.ly]
      rw [ems]
      refine t_isSoByLot (rk := rk) (by omega) hB (hO.pe s1.pe) hc fb_8.f fun τ2 s2 => ?_
      rw [s1.pe.st, ← ems]
      have s12 := s1.tr s2
      refine ⟨fun so set k' h n' => k' = nI k ∧ set = s_ms (s_RD (tfm τ) (tly τ) c) 24 ∧ so = nI (s_cn P (k + 1)) ∧ h = tput g m0 τ2 hp ∧ nx = n', ?_, ?_⟩
      · rintro _ _ _ _ _ ⟨rfl, rfl, rfl, rfl, rfl⟩
        intro z hz
        subst hz
        exact ⟨M - (k + 1), by omega, k + 1, τ2, by omega, rfl, nI_1 k, rfl, rfl, rfl, rfl, s12⟩
      · have ePk : P k ↔ s_lot (tst τ) c (seed + nI k) (FP.ddiv (FP.i2d want) 4620693217682128896) := by rw [hP]; exact Iff.rfl
        have ecn : s_cn P (k + 1) = s_cn P k + s_if (P k) 1 0 := rfl
        by_cases hp' : P k
        · rw [s_if_p (ePk.mp hp')]
          refine ⟨fun h => absurd h (by decide), fun _ => ?_⟩
          intro z hz
          exact ⟨rfl, rfl, by rw [hz, ecn, s_if_p hp', nI_1], rfl, rfl⟩
        · rw [s_if_n (fun q => hp' (ePk.mpr q))]
          refine ⟨fun _ => ⟨rfl, rfl, by rw [ecn, s_if_n hp']; rfl, rfl, rfl⟩, fun h => absurd rfl h⟩
end UX
