set_option maxRecDepth 100000
/-! THE REFERENCE's contracts: burdens -/
section TC
variable {l : Launch} {g : zG} {d m0 : Nat} {τ τ' τm τ2 : tS} {hp : zHp} {nx : Nat}
/-- never more than a million -/
def s_mn (n : Nat) : Nat := min n 1000000
theorem s_mn_add {a b a' b' : Nat} (h1 : s_mn a = s_mn a') (h2 : s_mn b = s_mn b') : s_mn (a + b) = s_mn (a' + b') := by unfold s_mn at *; omega
theorem s_mn_mn {a : Nat} : s_mn (s_mn a) = s_mn a := by unfold s_mn; omega
theorem s_mn_mul {a b : Nat} : s_mn (a * b) = s_mn (a * s_mn b) := by
  unfold s_mn
  by_cases h : b ≤ 1000000
  · rw [Nat.min_eq_left h]
  · rw [Nat.min_eq_right (show 1000000 ≤ b by omega)]
    by_cases ha : a = 0
    · subst ha; rw [Nat.zero_mul, Nat.zero_mul]
    · have h1 : 1000000 ≤ a * b := Nat.le_trans (by omega) (Nat.le_mul_of_pos_left b (by omega))
      have h2 : 1000000 ≤ a * 1000000 := Nat.le_mul_of_pos_left _ (by omega)
      omega
theorem s_mn_sm {f h : Nat → Nat} : ∀ {n : Nat}, (∀ k, k < n → s_mn (f k) = s_mn (h k)) → s_mn (s_sm f n) = s_mn (s_sm h n) := by
  intro n
  induction n with
  | zero => intro _; rfl
  | succ n ih => intro e; exact s_mn_add (ih (fun k hk => e k (by omega))) (e n (by omega))
theorem s_sm_bd {f : Nat → Nat} {C : Nat} : ∀ {n : Nat}, (∀ k, k < n → f k ≤ C) → s_sm f n ≤ n * C := by
  intro n
  induction n with
  | zero => intro _; exact Nat.zero_le _
  | succ n ih =>
    intro h
    have h1 := ih (fun k hk => h k (by omega))
    have h2 := h n (by omega)
    simp only [s_sm]
    rw [Nat.add_mul, Nat.one_mul]
    omega
/-- a table's burden, never more than a million -/
noncomputable def s_bt (fm : sF) (ly : sY) (t : Nat) : Nat := match ly t with | none => 0 | some L => s_mn (s_mn (s_BU fm ly L.1) * s_nc L)
noncomputable def s_b1 (fm : sF) (ly : sY) (k : Nat) (n : Nat) : Nat := s_sm (fun t => s_tt (fm k) t * s_bt fm ly t) n
noncomputable def s_b2 (fm : sF) (ly : sY) (c k : Nat) : Nat := s_if (s_RE fm c k ∧ fm k ≠ []) (1 + s_b1 fm ly k 6) 0
theorem s_b2_BU {fm : sF} {ly : sY} {rk : Nat → Nat} (hr : s_rk fm ly rk) (hm : s_mo fm) (hb : ∀ x, x < 30 → rk x < 30) {c : Nat} (hc : c < 24) : s_mn (s_sm (s_b2 fm ly c) 24) = s_mn (s_BU fm ly c) := by
  rw [s_BU_st hr hm hb hc]
  unfold s_bs
  refine s_mn_sm (fun k hk => ?_)
  unfold s_b2
  by_cases h : s_RE fm c k ∧ fm k ≠ []
  · rw [s_if_p h, s_if_p h]
    unfold s_ld
    refine s_mn_add rfl ?_
    have e := s_tt_sum (F := fun t => match ly t with | none => 0 | some L => s_BU fm ly L.1 * s_nc L) (ms := fm k) (hm k hk)
    refine Eq.trans ?_ (congrArg s_mn e).symm
    unfold s_b1
    refine s_mn_sm (fun t ht => ?_)
    unfold s_bt
    cases ly t with
    | none => rfl
    | some L =>
      simp only
      rw [s_mn_mul (b := s_BU fm ly L.1 * s_nc L), Nat.mul_comm (s_BU fm ly L.1), s_mn_mul (b := s_BU fm ly L.1), Nat.mul_comm (s_nc L)]
  · rw [s_if_n h, s_if_n h]
theorem s_bt_le {fm : sF} {ly : sY} {t : Nat} : s_bt fm ly t ≤ 1000000 := by
  unfold s_bt
  cases ly t with
  | none => exact Nat.zero_le _
  | some L => simp only; unfold s_mn; omega
theorem s_b1_le {fm : sF} {ly : sY} {k n : Nat} (hl : (fm k).length ≤ 96) : s_b1 fm ly k n ≤ n * 96000000 :=
  s_sm_bd fun t _ => Nat.le_trans (Nat.mul_le_mul (Nat.le_trans s_tt_le hl) s_bt_le) (by decide)
theorem s_b2_le {fm : sF} {ly : sY} {c n : Nat} (hn : n ≤ 24) (hl : ∀ k, k < 24 → (fm k).length ≤ 96) : s_sm (s_b2 fm ly c) n ≤ n * 576000001 :=
  s_sm_bd fun k hk => by
    unfold s_b2
    have := s_b1_le (ly := ly) (n := 6) (hl k (by omega))
    unfold s_if
    split <;> omega
theorem t_min {a b : Nat} {K : Int32 → zHp → Nat → Prop} (hd : 1 ≤ d) (ha : a < 2 ^ 31) (hb : b < 2 ^ 31) (hK : K (nI (min a b)) hp nx) : zMt l g yJ10_min cJ10_min 2 (some .int) d 0 0 [.int (nI a), .int (nI b)] hp nx (zQi g K) := by
  obtain ⟨d, rfl⟩ := Nat.exists_eq_add_of_le' hd
  apply met_J10_min
  unfold wp_J10_min
  refine ⟨_, fun _ h => h, pk_lt b a (fun h => ?_) (fun h => ?_)⟩
  · rw [show min a b = b by omega] at hK; exact hK
  · rw [show min a b = a by omega] at hK; exact hK
theorem t_max {a b : Nat} {K : Int32 → zHp → Nat → Prop} (hd : 1 ≤ d) (ha : a < 2 ^ 31) (hb : b < 2 ^ 31) (hK : K (nI (max a b)) hp nx) : zMt l g yJ10_max cJ10_max 2 (some .int) d 0 0 [.int (nI a), .int (nI b)] hp nx (zQi g K) := by
  obtain ⟨d, rfl⟩ := Nat.exists_eq_add_of_le' hd
  apply met_J10_max
  unfold wp_J10_max
  refine ⟨_, fun _ h => h, pk_lt a b (fun h => ?_) (fun h => ?_)⟩
  · rw [show max a b = b by omega] at hK; exact hK
  · rw [show max a b = a by omega] at hK; exact hK
theorem t_minL {a b : Nat} {K : Int64 → zHp → Nat → Prop} (hd : 1 ≤ d) (ha : a < 2 ^ 63) (hb : b < 2 ^ 63) (hK : K (lN (min a b)) hp nx) : zMt l g yJ10_min_2 cJ10_min_2 4 (some .long) d 0 0 [.long (lN a), .long (lN b)] hp nx (zQl g K) := by
  obtain ⟨d, rfl⟩ := Nat.exists_eq_add_of_le' hd
  apply met_J10_min_2
  unfold wp_J10_min_2
  refine ⟨_, fun _ h => h, fun h => ?_, fun h => ?_⟩
  · rw [lg_cmp_gt, pk_lLT hb ha] at h
    rw [show min a b = b by omega] at hK; exact hK
  · rw [lg_cmp_gt, pk_lLT hb ha] at h
    rw [show min a b = a by omega] at hK; exact hK
def tBm (τ : tS) : Prop := ∀ x, x < 24 → τ.2.2.1 16 0 x ≠ 0 → τ.2.2.1 17 0 x = nI (s_mn (s_BU (tfm τ) (tly τ) x))
def tBur (l : Launch) (g : zG) (m0 : Nat) (hp : zHp) (nx : Nat) (rk : Nat → Nat) (n : Nat) : Prop := ∀ (d c : Nat) (τ : tS) (K : Int32 → zHp → Nat → Prop), c < 24 → rk c < n → rk c + 5 ≤ d → tOK rk τ → tNm τ → tBm τ → (∀ τ', trf 16 17 τ τ' → tBm τ' → K (nI (s_mn (s_BU (tfm τ) (tly τ) c))) (tput g m0 τ' hp) nx) → zMt l g yX5_burdenOf cX5_burdenOf 7 (some .int) d 0 0 [.ref m0, .int (nI c)] (tput g m0 τ hp) nx (zQi g K)
theorem t_burdenOfTable {rk : Nat → Nat} {n t : Nat} {L : sL} {K : Int32 → zHp → Nat → Prop} (ih : tBur l g m0 hp nx rk n) (ht : t < 6) (hL : tly τ t = some L) (hrk : rk L.1 < n) (hd : rk L.1 + 6 ≤ d) (hO : tOK rk τ) (hN : tNm τ) (hM : tBm τ) (hK : ∀ τ', trf 16 17 τ τ' → tBm τ' → K (nI (s_bt (tfm τ) (tly τ) t)) (tput g m0 τ' hp) nx) : zMt l g yX5_burdenOfTable cX5_burdenOfTable 2 (some .int) d 0 0 [.ref m0, .int (nI t)] (tput g m0 τ hp) nx (zQi g K) := by
  obtain ⟨d, rfl⟩ := Nat.exists_eq_add_of_le' (show 1 ≤ d by omega)
  apply met_X5_burdenOfTable
  unfold wp_X5_burdenOfTable
  obtain ⟨_, lo, la, e7, -⟩ := tly_some hO.2.1 ht hL
  have ct : (nI t).toNatClampNeg = t := nI_clamp (by omega)
  have it : vp_in (nI t) 6 := vp_in_nI ht (by decide)
  simp only [tg_outputs, ta_outputs, tu_outputs, ct, it, e7, true_implies, false_implies, implies_true, and_true, true_and, forall_eq, tw_zo]
  refine ih d L.1 τ _ lo hrk (by omega) hO hN hM fun τ1 f1 hM1 => ?_
  have pe1 := f1.pe (by decide) (by decide)
  simp only [tw_zo]
  refine t_cases (L := L) (by omega) (hO.pe pe1).2.1 ht (by rw [pe1.ly]; exact hL) ?_
  have hnc := (hO.2.2.2.2.2.1 t ht L hL).2.2
  have hb1 : s_mn (s_BU (tfm τ) (tly τ) L.1) * s_nc L ≤ 64000000 := Nat.le_trans (Nat.mul_le_mul (show s_mn _ ≤ 1000000 by unfold s_mn; omega) hnc) (by decide)
  rw [pk_mul]
  refine t_min (a := 1000000) (by omega) (by decide) (by omega) ?_
  have e : s_bt (tfm τ) (tly τ) t = min 1000000 (s_mn (s_BU (tfm τ) (tly τ) L.1) * s_nc L) := by
    unfold s_bt
    rw [hL]
    simp only
    generalize s_mn (s_BU (tfm τ) (tly τ) L.1) * s_nc L = X
    unfold s_mn
    omega
  rw [← e]
  exact hK τ1 f1 hM1
theorem t_burdenOf {rk : Nat → Nat} (hB : zB g ≤ m0) : ∀ n, tBur l g m0 hp nx rk n := by
  intro n
  induction n with
  | zero => intro d c τ K _ h; exact absurd h (Nat.not_lt_zero _)
  | succ n ih =>
    intro d c τ K hc hrk hd hO hN hM hK
    obtain ⟨d, rfl⟩ := Nat.exists_eq_add_of_le' (show 1 ≤ d by omega)
    apply met_X5_burdenOf
    unfold wp_X5_burdenOf
    have cc : (nI c).toNatClampNeg = c := nI_clamp (by omega)
    have ic : vp_in (nI c) 24 := vp_in_nI hc (by decide)
    have hB2 : ∀ n, zB g ≤ m0 + n := fun n => by omega
    have n1 : vp_nar .boolean 1 = 1 := by decide
    have hmo := hO.1.mo
    have hem : ∀ k, k < 24 → (τ.2.2.1 3 0 k = 0 ↔ tfm τ k = []) := by
      intro k hk
      obtain ⟨s, hs96, hs, -⟩ := hO.1 k hk
      rw [tfm_len hs hs96, hs]
      by_cases e : s = 0
      · subst e; simp; rfl
      · simp [e]; exact nI_ne0 (by omega) (by omega)
    have hlen : ∀ k, k < 24 → (tfm τ k).length ≤ 96 := by
      intro k hk
      obtain ⟨s, hs96, hs, -⟩ := hO.1 k hk
      rw [tfm_len hs hs96]
      simpa using hs96
    by_cases hh : τ.2.2.1 16 0 c = 0
    · simp only [tg_hasBurden, ta_hasBurden, tu_hasBurden, cc, ic, hh, not_true_eq_false, true_implies, false_implies, implies_true, and_true, true_and, forall_eq, tw_zo]
      refine t_isInput' (by omega) hc ?_
      obtain ⟨P, hP⟩ : ∃ P : Int64 → Int32 → zHp → Nat → Prop, P = (fun x set h nx' => x = lN 0 ∧ h = tput g m0 τ hp ∧ nx = nx' ∧ ∀ k, k < 24 → ((bs set k = true ∧ tfm τ k ≠ []) ↔ (s_RE (tfm τ) c k ∧ tfm τ k ≠ []))) := ⟨_, rfl⟩
      refine ⟨P, ?_, ?_, ?_⟩
      · intro x set h nx' hh'
        rw [hP] at hh'
        obtain ⟨rfl, rfl, rfl, hset⟩ := hh'
        refine ⟨fun n x set' i h nx' => ∃ ii τ1, ii ≤ 24 ∧ n = 24 - ii ∧ i = nI ii ∧ set = set' ∧ h = tput g m0 τ1 hp ∧ nx = nx' ∧ trf 16 17 τ τ1 ∧ tBm τ1 ∧ x = lN (s_sm (s_b2 (tfm τ) (tly τ) c) ii), ⟨24, 0, τ, by omega, rfl, rfl, rfl, rfl, rfl, trf.rf, hM, rfl⟩, ?_⟩
        rintro n _ _ _ _ _ ⟨ii, τ1, hii, hn, rfl, rfl, rfl, rfl, f1, hM1, rfl⟩
        have pe1 := f1.pe (by decide) (by decide)
        refine pk_le 24 ii (fun hle => ?_) (fun hlt2 => ?_)
        · have hie : ii = 24 := by omega
          subst hie
          simp only [tg_hasBurden, ta_hasBurden, tu_hasBurden, tg_burden, ta_burden, tu_burden, cc, ic, hB2, n1, true_implies, false_implies, implies_true, and_true, true_and, forall_eq, tq1, tq3, tq4, tq5, tq7, tq8, tq9, tqa, tqc, tqd, tqe, tqf, tqg, tqh, tqj, va_s, ne_eq, reduceCtorEq, not_false_eq_true, not_true_eq_false, if_true, if_false, Nat.reduceEqDiff]
          have hT := s_b2_le (ly := tly τ) (c := c) (n := 24) (by decide) hlen
          refine t_minL (b := 1000000) (by omega) (by omega) (by decide) ?_
          simp only [tg_hasBurden, ta_hasBurden, tu_hasBurden, tg_burden, ta_burden, tu_burden, cc, ic, hB2, n1, true_implies, false_implies, implies_true, and_true, true_and, forall_eq, tq1, tq3, tq4, tq5, tq7, tq8, tq9, tqa, tqc, tqd, tqe, tqf, tqg, tqh, tqj, va_s, ne_eq, reduceCtorEq, not_false_eq_true, not_true_eq_false, if_true, if_false, Nat.reduceEqDiff]
          rw [lN_i]
          have e : min (s_sm (s_b2 (tfm τ) (tly τ) c) 24) 1000000 = s_mn (s_BU (tfm τ) (tly τ) c) := s_b2_BU hO.2.2.1 hmo hO.2.2.2.1 hc
          rw [e]
          refine hK _ ((f1.aI (Or.inl rfl)).aI (Or.inr rfl)) ?_
          intro y hy h
          have pe2 : tpe τ1 (taI (taI τ1 16 0 (va_up (τ1.2.2.1 16 0) c 1)) 17 0 (va_up (τ1.2.2.1 17 0) c (nI (s_mn (s_BU (tfm τ) (tly τ) c))))) := ((trf.rf.aI (Or.inl rfl)).aI (Or.inr rfl) : trf 16 17 τ1 _).pe (by decide) (by decide)
          rw [pe2.fm, pe2.ly]
          simp only [tq1, tq3, tq4, tq5, tq7, tq8, tq9, tqa, tqc, tqd, tqe, tqf, tqg, tqh, tqj, va_s, ne_eq, reduceCtorEq, not_false_eq_true, not_true_eq_false, if_true, if_false, Nat.reduceEqDiff] at h ⊢
          by_cases e : y = c
          · subst e; rw [va_s, pe1.fm, pe1.ly]
          · rw [va_o e] at h ⊢
            exact hM1 y hy h
        · refine ⟨fun x set' i h nx' => i = nI ii ∧ set = set' ∧ ∃ τ2, h = tput g m0 τ2 hp ∧ nx = nx' ∧ trf 16 17 τ τ2 ∧ tBm τ2 ∧ x = lN (s_sm (s_b2 (tfm τ) (tly τ) c) (ii + 1)), ?_, fun h => ?_, fun h => ?_⟩
          · rintro _ _ _ _ _ ⟨rfl, rfl, τ2, rfl, rfl, f2, hM2, rfl⟩
            exact ⟨_, by omega, ii + 1, τ2, by omega, rfl, nI_1 ii, rfl, rfl, rfl, f2, hM2, rfl⟩
          · have hnin := (b_t0 (by omega)).mp h
            refine ⟨rfl, rfl, τ1, rfl, rfl, f1, hM1, ?_⟩
            have : s_b2 (tfm τ) (tly τ) c ii = 0 := s_if_n fun q => hnin ((hset ii hlt2).mpr q).1
            simp only [s_sm, this, Nat.add_zero]
          · have hin : bs set ii = true := Classical.byContradiction fun q => h ((b_t0 (by omega)).mpr q)
            rw [tw_zo]
            refine t_isInput' (by omega) hlt2 ?_
            have k3 : τ1.2.2.1 3 0 ii = τ.2.2.1 3 0 ii := by rw [pe1.1 3 (by decide)]
            rw [k3]
            by_cases h3 : τ.2.2.1 3 0 ii = 0
            · have hz : s_b2 (tfm τ) (tly τ) c ii = 0 := s_if_n fun q => q.2 ((hem ii hlt2).mp h3)
              rw [if_pos h3]
              refine ⟨fun q => absurd q (by decide), fun _ => ⟨rfl, rfl, τ1, rfl, rfl, f1, hM1, ?_⟩⟩
              simp only [s_sm, hz, Nat.add_zero]
            · have hfne : tfm τ ii ≠ [] := fun q => h3 ((hem ii hlt2).mpr q)
              have hz : s_b2 (tfm τ) (tly τ) c ii = 1 + s_b1 (tfm τ) (tly τ) ii 6 := s_if_p ((hset ii hlt2).mp ⟨hin, hfne⟩)
              have hRE := ((hset ii hlt2).mp ⟨hin, hfne⟩).1
              have hrr := s_RE_rk hO.2.2.1 hO.2.2.2.1 hc hRE
              rw [if_neg h3]
              refine ⟨fun _ => ?_, fun q => absurd rfl q⟩
              refine ⟨fun n x set' i t h nx' => ∃ tt τ2, tt ≤ 6 ∧ n = 6 - tt ∧ t = nI tt ∧ i = nI ii ∧ set = set' ∧ h = tput g m0 τ2 hp ∧ nx = nx' ∧ trf 16 17 τ τ2 ∧ tBm τ2 ∧ x = lN (s_sm (s_b2 (tfm τ) (tly τ) c) ii + 1 + s_b1 (tfm τ) (tly τ) ii tt), ⟨6, 0, τ1, by omega, rfl, rfl, rfl, rfl, rfl, rfl, f1, hM1, lN_1 _⟩, ?_⟩
              rintro n _ _ _ _ _ _ ⟨tt, τ2, htt, hn, rfl, rfl, rfl, rfl, rfl, f2, hM2, rfl⟩
              have pe2 := f2.pe (by decide) (by decide)
              refine pk_le 6 tt (fun hle => ?_) (fun hlt3 => ?_)
              · have hte : tt = 6 := by omega
                subst hte
                refine ⟨rfl, rfl, τ2, rfl, rfl, f2, hM2, ?_⟩
                simp only [s_sm, hz, Nat.add_assoc]
              · have ct : (nI tt).toNatClampNeg = tt := nI_clamp (by omega)
                have it : vp_in (nI tt) 6 := vp_in_nI hlt3 (by decide)
                have k6 : τ2.2.2.1 6 0 tt = τ.2.2.1 6 0 tt := by rw [pe2.1 6 (by decide)]
                rw [tg_laid, ta_laid]
                refine ⟨it, ?_⟩
                rw [ct, k6]
                refine ⟨fun x set' i t h nx' => t = nI tt ∧ i = nI ii ∧ set = set' ∧ ∃ τ3, h = tput g m0 τ3 hp ∧ nx = nx' ∧ trf 16 17 τ τ3 ∧ tBm τ3 ∧ x = lN (s_sm (s_b2 (tfm τ) (tly τ) c) ii + 1 + s_b1 (tfm τ) (tly τ) ii (tt + 1)), ?_, fun h6 => ?_, fun h6 => ?_⟩
                · rintro _ _ _ _ _ _ ⟨rfl, rfl, rfl, τ3, rfl, rfl, f3, hM3, rfl⟩
                  exact ⟨_, by omega, tt + 1, τ3, by omega, rfl, nI_1 tt, rfl, rfl, rfl, rfl, f3, hM3, rfl⟩
                · refine ⟨rfl, rfl, rfl, τ2, rfl, rfl, f2, hM2, ?_⟩
                  have : s_bt (tfm τ) (tly τ) tt = 0 := by unfold s_bt; rw [tly_none.mp h6]
                  simp only [s_b1, s_sm, this, Nat.mul_zero, Nat.add_zero]
                · obtain ⟨L, hL⟩ : ∃ L, tly τ tt = some L := by
                    cases hl : tly τ tt with
                    | none => exact absurd (tly_none.mpr hl) h6
                    | some L => exact ⟨L, rfl⟩
                  have k13 : τ2.2.2.1 13 ii tt = nI (s_tt (tfm τ ii) tt) := by rw [pe2.1 13 (by decide)]; exact (hN ii hlt2).2 tt hlt3
                  have hle96 : s_tt (tfm τ ii) tt ≤ 96 := Nat.le_trans s_tt_le (hlen ii hlt2)
                  rw [tw_zo]
                  refine t_times' (by omega) hlt2 hlt3 ?_
                  rw [k13]
                  refine pk_le (s_tt (tfm τ ii) tt) 0 (fun hz0 => ?_) (fun hz0 => ?_)
                  · refine ⟨rfl, rfl, rfl, τ2, rfl, rfl, f2, hM2, ?_⟩
                    have : s_tt (tfm τ ii) tt = 0 := by omega
                    simp only [s_b1, s_sm, this, Nat.zero_mul, Nat.add_zero]
                  · rw [tw_zo]
                    refine t_times' (by omega) hlt2 hlt3 ?_
                    rw [k13, tw_zo]
                    obtain ⟨m, hm, h3', h4⟩ := s_tt_pos.mp hz0
                    have hr1 := hO.2.2.1.2.1 ii hlt2 m hm h3'
                    rw [h4] at hr1
                    have hr2 := hO.2.2.1.2.2 tt hlt3 L hL
                    refine t_burdenOfTable (L := L) ih hlt3 (by rw [pe2.ly]; exact hL) (by omega) (by omega) (hO.pe pe2) (hN.pe pe2) hM2 fun τ3 f3 hM3 => ?_
                    rw [pe2.fm, pe2.ly, nI_l (by omega), nI_l (Nat.lt_of_le_of_lt s_bt_le (by decide)), lN_mul, lN_add]
                    refine ⟨rfl, rfl, rfl, τ3, rfl, rfl, f2.tr f3, hM3, ?_⟩
                    simp only [s_b1, s_sm, Nat.add_assoc]
      · intro h
        have h3 : ¬ τ.2.2.1 3 0 c = 0 := fun q => by rw [if_pos q] at h; cases h
        rw [tw_zo]
        refine t_reached (by omega) hO.2.2.1 hO.2.2.2.1 hN hc ?_
        rw [hP]
        refine ⟨rfl, rfl, rfl, fun k hk => ?_⟩
        rw [s_ms_b (by decide)]
        exact ⟨fun q => ⟨q.1.2, q.2⟩, fun q => ⟨⟨hk, q.1⟩, q.2⟩⟩
      · intro h
        have h3 : τ.2.2.1 3 0 c = 0 := Classical.byContradiction fun q => by rw [if_neg q] at h; exact h rfl
        rw [hP]
        refine ⟨rfl, rfl, rfl, fun k hk => ⟨fun q => ?_, fun q => ?_⟩⟩
        · rw [b_0] at q; cases q.1
        · have he := (hem c hc).mp h3
          rcases (s_RE_st hO.2.2.1 hO.2.2.2.1 hc k).mp q.1 with e | ⟨m, hm, _⟩
          · subst e; exact absurd he q.2
          · rw [he] at hm; cases hm
    · simp only [tg_hasBurden, ta_hasBurden, tu_hasBurden, tg_burden, ta_burden, tu_burden, cc, ic, hh, not_false_eq_true, true_implies, false_implies, implies_true, and_true, true_and, forall_eq]
      rw [hM c hc hh]
      exact hK τ trf.rf hM
theorem t_burdenNow {rk : Nat → Nat} {c : Nat} {K : Int32 → zHp → Nat → Prop} (hd : 40 ≤ d) (hB : zB g ≤ m0) (hO : tOK rk τ) (hN : tNm τ) (hc : c < 24) (hK : ∀ τ', trf 16 17 τ τ' → tBm τ' → K (nI (s_mn (s_BU (tfm τ) (tly τ) c))) (tput g m0 τ' hp) nx) : zMt l g yX5_burdenNow cX5_burdenNow 3 (some .int) d 0 0 [.ref m0, .int (nI c)] (tput g m0 τ hp) nx (zQi g K) := by
  obtain ⟨d, rfl⟩ := Nat.exists_eq_add_of_le' (show 1 ≤ d by omega)
  apply met_X5_burdenNow
  unfold wp_X5_burdenNow
  have hB2 : ∀ n, zB g ≤ m0 + n := fun n => by omega
  have n0 : vp_nar .boolean 0 = 0 := by decide
  refine ⟨fun n x h nx' => ∃ i τ1, i ≤ 24 ∧ n = 24 - i ∧ x = nI i ∧ h = tput g m0 τ1 hp ∧ nx = nx' ∧ trf 16 17 τ τ1 ∧ ∀ j, j < i → τ1.2.2.1 16 0 j = 0, ⟨24, 0, τ, by omega, rfl, rfl, rfl, rfl, trf.rf, fun j hj => absurd hj (by omega)⟩, ?_⟩
  rintro n _ _ _ ⟨i, τ1, hi, hn, rfl, rfl, rfl, f1, h14⟩
  have pe1 := f1.pe (by decide) (by decide)
  refine pk_le 24 i (fun hle => ?_) (fun hlt => ?_)
  · rw [tw_zo]
    refine t_burdenOf hB 30 d c τ1 _ hc (hO.2.2.2.1 c (by omega)) (by have := hO.2.2.2.1 c (by omega); omega) (hO.pe pe1) (hN.pe pe1) (fun x hx h => absurd (h14 x (by omega)) h) fun τ2 f2 hM2 => ?_
    rw [pe1.fm, pe1.ly]
    exact hK τ2 (f1.tr f2) hM2
  · have ci : (nI i).toNatClampNeg = i := nI_clamp (by omega)
    have ii : vp_in (nI i) 24 := vp_in_nI hlt (by decide)
    simp only [tg_hasBurden, ta_hasBurden, tu_hasBurden, ci, ii, hB2, n0, true_implies, false_implies, implies_true, and_true, true_and, forall_eq]
    refine ⟨_, by omega, i + 1, _, by omega, rfl, nI_1 i, rfl, f1.aI (Or.inl rfl), fun j hj => ?_⟩
    rw [tqa]
    by_cases e : j = i
    · rw [e, va_s]
    · rw [va_o e]; exact h14 j (by omega)
theorem t_isTooMuch {rk : Nat → Nat} {K : Int32 → zHp → Nat → Prop} (hd : 45 ≤ d) (hB : zB g ≤ m0) (hO : tOK rk τ) (hN : tNm τ) (hK : ∀ τ', trf 16 17 τ τ' → K (s_if (s_tm (tfm τ) (tly τ)) 1 0) (tput g m0 τ' hp) nx) : zMt l g yX5_isTooMuch cX5_isTooMuch 3 (some .boolean) d 0 0 [.ref m0] (tput g m0 τ hp) nx (zQi g K) := by
  obtain ⟨d, rfl⟩ := Nat.exists_eq_add_of_le' (show 1 ≤ d by omega)
  apply met_X5_isTooMuch
  unfold wp_X5_isTooMuch
  rw [tw_zo]
  refine t_burdenNow (c := 0) (by omega) hB hO hN (by decide) fun τ0 f0 hM0 => ?_
  refine ⟨fun n x i h nx' => ∃ ii τ1 mx, ii ≤ 24 ∧ n = 24 - ii ∧ i = nI ii ∧ x = nI mx ∧ h = tput g m0 τ1 hp ∧ nx = nx' ∧ trf 16 17 τ τ1 ∧ tBm τ1 ∧ mx ≤ 1000000 ∧ (2000 < mx → ∃ c, c < 24 ∧ 2000 < s_BU (tfm τ) (tly τ) c) ∧ (∀ c, c < ii → 2000 < s_BU (tfm τ) (tly τ) c → 2000 < mx), ⟨24, 0, τ0, s_mn (s_BU (tfm τ) (tly τ) 0), by omega, rfl, rfl, rfl, rfl, rfl, f0, hM0, by unfold s_mn; omega, fun h => ⟨0, by decide, by unfold s_mn at h; omega⟩, fun c hc => absurd hc (by omega)⟩, ?_⟩
  rintro n _ _ _ _ ⟨ii, τ1, mx, hii, hn, rfl, rfl, rfl, rfl, f1, hM1, hmx, q1, q2⟩
  have pe1 := f1.pe (by decide) (by decide)
  refine pk_le 24 ii (fun hle => ?_) (fun hlt => ?_)
  · refine ⟨fun n x i h nx' => ∃ tt τ1 mx, tt ≤ 6 ∧ n = 6 - tt ∧ i = nI tt ∧ x = nI mx ∧ h = tput g m0 τ1 hp ∧ nx = nx' ∧ trf 16 17 τ τ1 ∧ tBm τ1 ∧ mx ≤ 1000000 ∧ (2000 < mx → s_tm (tfm τ) (tly τ)) ∧ (∀ c, c < 24 → 2000 < s_BU (tfm τ) (tly τ) c → 2000 < mx) ∧ (∀ t, t < tt → ∀ L, tly τ t = some L → 2000 < s_BU (tfm τ) (tly τ) L.1 * s_nc L → 2000 < mx), ⟨6, 0, τ1, mx, by omega, rfl, rfl, rfl, rfl, rfl, f1, hM1, hmx, fun h => Or.inl (q1 h), fun c hc => q2 c (by omega), fun t ht => absurd ht (by omega)⟩, ?_⟩
    rintro n _ _ _ _ ⟨tt, τ1, mx, htt, hn, rfl, rfl, rfl, rfl, f1, hM1, hmx, q1, q2, q3⟩
    have pe1 := f1.pe (by decide) (by decide)
    refine pk_le 6 tt (fun hle => ?_) (fun hlt3 => ?_)
    · refine ⟨_, fun _ _ _ _ _ h => h, ?_⟩
      refine pk_le mx 2000 (fun h => ⟨Or.inl rfl, ?_⟩) (fun h => ⟨Or.inr rfl, ?_⟩)
      · have : ¬ s_tm (tfm τ) (tly τ) := by
          rintro (⟨c, hc, hb⟩ | ⟨t, ht, L, hL, hb⟩)
          · have := q2 c hc hb; omega
          · have := q3 t (by omega) L hL hb; omega
        have hK' := hK τ1 f1
        rw [s_if_n this] at hK'
        exact hK'
      · have hK' := hK τ1 f1
        rw [s_if_p (q1 h)] at hK'
        exact hK'
    · have ct : (nI tt).toNatClampNeg = tt := nI_clamp (by omega)
      have it : vp_in (nI tt) 6 := vp_in_nI hlt3 (by decide)
      have k6 : τ1.2.2.1 6 0 tt = τ.2.2.1 6 0 tt := by rw [pe1.1 6 (by decide)]
      rw [tg_laid, ta_laid]
      refine ⟨it, fun x6 hx6 => ?_⟩
      rw [ct, k6] at hx6
      subst hx6
      refine ⟨fun x i h nx' => i = nI tt ∧ ∃ τ2 mx, x = nI mx ∧ h = tput g m0 τ2 hp ∧ nx = nx' ∧ trf 16 17 τ τ2 ∧ tBm τ2 ∧ mx ≤ 1000000 ∧ (2000 < mx → s_tm (tfm τ) (tly τ)) ∧ (∀ c, c < 24 → 2000 < s_BU (tfm τ) (tly τ) c → 2000 < mx) ∧ (∀ t, t < tt + 1 → ∀ L, tly τ t = some L → 2000 < s_BU (tfm τ) (tly τ) L.1 * s_nc L → 2000 < mx), ?_, fun h6 => ?_, fun h6 => ?_⟩
      · rintro _ _ _ _ ⟨rfl, τ2, mx, rfl, rfl, rfl, f2, hM2, w1, w2, w3, w4⟩ x31 rfl
        exact ⟨_, by omega, tt + 1, τ2, mx, by omega, rfl, nI_1 tt, rfl, rfl, rfl, f2, hM2, w1, w2, w3, w4⟩
      · refine ⟨rfl, τ1, mx, rfl, rfl, rfl, f1, hM1, hmx, q1, q2, fun t ht L hL hb => ?_⟩
        by_cases e : t = tt
        · subst e; rw [tly_none.mp h6] at hL; cases hL
        · exact q3 t (by omega) L hL hb
      · obtain ⟨L, hL⟩ : ∃ L, tly τ tt = some L := by
          cases hl : tly τ tt with
          | none => exact absurd (tly_none.mpr hl) h6
          | some L => exact ⟨L, rfl⟩
        have lo := (hO.2.2.1.2.2 tt hlt3 L hL).1
        have hrk := hO.2.2.2.1 L.1 (by omega)
        rw [tw_zo]
        refine t_burdenOfTable (n := 30) (L := L) (t_burdenOf hB 30) hlt3 (by rw [pe1.ly]; exact hL) hrk (by omega) (hO.pe pe1) (hN.pe pe1) hM1 fun τ2 f2 hM2 => ?_
        rw [pe1.fm, pe1.ly]
        have hble := s_bt_le (fm := tfm τ) (ly := tly τ) (t := tt)
        refine t_max (by omega) (by omega) (by omega) ?_
        have eb : s_bt (tfm τ) (tly τ) tt = s_mn (s_BU (tfm τ) (tly τ) L.1 * s_nc L) := by
          unfold s_bt
          rw [hL]
          simp only
          rw [Nat.mul_comm, ← s_mn_mul, Nat.mul_comm]
        have e2 : 2000 < s_bt (tfm τ) (tly τ) tt ↔ 2000 < s_BU (tfm τ) (tly τ) L.1 * s_nc L := by
          rw [eb]
          generalize s_BU (tfm τ) (tly τ) L.1 * s_nc L = X
          unfold s_mn
          omega
        refine ⟨rfl, τ2, _, rfl, rfl, rfl, f1.tr f2, hM2, by omega, fun h => ?_, fun c hc hb => ?_, fun t ht L' hL' hb => ?_⟩
        · by_cases h2 : 2000 < mx
          · exact q1 h2
          · exact Or.inr ⟨tt, hlt3, L, hL, e2.mp (by omega)⟩
        · have := q2 c hc hb; omega
        · by_cases e : t = tt
          · subst e
            rw [hL] at hL'
            cases hL'
            have := e2.mpr hb
            omega
          · have := q3 t (by omega) L' hL' hb; omega
  · rw [tw_zo]
    have hrk := hO.2.2.2.1 ii (by omega)
    refine t_burdenOf hB 30 d ii τ1 _ hlt hrk (by omega) (hO.pe pe1) (hN.pe pe1) hM1 fun τ2 f2 hM2 => ?_
    rw [pe1.fm, pe1.ly]
    refine t_max (by omega) (by omega) (by unfold s_mn; omega) ?_
    intro x49 hx49
    subst hx49
    have e2 : 2000 < s_mn (s_BU (tfm τ) (tly τ) ii) ↔ 2000 < s_BU (tfm τ) (tly τ) ii := by unfold s_mn; omega
    have hw : 24 - (ii + 1) < n := by clear q1 q2; omega
    have hmx2 : max mx (s_mn (s_BU (tfm τ) (tly τ) ii)) ≤ 1000000 := by clear q1 q2; unfold s_mn; omega
    refine ⟨24 - (ii + 1), hw, ii + 1, τ2, max mx (s_mn (s_BU (tfm τ) (tly τ) ii)), hlt, rfl, nI_1 ii, rfl, rfl, rfl, f1.tr f2, hM2, hmx2, fun h => ?_, fun c hc hb => ?_⟩
    · by_cases h2 : 2000 < mx
      · exact q1 h2
      · exact ⟨ii, hlt, e2.mp (by omega)⟩
    · by_cases e : c = ii
      · subst e
        have := e2.mpr hb
        omega
      · have := q2 c (by omega) hb; omega
end TC
