set_option maxRecDepth 100000
/-! THE REFERENCE: the slice, unlike numbers -/
section UA
variable {l : Launch} {g : zG} {d m0 : Nat} {τ τ' τm τ2 : tS} {hp : zHp} {nx : Nat}
/-- formulas on the way to a table's output that read what it varies -/
def s_sl (S : sSt) (L : sL) (k : Nat) : Prop := s_RE S.1 L.1 k ∧ S.1 k ≠ [] ∧ ∃ x, s_RD S.1 S.2.1 k x ∧ s_va L x
theorem b_and0 {x y : Int32} : x &&& y = 0 ↔ ∀ k, ¬ (bs x k = true ∧ bs y k = true) := by
  constructor
  · intro h k hk
    have : bs (x &&& y) k = true := by rw [b_and, hk.1, hk.2]; rfl
    rw [h, b_0] at this
    cases this
  · intro h
    refine b_ext fun k _ => ?_
    rw [b_and, b_0]
    have := h k
    cases ha : bs x k <;> cases hb : bs y k <;> simp_all
theorem t_slice {rk : Nat → Nat} {t : Nat} {L : sL} {K : Int32 → zHp → Nat → Prop} (hd : 50 ≤ d) (hB : zB g ≤ m0) (hO : tOK rk τ) (hN : tNm τ) (ht : t < 6) (hL : tly τ t = some L) (hK : ∀ τ', trf 14 15 τ τ' → K (s_ms (s_sl (tst τ) L) 24) (tput g m0 τ' hp) nx) : zMt l g yX5_slice cX5_slice 5 (some .int) d 0 0 [.ref m0, .int (nI t)] (tput g m0 τ hp) nx (zQi g K) := by
  obtain ⟨d, rfl⟩ := Nat.exists_eq_add_of_le' (show 1 ≤ d by omega)
  apply met_X5_slice
  unfold wp_X5_slice
  obtain ⟨h6, lo, la, e7, -⟩ := tly_some hO.2.1 ht hL
  have ct : (nI t).toNatClampNeg = t := nI_clamp (by omega)
  have it : vp_in (nI t) 6 := vp_in_nI ht (by decide)
  simp only [tg_outputs, ta_outputs, tu_outputs, ct, it, e7, true_implies, false_implies, implies_true, and_true, true_and, forall_eq, tw_zo]
  refine t_reached (by omega) hO.2.2.1 hO.2.2.2.1 hN lo ?_
  have hfx : ∀ k, k < 24 → (τ.2.2.1 3 0 k = 0 ↔ tfm τ k = []) := by
    intro k hk
    obtain ⟨s, hs96, hs, -⟩ := hO.1 k hk
    rw [tfm_len hs hs96, hs]
    by_cases e : s = 0
    · subst e; simp; rfl
    · simp [e]; exact nI_ne0 (by omega) (by omega)
  obtain ⟨R, hR⟩ : ∃ R, R = s_ms (s_RE (tfm τ) L.1) 24 := ⟨_, rfl⟩
  rw [← hR]
  refine ⟨fun n set set' i h nx' => ∃ ii τ1, ii ≤ 24 ∧ n = 24 - ii ∧ i = nI ii ∧ R = set' ∧ h = tput g m0 τ1 hp ∧ nx = nx' ∧ trf 14 15 τ τ1 ∧ ∀ k, bs set k = true ↔ (k < ii ∧ s_sl (tst τ) L k), ⟨24, 0, τ, by omega, rfl, rfl, rfl, rfl, rfl, trf.rf, fun k => by rw [b_0]; simp⟩, ?_⟩
  rintro n set _ _ _ _ ⟨ii, τ1, hii, hn, rfl, rfl, rfl, rfl, f1, hs⟩
  have pe1 := f1.pe (by decide) (by decide)
  refine pk_le 24 ii (fun hle => ?_) (fun hlt => ?_)
  · have hie : ii = 24 := by omega
    subst hie
    rw [s_ms_eq (by decide) hs]
    exact hK τ1 f1
  · refine ⟨fun set set' i h nx' => i = nI ii ∧ R = set' ∧ ∃ τ2, h = tput g m0 τ2 hp ∧ nx = nx' ∧ trf 14 15 τ τ2 ∧ ∀ k, bs set k = true ↔ (k < ii + 1 ∧ s_sl (tst τ) L k), ?_, fun h => ?_, fun h => ?_⟩
    · rintro set _ _ _ _ ⟨rfl, rfl, τ2, rfl, rfl, f2, hs2⟩
      exact ⟨24 - (ii + 1), by omega, ii + 1, τ2, by omega, rfl, nI_1 ii, rfl, rfl, rfl, f2, hs2⟩
    · have hin := (b_t1 (by omega)).mp h
      rw [hR, s_ms_b (by decide)] at hin
      rw [tw_zo]
      refine t_isInput' (by omega) hlt ?_
      have k3 : τ1.2.2.1 3 0 ii = τ.2.2.1 3 0 ii := by rw [pe1.1 3 (by decide)]
      rw [k3]
      have no : ¬ s_sl (tst τ) L ii → ∀ k, bs set k = true ↔ (k < ii + 1 ∧ s_sl (tst τ) L k) := by
        intro hno k
        rw [hs k]
        constructor
        · rintro ⟨a, b⟩; exact ⟨by omega, b⟩
        · rintro ⟨a, b⟩
          by_cases e : k = ii
          · subst e; exact absurd b hno
          · exact ⟨by omega, b⟩
      by_cases h3 : τ.2.2.1 3 0 ii = 0
      · rw [if_pos h3]
        refine ⟨fun q => absurd q (by decide), fun _ => ⟨rfl, rfl, τ1, rfl, rfl, f1, no fun q => q.2.1 ((hfx ii hlt).mp h3)⟩⟩
      · rw [if_neg h3]
        refine ⟨fun _ => ?_, fun q => absurd rfl q⟩
        rw [tw_zo]
        refine t_reads (by omega) hB (hO.pe pe1) (hN.pe pe1) hlt fun τ2 f2 => ?_
        have pe2 := f2.pe (by decide) (by decide)
        rw [tw_zo]
        refine t_varied (L := L) (by omega) ((hO.pe pe1).pe pe2).2.1 ht (by rw [pe2.ly, pe1.ly]; exact hL) fun v hv => ?_
        rw [pe1.fm, pe1.ly]
        refine ⟨fun q => ⟨rfl, rfl, τ2, rfl, rfl, f1.tr f2, no fun z => ?_⟩, fun q => ⟨rfl, rfl, τ2, rfl, rfl, f1.tr f2, fun k => ?_⟩⟩
        · obtain ⟨_, _, x, hx1, hx2⟩ := z
          have hx24 := (s_RD_lt hO.2.2.1 hO.1.mo hO.2.2.2.1 _ ii x (Nat.lt_succ_self _) hlt hx1).1
          exact (b_and0.mp q) x ⟨(s_ms_b (by decide)).mpr ⟨hx24, hx1⟩, (hv x).mpr hx2⟩
        · have hyes : s_sl (tst τ) L ii := by
            refine ⟨hin.2, fun z => h3 ((hfx ii hlt).mpr z), ?_⟩
            apply Classical.byContradiction
            intro hno
            apply q
            rw [b_and0]
            intro x hx
            exact hno ⟨x, ((s_ms_b (by decide)).mp hx.1).2, (hv x).mp hx.2⟩
          rw [b_or, Bool.or_eq_true, hs k, b_one (by omega), decide_eq_true_eq]
          constructor
          · rintro (⟨a, b⟩ | e)
            · exact ⟨by omega, b⟩
            · subst e; exact ⟨by omega, hyes⟩
          · rintro ⟨a, b⟩
            by_cases e : k = ii
            · exact Or.inr e
            · exact Or.inl ⟨by omega, b⟩
    · have hnin : ¬ bs R ii = true := fun q => h ((b_t1 (by omega)).mpr q)
      refine ⟨rfl, rfl, τ1, rfl, rfl, f1, fun k => ?_⟩
      rw [hs k]
      constructor
      · rintro ⟨a, b⟩; exact ⟨by omega, b⟩
      · rintro ⟨a, b⟩
        by_cases e : k = ii
        · subst e
          exact absurd (by rw [hR]; exact (s_ms_b (by decide)).mpr ⟨hlt, b.1⟩) hnin
        · exact ⟨by omega, b⟩
theorem s_and01 {p q : Prop} : s_if p (1 : Int32) 0 &&& s_if q (1 : Int32) 0 = s_if (p ∧ q) 1 0 := by
  by_cases hp : p
  · rw [s_if_p hp]
    by_cases hq : q
    · rw [s_if_p hq, s_if_p ⟨hp, hq⟩]; decide
    · rw [s_if_n hq, s_if_n (fun h => hq h.2)]; decide
  · rw [s_if_n hp, s_if_n (p := p ∧ q) (fun h => hp h.1)]
    by_cases hq : q
    · rw [s_if_p hq]; decide
    · rw [s_if_n hq]; decide
theorem s_if_iff {α : Type} {p q : Prop} {a b : α} (h : p ↔ q) : s_if p a b = s_if q a b := by
  by_cases hp : p
  · rw [s_if_p hp, s_if_p (h.mp hp)]
  · rw [s_if_n hp, s_if_n (fun z => hp (h.mpr z))]
/-- how many unlike numbers of an axis: 0 the one, 1 the other -/
noncomputable def s_uo (S : sSt) (L : sL) (w : Nat) : Nat := if w = 0 then s_ul (S.2.2.1 L.2.1) L.2.2.2.1 else match L.2.2.1 with | none => 0 | some b => s_ul (S.2.2.1 b) L.2.2.2.2
theorem t_unlikeOnes {rk : Nat → Nat} {t w : Nat} {L : sL} {K : Int32 → zHp → Nat → Prop} (hd : 5 ≤ d) (hB : zB g ≤ m0) (hO : tOK rk τ) (ht : t < 6) (hw : w < 2) (hL : tly τ t = some L) (hK : K (nI (s_uo (tst τ) L w)) (tput g m0 τ hp) nx) : zMt l g yX5_unlikeOnes cX5_unlikeOnes 8 (some .int) d 0 0 [.ref m0, .int (nI t), .int (nI w)] (tput g m0 τ hp) nx (zQi g K) := by
  obtain ⟨d, rfl⟩ := Nat.exists_eq_add_of_le' (show 1 ≤ d by omega)
  apply met_X5_unlikeOnes
  unfold wp_X5_unlikeOnes
  obtain ⟨h6, lo, la, e7, e8, ⟨hn1, hn8, e10⟩, eax, hot⟩ := tly_some hO.2.1 ht hL
  have hbl := hO.2.2.2.2.2.1 t ht L hL
  have ct : (nI t).toNatClampNeg = t := nI_clamp (by omega)
  have it : vp_in (nI t) 6 := vp_in_nI ht (by decide)
  have e2 : (2 : Int32) * nI t = nI (2 * t) := pk_mul 2 t
  have e2w : nI (2 * t) + nI w = nI (2 * t + w) := nI_add _ _
  have c2 : (nI (2 * t + w)).toNatClampNeg = 2 * t + w := nI_clamp (by omega)
  have i2 : vp_in (nI (2 * t + w)) 12 := vp_in_nI (by omega) (by decide)
  have l2 : 2 * t + w < 12 := by omega
  have hcase : (w = 1 ∧ τ.2.2.1 9 0 t = -1 ∧ s_uo (tst τ) L w = 0) ∨ ∃ a n ax, a < 24 ∧ n ≤ 8 ∧ τ.2.2.1 10 0 (2 * t + w) = nI n ∧ List.length ax = n ∧ (∀ i, i < n → List.getD ax i 0 = τ.2.2.2 11 (2 * t + w) i) ∧ (∀ v ∈ ax, s_B v) ∧ s_uo (tst τ) L w = s_ul (tkd τ a) ax ∧ ((w = 0 ∧ τ.2.2.1 8 0 t = nI a) ∨ (w = 1 ∧ τ.2.2.1 9 0 t = nI a)) := by
    by_cases h0 : w = 0
    · subst h0
      refine Or.inr ⟨L.2.1, _, L.2.2.2.1, la, hn8, e10, rfl, fun i hi => ?_, hbl.1, ?_, Or.inl ⟨rfl, e8⟩⟩
      · rw [eax] at hi ⊢
        rw [← eax] at hi
        exact tax_get e10 hn8 hi
      · unfold s_uo; rw [if_pos rfl]; rfl
    · have h1 : w = 1 := by omega
      subst h1
      rcases hot with ⟨h9, n9, b9, my⟩ | ⟨b, hb, hba, my1, my8, h9, n9, e11, s9, eb⟩
      · refine Or.inl ⟨rfl, h9, ?_⟩
        unfold s_uo
        rw [if_neg (by decide), n9]
      · have elen : L.2.2.2.2.length = s_my L := by rw [eb]; exact tax_len e11 my8
        refine Or.inr ⟨b, _, L.2.2.2.2, hb, my8, e11, elen, fun i hi => ?_, hbl.2.1, ?_, Or.inr ⟨rfl, h9⟩⟩
        · rw [eb]; exact tax_get e11 my8 hi
        · unfold s_uo
          rw [if_neg (by decide), s9]
          rfl
  have w0 : nI w = 0 ↔ w = 0 := nI_eq (b := 0) (by omega) (by decide)
  rcases hcase with ⟨hw1, h9, hu⟩ | ⟨a, n, ax, ha, hn, e10', hl, hax, hbx, hu, hsrc⟩
  · rw [hu] at hK
    have hw0 : ¬ nI w = 0 := fun q => by have := w0.mp q; omega
    simp only [tg_ones, ta_ones, tu_ones, tg_others, ta_others, tu_others, ct, it, h9, hw0, not_false_eq_true, true_implies, false_implies, implies_true, and_true, true_and, forall_eq]
    refine ⟨_, fun _ _ _ h => h, ?_⟩
    exact ⟨fun _ => hK, fun h => absurd rfl h⟩
  · rw [hu] at hK
    have na : ¬ nI a = -1 := by
      intro h
      have := congrArg Int32.toInt h
      rw [nI_toInt (by omega)] at this
      have h2 : (-1 : Int32).toInt = -1 := by decide
      omega
    have ca : (nI a).toNatClampNeg = a := nI_clamp (by omega)
    have ia : vp_in (nI a) 24 := vp_in_nI ha (by decide)
    have hB' : ∀ i, i < n → s_B (τ.2.2.2 11 (2 * t + w) i) := fun i hi => by rw [← hax i hi]; exact s_BgetD hbx i
    obtain ⟨pn, hpn⟩ : ∃ pn : Nat → Prop, pn = fun i => ∀ j, j < i → ¬ s_eq (s_kp (tkd τ a) (ax.getD j 0)) (s_kp (tkd τ a) (ax.getD i 0)) := ⟨_, rfl⟩
    have hK' : K (nI (s_cn pn n)) (tput g m0 τ hp) nx := by
      rw [hpn, ← hl]
      exact hK
    obtain ⟨P, hP⟩ : ∃ P : Int32 → zHp → Nat → Prop, P = (fun x h n' => x = nI a ∧ h = tput g m0 τ hp ∧ nx = n') := ⟨_, rfl⟩
    simp only [tg_ones, ta_ones, tu_ones, tg_others, ta_others, tu_others, ct, it, true_implies, false_implies, implies_true, and_true, true_and, forall_eq]
    refine ⟨P, ?_, ?_⟩
    · intro x h n' hh
      rw [hP] at hh
      obtain ⟨rfl, rfl, rfl⟩ := hh
      refine ⟨fun h => absurd h na, fun _ => ?_⟩
      refine ⟨fun m x4 x5 x6 h y => ∃ kk, x4 = nI a ∧ x5 = nI (s_cn pn kk) ∧ x6 = nI kk ∧ h = tput g m0 τ hp ∧ nx = y ∧ kk ≤ n ∧ m = n - kk, ⟨n, 0, rfl, rfl, rfl, rfl, rfl, Nat.zero_le _, rfl⟩, ?_⟩
      rintro m _ _ _ _ _ ⟨kk, rfl, rfl, rfl, rfl, rfl, hkk, hm⟩
      simp only [tg_axisSizes, ta_axisSizes, tu_axisSizes, e2, e2w, c2, i2, e10', true_implies, false_implies, implies_true, and_true, true_and, forall_eq]
      refine pk_le n kk (fun hle => ?_) (fun hlt => ?_)
      · have : kk = n := by omega
        subst this
        exact hK'
      · refine ⟨fun m x4 x5 x6 nw x7 h y => ∃ jj, x4 = nI a ∧ x5 = nI (s_cn pn kk) ∧ x6 = nI kk ∧ x7 = nI jj ∧ nw = s_if (∀ j, j < jj → ¬ s_eq (s_kp (tkd τ a) (ax.getD j 0)) (s_kp (tkd τ a) (ax.getD kk 0))) 1 0 ∧ h = tput g m0 τ hp ∧ nx = y ∧ jj ≤ kk ∧ m = kk - jj, ⟨kk, 0, rfl, rfl, rfl, rfl, (s_if_p (fun j hj => absurd hj (by omega))).symm, rfl, rfl, Nat.zero_le _, rfl⟩, ?_⟩
        rintro m2 _ _ _ _ _ _ _ ⟨jj, rfl, rfl, rfl, rfl, rfl, rfl, rfl, hjj, hm2⟩
        refine pk_le kk jj (fun hle => ?_) (fun hlt2 => ?_)
        · have : jj = kk := by omega
          subst this
          have epn : pn jj = ∀ j, j < jj → ¬ s_eq (s_kp (tkd τ a) (ax.getD j 0)) (s_kp (tkd τ a) (ax.getD jj 0)) := by rw [hpn]
          rw [← epn]
          refine ⟨fun x4 x5 x6 _ _ h y => x4 = nI a ∧ x5 = nI (s_cn pn (jj + 1)) ∧ x6 = nI jj ∧ h = tput g m0 τ hp ∧ nx = y, ?_, fun h => ?_, fun h => ?_⟩
          · rintro _ _ _ _ _ _ _ ⟨rfl, rfl, rfl, rfl, rfl⟩
            exact ⟨n - (jj + 1), by omega, jj + 1, rfl, rfl, nI_1 jj, rfl, rfl, by omega, rfl⟩
          · have hno : ¬ pn jj := s_if01.mp h
            refine ⟨rfl, ?_, rfl, rfl, rfl⟩
            have : s_cn pn (jj + 1) = s_cn pn jj := by unfold s_cn; simp only [s_sm]; rw [s_if_n hno, Nat.add_zero]
            rw [this]
          · have hyes : pn jj := Classical.byContradiction fun q => h (s_if01.mpr q)
            refine ⟨rfl, ?_, rfl, rfl, rfl⟩
            have : s_cn pn (jj + 1) = s_cn pn jj + 1 := by unfold s_cn; simp only [s_sm]; rw [s_if_p hyes]
            rw [this]
            exact nI_1 _
        · have cj : (nI jj).toNatClampNeg = jj := nI_clamp (by omega)
          have ij : vp_in (nI jj) 8 := vp_in_nI (by omega) (by decide)
          have ck : (nI kk).toNatClampNeg = kk := nI_clamp (by omega)
          have ik : vp_in (nI kk) 8 := vp_in_nI (by omega) (by decide)
          simp only [tg_kinds, ta_kinds, tu_kinds, tg_axes, ta_axes, ca, ia, e2, e2w, c2, i2, tb_axes l2, tv_axes l2, cj, ij, true_implies, false_implies, implies_true, and_true, true_and, forall_eq]
          refine t_kept (by omega) (hB' jj (by omega)) ?_
          simp only [tg_kinds, ta_kinds, tu_kinds, tg_axes, ta_axes, ca, ia, e2, e2w, c2, i2, tb_axes l2, tv_axes l2, ck, ik, true_implies, false_implies, implies_true, and_true, true_and, forall_eq]
          refine t_kept (by omega) (hB' kk (by omega)) ?_
          rw [← hax jj (by omega), ← hax kk (by omega)]
          refine ⟨fun x4 x5 x6 _ x7 o nw h y => x4 = nI a ∧ x5 = nI (s_cn pn kk) ∧ x6 = nI kk ∧ x7 = nI jj ∧ o = s_if (∀ j, j < jj → ¬ s_eq (s_kp (tkd τ a) (ax.getD j 0)) (s_kp (tkd τ a) (ax.getD kk 0))) 1 0 ∧ nw = s_if (¬ s_eq (s_kp (tkd τ a) (ax.getD jj 0)) (s_kp (tkd τ a) (ax.getD kk 0))) 1 0 ∧ h = tput g m0 τ hp ∧ nx = y, ?_, fun h => ?_, fun h => ?_⟩
          · rintro _ _ _ _ _ _ _ _ _ ⟨rfl, rfl, rfl, rfl, rfl, rfl, rfl, rfl⟩
            refine ⟨kk - (jj + 1), by omega, jj + 1, rfl, rfl, rfl, nI_1 jj, ?_, rfl, rfl, by omega, rfl⟩
            rw [s_and01]
            refine s_if_iff ⟨fun q j hj => ?_, fun q => ⟨fun j hj => q j (by omega), q jj (by omega)⟩⟩
            by_cases e : j = jj
            · subst e; exact q.2
            · exact q.1 j (by omega)
          · exact ⟨rfl, rfl, rfl, rfl, rfl, (s_if_n (fun q => q (fc_l0.mp h))).symm, rfl, rfl⟩
          · exact ⟨rfl, rfl, rfl, rfl, rfl, (s_if_p (fun q => h (fc_l0.mpr q))).symm, rfl, rfl⟩
    · rw [hP]
      rcases hsrc with ⟨q0, q1⟩ | ⟨q0, q1⟩
      · exact ⟨fun _ => ⟨q1, rfl, rfl⟩, fun h => absurd (w0.mpr q0) h⟩
      · exact ⟨fun h => by have := w0.mp h; omega, fun _ => ⟨q1, rfl, rfl⟩⟩
end UA
