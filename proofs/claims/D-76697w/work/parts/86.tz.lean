set_option maxRecDepth 100000
/-! THE REFERENCE: the best case, the slice, unlike numbers -/
section TZ
variable {l : Launch} {g : zG} {d m0 : Nat} {τ τ' τm τ2 : tS} {hp : zHp} {nx : Nat}
theorem fc_some {a b : UInt64} (ha : s_F a) (hb : s_F b) : FP.dcmp a b ≠ none := by
  obtain ⟨s, c, q, h1⟩ := ha
  obtain ⟨t, e, r, h2⟩ := hb
  show FP.Core.order (fv a) (fv b) ≠ none
  rw [h1, h2]
  exact fun h => by cases h
theorem fc_lt_gt {a b : UInt64} (ha : s_F a) (hb : s_F b) : s_gt a b ↔ s_lt b a := by
  obtain ⟨s, c, q, h1⟩ := ha
  obtain ⟨t, e, r, h2⟩ := hb
  unfold s_gt s_lt
  show FP.Core.order (fv a) (fv b) = some .gt ↔ FP.Core.order (fv b) (fv a) = some .lt
  rw [h1, h2]
  simp only [FP.Core.order, Option.some.injEq, fq_cmp]
  rw [show min r q = min q r by omega]
  generalize FP.Core.signed s (FP.Core.inUnits c q (min q r)) = X
  generalize FP.Core.signed t (FP.Core.inUnits e r (min q r)) = Y
  by_cases h3 : X < Y
  · rw [if_pos h3, if_neg (by omega), if_neg (by omega)]
    simp
  · rw [if_neg h3]
    by_cases h4 : X = Y
    · rw [if_pos h4, if_neg (by omega), if_pos h4.symm]; simp
    · rw [if_neg h4, if_pos (by omega)]; simp
theorem fc_ggt {a b : UInt64} (ha : s_F a) (hb : s_F b) : 0 < (Op.cmpValue (FP.dcmp a b) .g) ↔ s_lt b a := by
  rw [← fc_lt_gt ha hb]
  have hn := fc_some ha hb
  unfold s_gt Op.cmpValue
  cases h : FP.dcmp a b with
  | none => exact absurd h hn
  | some o => cases o <;> simp
theorem fc_lltz {a b : UInt64} (ha : s_F a) (hb : s_F b) : (Op.cmpValue (FP.dcmp a b) .l) < 0 ↔ s_lt a b := by
  have hn := fc_some ha hb
  unfold s_lt Op.cmpValue
  cases h : FP.dcmp a b with
  | none => exact absurd h hn
  | some o => cases o <;> simp
/-- the first of the best among the cases without an error -/
noncomputable def s_bst (lt : UInt64 → UInt64 → Prop) (r : Nat → sT) : Nat → Option Nat
  | 0 => none
  | k + 1 => if (r k).2.1 ≠ 0 then s_bst lt r k else match s_bst lt r k with
    | none => some k
    | some f => s_if (lt (r k).1 (r f).1) (some k) (some f)
theorem s_bst_lt {lt : UInt64 → UInt64 → Prop} {r : Nat → sT} : ∀ {n f : Nat}, s_bst lt r n = some f → f < n := by
  intro n
  induction n with
  | zero => intro f h; cases h
  | succ n ih =>
    intro f h
    simp only [s_bst] at h
    split at h
    · have := ih h; omega
    · cases hb : s_bst lt r n with
      | none => rw [hb] at h; simp only at h; cases h; omega
      | some e =>
        rw [hb] at h
        simp only at h
        have := ih hb
        unfold s_if at h
        split at h
        · cases h; omega
        · cases h; omega
def s_ca (my : Nat) (o : Option Nat) : Int32 := match o with | none => -1 | some k => nI (10 * (k / my) + k % my)
theorem t_caseOf {rk : Nat → Nat} {t : Nat} {L : sL} {b : Int32} {K : Int32 → zHp → Nat → Prop} (hd : 140 ≤ d) (hB : zB g ≤ m0) (hO : tOK rk τ) (ht : t < 6) (hL : tly τ t = some L) (hK : ∀ τ', tsc τ τ' → K (s_ca (s_my L) (s_bst (if b = 0 then fun x y => s_lt y x else s_lt) (fun k => s_cv (tst τ) L (k / s_my L) (k % s_my L)) (s_nc L))) (tput g m0 τ' hp) nx) : zMt l g yX5_caseOf cX5_caseOf 9 (some .int) d 0 0 [.ref m0, .int (nI t), .int b] (tput g m0 τ hp) nx (zQi g K) := by
  obtain ⟨d, rfl⟩ := Nat.exists_eq_add_of_le' (show 1 ≤ d by omega)
  apply met_X5_caseOf
  unfold wp_X5_caseOf
  obtain ⟨h6, lo, la, e7, e8, ⟨hn1, hn8, e10⟩, eax, hot⟩ := tly_some hO.2.1 ht hL
  have ct : (nI t).toNatClampNeg = t := nI_clamp (by omega)
  have it : vp_in (nI t) 6 := vp_in_nI ht (by decide)
  have e2 : (2 : Int32) * nI t = nI (2 * t) := pk_mul 2 t
  have e21 : nI (2 * t) + 1 = nI (2 * t + 1) := nI_1 _
  have c2 : (nI (2 * t)).toNatClampNeg = 2 * t := nI_clamp (by omega)
  have c21 : (nI (2 * t + 1)).toNatClampNeg = 2 * t + 1 := nI_clamp (by omega)
  have i2 : vp_in (nI (2 * t)) 12 := vp_in_nI (by omega) (by decide)
  have i21 : vp_in (nI (2 * t + 1)) 12 := vp_in_nI (by omega) (by decide)
  obtain ⟨my, hmy⟩ : ∃ my, my = s_my L := ⟨_, rfl⟩
  have my1 : 1 ≤ my ∧ my ≤ 8 := by
    rcases hot with ⟨_, _, _, q⟩ | ⟨_, _, _, q1, q2, _⟩ <;> omega
  rw [← hmy] at hK
  obtain ⟨r, hr⟩ : ∃ r : Nat → sT, r = fun k => s_cv (tst τ) L (k / my) (k % my) := ⟨_, rfl⟩
  rw [← hr] at hK
  obtain ⟨lt, hlt⟩ : ∃ lt : UInt64 → UInt64 → Prop, lt = if b = 0 then fun x y => s_lt y x else s_lt := ⟨_, rfl⟩
  rw [← hlt] at hK
  have hrF : ∀ k, s_F (r k).1 := fun k => by
    rw [hr]
    exact (s_EV_B hO.2.2.1 hO.1.mo hO.2.2.2.1 hO.2.2.2.2.1 hO.2.2.2.2.2.1 _ L.1 (Nat.lt_succ_self _) lo _ (s_bi_B hO.2.2.2.2.2.2.1 (hO.2.2.2.2.2.1 t ht L hL).1 (hO.2.2.2.2.2.1 t ht L hL).2.1)).f
  have hnc : s_nc L = L.2.2.2.1.length * my := by unfold s_nc; rw [hmy]
  have hlen : ∀ ii, ii ≤ L.2.2.2.1.length → ii * my ≤ 64 := fun ii h => Nat.le_trans (Nat.mul_le_mul (Nat.le_trans h hn8) my1.2) (by decide)
  -- what is found so far, and its number
  obtain ⟨F, hF⟩ : ∃ F : Nat → Int32 → UInt64 → Prop, F = fun k found best => found = s_ca my (s_bst lt r k) ∧ ∀ f, s_bst lt r k = some f → best = (r f).1 := ⟨_, rfl⟩
  simp only [tg_others, ta_others, tu_others, tg_axisSizes, ta_axisSizes, tu_axisSizes, ct, it, e2, e21, c21, i21, true_implies, false_implies, implies_true, and_true, true_and, forall_eq]
  obtain ⟨P, hP⟩ : ∃ P : Int32 → UInt64 → Int32 → zHp → Nat → Prop, P = (fun a b last h n' => a = -1 ∧ b = FP.dconst0 ∧ last = nI my ∧ h = tput g m0 τ hp ∧ nx = n') := ⟨_, rfl⟩
  refine ⟨P, ?_, ?_⟩
  · intro a b' last h n' hh
    rw [hP] at hh
    obtain ⟨rfl, rfl, rfl, rfl, rfl⟩ := hh
    refine ⟨fun n found best last i h nx' => ∃ ii τ1, ii ≤ L.2.2.2.1.length ∧ n = L.2.2.2.1.length - ii ∧ i = nI ii ∧ last = nI my ∧ h = tput g m0 τ1 hp ∧ nx = nx' ∧ tsc τ τ1 ∧ F (ii * my) found best, ⟨_, 0, τ, by omega, rfl, rfl, rfl, rfl, rfl, tsc.rf, ?_⟩, ?_⟩
    · rw [Nat.zero_mul, hF]
      exact ⟨rfl, fun f h => by cases h⟩
    rintro n found best _ _ _ _ ⟨ii, τ1, hii, hn, rfl, rfl, rfl, rfl, hf, hFi⟩
    have k10 : τ1.2.2.1 10 0 (2 * t) = nI L.2.2.2.1.length := by rw [hf.pe.1 10 (by decide)]; exact e10
    simp only [tg_axisSizes, ta_axisSizes, tu_axisSizes, c2, i2, true_implies, false_implies, implies_true, and_true, true_and, forall_eq, k10]
    refine pk_le L.2.2.2.1.length ii (fun hle => ?_) (fun hlt2 => ?_)
    · have hie : ii = L.2.2.2.1.length := by omega
      have eN : ii * my = s_nc L := by rw [hie, hnc]
      rw [eN, hF] at hFi
      rw [hFi.1]
      exact hK τ1 hf
    · refine ⟨fun n found best last i j h nx' => ∃ jj τ3, jj ≤ my ∧ n = my - jj ∧ j = nI jj ∧ i = nI ii ∧ last = nI my ∧ h = tput g m0 τ3 hp ∧ nx = nx' ∧ tsc τ τ3 ∧ F (ii * my + jj) found best, ⟨_, 0, τ1, by omega, rfl, rfl, rfl, rfl, rfl, rfl, hf, hFi⟩, ?_⟩
      rintro n2 found best _ _ _ _ _ ⟨jj, τ3, hjj, hn2, rfl, rfl, rfl, rfl, rfl, hf3, hFj⟩
      refine pk_le my jj (fun hle => ?_) (fun hlt3 => ?_)
      · have hje : jj = my := by omega
        subst hje
        refine ⟨L.2.2.2.1.length - (ii + 1), by omega, ii + 1, τ3, by omega, rfl, nI_1 ii, rfl, rfl, rfl, hf3, ?_⟩
        rw [show (ii + 1) * jj = ii * jj + jj by rw [Nat.add_mul, Nat.one_mul]]
        exact hFj
      · rw [tw_zo]
        have hk : ii * my + jj < 64 := by
          have h1 := hlen (ii + 1) (by omega)
          rw [Nat.add_mul, Nat.one_mul] at h1
          omega
        refine t_tellCaseNow (τ := τ3) (L := L) (by omega) hB (hO.pe hf3.pe) ht (by rw [hf3.pe.ly]; exact hL) hlt2 (by omega) fun τ4 f4 qv => ?_
        have edm : (ii * my + jj) / my = ii ∧ (ii * my + jj) % my = jj := by
          rw [Nat.add_comm (ii * my) jj, Nat.add_mul_div_right _ _ (by omega), Nat.div_eq_of_lt hlt3, Nat.add_mul_mod_self_right, Nat.mod_eq_of_lt hlt3, Nat.zero_add]
          exact ⟨rfl, rfl⟩
        have rv : r (ii * my + jj) = (τ4.2.1 30, τ4.1 31, τ4.1 32) := by
          rw [qv, hr, hf3.pe.fm, hf3.pe.ly, hf3.pe.kd, hf3.pe.ow]
          simp only
          rw [edm.1, edm.2]
          rfl
        have v30 : τ4.2.1 30 = (r (ii * my + jj)).1 := by rw [rv]
        have v31 : τ4.1 31 = (r (ii * my + jj)).2.1 := by rw [rv]
        have eten : (10 : Int32) * nI ii + nI jj = nI (10 * ((ii * my + jj) / my) + (ii * my + jj) % my) := by
          rw [edm.1, edm.2, show (10 : Int32) * nI ii = nI (10 * ii) from pk_mul 10 ii, nI_add]
        obtain ⟨k, ek⟩ : ∃ k, k = ii * my + jj := ⟨_, rfl⟩
        rw [← ek] at v30 v31 hFj eten hk
        have hfr := hf3.tr f4
        simp only [tg_caseError, tp_caseError, v31]
        refine ⟨fun found best last i j h nx' => i = nI ii ∧ j = nI jj ∧ last = nI my ∧ h = tput g m0 τ4 hp ∧ nx = nx' ∧ F (k + 1) found best, ?_, fun he => ?_, fun he => ?_⟩
        · rintro found best _ _ _ _ _ ⟨rfl, rfl, rfl, rfl, rfl, hq⟩
          rw [ek, Nat.add_assoc] at hq
          exact ⟨my - (jj + 1), by omega, jj + 1, τ4, by omega, rfl, nI_1 jj, rfl, rfl, rfl, rfl, hfr, hq⟩
        · have hst : s_bst lt r (k + 1) = match s_bst lt r k with | none => some k | some f => s_if (lt (r k).1 (r f).1) (some k) (some f) := by
            simp only [s_bst, he, ne_eq, not_true_eq_false, if_false]
          rw [hF] at hFj ⊢
          refine ⟨fun found best last i j h nx' => i = nI ii ∧ j = nI jj ∧ last = nI my ∧ h = tput g m0 τ4 hp ∧ nx = nx' ∧ s_bst lt r (k + 1) = some k, ?_, ?_, ?_⟩
          · rintro found best _ _ _ _ _ ⟨rfl, rfl, rfl, rfl, rfl, hq⟩
            simp only [tg_caseValue, tp_caseValue, v30]
            refine ⟨trivial, trivial, trivial, trivial, trivial, ?_, fun f hf => ?_⟩
            · rw [hq, eten]; rfl
            · rw [hq] at hf; cases hf; rfl
          · intro hm1
            refine ⟨rfl, rfl, rfl, rfl, rfl, ?_⟩
            rw [hst]
            cases hb : s_bst lt r k with
            | none => rfl
            | some f =>
              exfalso
              have := s_bst_lt hb
              rw [hFj.1, hb] at hm1
              have h9 := congrArg Int32.toInt hm1
              have hb1 : 10 * (f / my) + f % my < 2 ^ 31 := by
                have h1 := Nat.div_le_self f my
                have h2 := Nat.mod_le f my
                omega
              unfold s_ca at h9
              simp only at h9
              rw [nI_toInt hb1] at h9
              have h10 : (-1 : Int32).toInt = -1 := by decide
              omega
          · intro hm1
            cases hb : s_bst lt r k with
            | none => rw [hFj.1, hb] at hm1; exact absurd rfl hm1
            | some f =>
              have hbest := hFj.2 f hb
              rw [hb] at hst
              simp only at hst
              have take : lt (r k).1 best → s_bst lt r (k + 1) = some k := fun h => by rw [hst, ← hbest]; exact s_if_p h
              have skip : ¬ lt (r k).1 best → (found = s_ca my (s_bst lt r (k + 1)) ∧ ∀ f, s_bst lt r (k + 1) = some f → best = (r f).1) := fun h => by
                have : s_bst lt r (k + 1) = s_bst lt r k := by rw [hst, ← hbest, hb]; exact s_if_n h
                rw [this]
                exact hFj
              have hbF : s_F best := by rw [hbest]; exact hrF f
              refine ⟨fun hb0 => ?_, fun hb0 => ?_⟩
              · rw [if_pos hb0] at hlt
                simp only [tg_caseValue, tp_caseValue, v30]
                have e := fc_ggt (hrF k) hbF
                have el : lt (r k).1 best = s_lt best (r k).1 := by rw [hlt]
                refine ⟨fun q => ⟨trivial, trivial, trivial, trivial, trivial, take ?_⟩, fun q => ⟨trivial, trivial, trivial, trivial, trivial, skip ?_⟩⟩
                · rw [el]; exact e.mp q
                · rw [el]; exact fun z => q (e.mpr z)
              · rw [if_neg hb0] at hlt
                simp only [tg_caseValue, tp_caseValue, v30]
                have e := fc_lltz (hrF k) hbF
                have el : lt (r k).1 best = s_lt (r k).1 best := by rw [hlt]
                refine ⟨fun q => ⟨trivial, trivial, trivial, trivial, trivial, take ?_⟩, fun q => ⟨trivial, trivial, trivial, trivial, trivial, skip ?_⟩⟩
                · rw [el]; exact e.mp q
                · rw [el]; exact fun z => q (e.mpr z)
        · refine ⟨rfl, rfl, rfl, rfl, rfl, ?_⟩
          have hst : s_bst lt r (k + 1) = s_bst lt r k := by simp only [s_bst, he, ne_eq, not_false_eq_true, if_true]
          rw [hF] at hFj ⊢
          simp only
          rw [hst]
          exact hFj
  · rw [hP]
    rcases hot with ⟨q9, _, _, q⟩ | ⟨b, _, _, q1, q2, q9, qn, q11, _⟩
    · refine ⟨fun _ => ⟨rfl, rfl, ?_, rfl, rfl⟩, fun h => absurd q9 h⟩
      rw [hmy, q]; rfl
    · refine ⟨fun h => absurd h qn, fun _ => ⟨rfl, rfl, ?_, rfl, rfl⟩⟩
      rw [q11, ← hmy]
end TZ
