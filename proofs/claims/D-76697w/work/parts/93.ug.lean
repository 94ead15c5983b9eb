set_option maxRecDepth 100000
/-! THE REFERENCE's operations: film, otherwise -/
section UG
variable {l : Launch} {g : zG} {d m0 : Nat} {τ τ' τm τ2 : tS} {hp : zHp} {nx : Nat}
/-- the first below n with p -/
noncomputable def s_fo (p : Nat → Prop) : Nat → Option Nat
  | 0 => none
  | n + 1 => match s_fo p n with
    | some k => some k
    | none => s_if (p n) (some n) none
theorem s_fo_n {p : Nat → Prop} {n : Nat} (h : s_fo p n = none) (hp : ¬ p n) : s_fo p (n + 1) = none := by simp only [s_fo, h]; exact s_if_n hp
theorem s_fo_p {p : Nat → Prop} {n : Nat} (h : s_fo p n = none) (hp : p n) : s_fo p (n + 1) = some n := by simp only [s_fo, h]; exact s_if_p hp
theorem s_fo_k {p : Nat → Prop} {n k : Nat} (h : s_fo p n = some k) : ∀ m, n ≤ m → s_fo p m = some k := by
  intro m hm
  induction m with
  | zero => have : n = 0 := by omega
            subst this; exact h
  | succ m ih =>
    by_cases e : n = m + 1
    · subst e; exact h
    · simp only [s_fo, ih (by omega)]
def s_io (o : Option Nat) : Int32 := match o with | none => -1 | some k => nI k
/-- a case is as an item says -/
def s_so (c : sT) (it : Option UInt64) : Prop := if c.2.1 ≠ 0 then it = none else ∃ w, it = some w ∧ s_eq c.1 w
def s_item (f : Nat → Int32) (v : Nat → UInt64) (k : Nat) : Option UInt64 := if f k = 0 then some (v k) else none
theorem t_otherwise {rk : Nat → Nat} {t r n : Nat} {L : sL} {K : Int32 → zHp → Nat → Prop} (hd : 140 ≤ d) (hB : zB g ≤ m0) (hO : tOK rk τ) (ht : t < 6) (hr : r < 4) (hL : tly τ t = some L) (h71 : τ.2.2.1 71 0 r = nI n) (hnc : n = s_nc L) (h73 : ∀ k, k < n → τ.2.2.1 73 r k = 0 ∨ τ.2.2.1 73 r k = 1) (hK : ∀ τ', tsc τ τ' → K (s_io (s_fo (fun k => ¬ s_so (s_cv (tst τ) L (k / s_my L) (k % s_my L)) (s_item (τ.2.2.1 73 r) (τ.2.2.2 72 r) k)) n)) (tput g m0 τ' hp) nx) : zMt l g yX5_otherwise cX5_otherwise 5 (some .int) d 0 0 [.ref m0, .int (nI t), .int (nI r)] (tput g m0 τ hp) nx (zQi g K) := by
  obtain ⟨d, rfl⟩ := Nat.exists_eq_add_of_le' (show 1 ≤ d by omega)
  apply met_X5_otherwise
  unfold wp_X5_otherwise
  obtain ⟨h6, lo, la, e7, e8, ⟨hn1, hn8, e10⟩, eax, hot⟩ := tly_some hO.2.1 ht hL
  have ct : (nI t).toNatClampNeg = t := nI_clamp (by omega)
  have it : vp_in (nI t) 6 := vp_in_nI ht (by decide)
  have cr : (nI r).toNatClampNeg = r := nI_clamp (by omega)
  have ir : vp_in (nI r) 4 := vp_in_nI hr (by decide)
  have e2 : (2 : Int32) * nI t = nI (2 * t) := pk_mul 2 t
  have e21 : nI (2 * t) + 1 = nI (2 * t + 1) := nI_1 _
  have c21 : (nI (2 * t + 1)).toNatClampNeg = 2 * t + 1 := nI_clamp (by omega)
  have i21 : vp_in (nI (2 * t + 1)) 12 := vp_in_nI (by omega) (by decide)
  obtain ⟨my, hmy⟩ : ∃ my, my = s_my L := ⟨_, rfl⟩
  have my1 : 1 ≤ my ∧ my ≤ 8 := by
    rcases hot with ⟨_, _, _, q⟩ | ⟨_, _, _, q1, q2, _⟩ <;> omega
  rw [← hmy] at hK
  have hnl : n = L.2.2.2.1.length * my := by rw [hnc]; unfold s_nc; rw [hmy]
  have h64 : n ≤ 64 := by rw [hnl]; exact Nat.le_trans (Nat.mul_le_mul hn8 my1.2) (by decide)
  obtain ⟨p, hp'⟩ : ∃ p : Nat → Prop, p = fun k => ¬ s_so (s_cv (tst τ) L (k / my) (k % my)) (s_item (τ.2.2.1 73 r) (τ.2.2.2 72 r) k) := ⟨_, rfl⟩
  rw [← hp'] at hK
  simp only [tg_others, ta_others, tu_others, tg_axisSizes, ta_axisSizes, tu_axisSizes, ct, it, e2, e21, c21, i21, true_implies, false_implies, implies_true, and_true, true_and, forall_eq]
  obtain ⟨P, hP⟩ : ∃ P : Int32 → zHp → Nat → Prop, P = (fun last h n' => last = nI my ∧ h = tput g m0 τ hp ∧ nx = n') := ⟨_, rfl⟩
  refine ⟨P, ?_, ?_⟩
  · intro last h n' hh
    rw [hP] at hh
    obtain ⟨rfl, rfl, rfl⟩ := hh
    refine ⟨fun m last i h nx' => ∃ ii τ1, ii ≤ n ∧ m = n - ii ∧ i = nI ii ∧ last = nI my ∧ h = tput g m0 τ1 hp ∧ nx = nx' ∧ tsc τ τ1 ∧ s_fo p ii = none, ⟨n, 0, τ, by omega, rfl, rfl, rfl, rfl, rfl, tsc.rf, rfl⟩, ?_⟩
    rintro m _ _ _ _ ⟨ii, τ1, hii, hm, rfl, rfl, rfl, rfl, f1, hfo⟩
    have k71 : τ1.2.2.1 71 0 r = nI n := by rw [f1.2.2.1 71 (by omega) (by omega) (by omega)]; exact h71
    simp only [tg_lengths, ta_lengths, tu_lengths, cr, ir, k71, true_implies, false_implies, implies_true, and_true, true_and, forall_eq]
    refine pk_le n ii (fun hle => ?_) (fun hlt => ?_)
    · have : ii = n := by omega
      subst this
      have := hK τ1 f1
      rw [hfo] at this
      exact this
    · have nmy : ¬ nI my = 0 := nI_ne0 (by omega) (by omega)
      refine ⟨nmy, nmy, ?_⟩
      have ed : nI ii / nI my = nI (ii / my) := pk_div (by omega) (by omega) (by omega)
      have em : nI ii - nI (ii / my) * nI my = nI (ii % my) := by rw [← ed]; exact pk_rem (by omega) (by omega) (by omega)
      rw [ed, em, tw_zo]
      have hdi : ii / my < L.2.2.2.1.length := Nat.div_lt_of_lt_mul (by rw [Nat.mul_comm]; omega)
      have hmi : ii % my < my := Nat.mod_lt _ (by omega)
      refine t_tellCaseNow (τ := τ1) (L := L) (by omega) hB (hO.pe f1.pe) ht (by rw [f1.pe.ly]; exact hL) hdi (by omega) fun τ2 f2 qv => ?_
      obtain ⟨cv, hcv⟩ : ∃ cv, cv = s_cv (tst τ) L (ii / my) (ii % my) := ⟨_, rfl⟩
      have rv : cv = (τ2.2.1 30, τ2.1 31, τ2.1 32) := by
        rw [qv, hcv, f1.pe.fm, f1.pe.ly, f1.pe.kd, f1.pe.ow]
        rfl
      have v30 : τ2.2.1 30 = cv.1 := by rw [rv]
      have v31 : τ2.1 31 = cv.2.1 := by rw [rv]
      have f12 := f1.tr f2
      have k73 : τ2.2.2.1 73 r ii = τ.2.2.1 73 r ii := by rw [f12.2.2.1 73 (by omega) (by omega) (by omega)]
      have k72 : τ2.2.2.2 72 r ii = τ.2.2.2 72 r ii := by rw [f12.2.2.2 72 (by omega)]
      have ci : (nI ii).toNatClampNeg = ii := nI_clamp (by omega)
      have iii : vp_in (nI ii) 64 := vp_in_nI (by omega) (by decide)
      have hpi : p ii ↔ ¬ s_so cv (s_item (τ.2.2.1 73 r) (τ.2.2.2 72 r) ii) := by rw [hp', hcv]
      simp only [tg_isFailed, ta_isFailed, tg_caseError, tp_caseError, cr, ir, tb_isFailed hr, tv_isFailed hr, ci, iii, k73, v31, true_implies, false_implies, implies_true, and_true, true_and, forall_eq]
      -- found, or on
      have found : p ii → K (nI ii) (tput g m0 τ2 hp) nx := fun h => by
        have := hK τ2 f12
        rw [s_fo_k (s_fo_p hfo h) n (by omega)] at this
        exact this
      refine ⟨fun last i a b h nx' => last = nI my ∧ i = nI ii ∧ a = τ.2.2.1 73 r ii ∧ b = (if cv.2.1 = 0 then 0 else 1) ∧ h = tput g m0 τ2 hp ∧ nx = nx', ?_, fun h => ⟨rfl, rfl, rfl, (if_pos h).symm, rfl, rfl⟩, fun h => ⟨rfl, rfl, rfl, (if_neg h).symm, rfl, rfl⟩⟩
      rintro _ _ _ _ _ _ ⟨rfl, rfl, rfl, rfl, rfl, rfl⟩
      refine ⟨fun last i h nx' => last = nI my ∧ i = nI ii ∧ h = tput g m0 τ2 hp ∧ nx = nx' ∧ p ii, ?_, fun h => ?_, fun h => ?_⟩
      · rintro _ _ _ _ ⟨rfl, rfl, rfl, rfl, h⟩
        exact found h
      · simp only [tg_caseError, tp_caseError, v31]
        refine ⟨fun last i h nx' => last = nI my ∧ i = nI ii ∧ h = tput g m0 τ2 hp ∧ nx = nx' ∧ ¬ p ii, ?_, fun he => ?_, fun he => ?_⟩
        · rintro _ _ _ _ ⟨rfl, rfl, rfl, rfl, h⟩
          exact ⟨n - (ii + 1), by omega, ii + 1, τ2, by omega, rfl, nI_1 ii, rfl, rfl, rfl, f12, s_fo_n hfo h⟩
        · rw [if_pos he] at h
          have hso : s_so cv (s_item (τ.2.2.1 73 r) (τ.2.2.2 72 r) ii) ↔ s_eq cv.1 (τ.2.2.2 72 r ii) := by
            unfold s_so s_item
            rw [if_neg (fun q => q he), if_pos h]
            exact ⟨fun ⟨w, e, q⟩ => by cases e; exact q, fun q => ⟨_, rfl, q⟩⟩
          simp only [tg_caseValue, tp_caseValue, tg_items, ta_items, v30, cr, ir, tb_items hr, tv_items hr, ci, iii, k72, true_implies, false_implies, implies_true, and_true, true_and, forall_eq]
          refine ⟨fun q => ?_, fun q => ?_⟩
          · rw [hpi, hso]; exact fun z => z (fc_l0.mp q)
          · rw [hpi, hso]; exact fun z => q (fc_l0.mpr z)
        · refine ⟨rfl, rfl, rfl, rfl, ?_⟩
          rw [if_neg he] at h
          rw [hpi]
          intro z
          apply z
          unfold s_so s_item
          rw [if_pos he, if_neg (by rw [h]; decide)]
      · refine ⟨rfl, rfl, rfl, rfl, ?_⟩
        rw [hpi]
        unfold s_so s_item
        by_cases he : cv.2.1 = 0
        · rw [if_neg (fun q => q he)]
          rw [if_pos he] at h
          rw [if_neg h]
          rintro ⟨w, e, -⟩
          cases e
        · rw [if_pos he]
          rw [if_neg he] at h
          have h0 : τ.2.2.1 73 r ii = 0 := (h73 ii hlt).resolve_right h
          rw [if_pos h0]
          intro e
          cases e
  · rw [hP]
    rcases hot with ⟨q9, _, _, q⟩ | ⟨b, _, _, q1, q2, q9, qn, q11, _⟩
    · refine ⟨fun _ => ⟨?_, rfl, rfl⟩, fun h => absurd q9 h⟩
      rw [hmy, q]; rfl
    · refine ⟨fun h => absurd h qn, fun _ => ⟨?_, rfl, rfl⟩⟩
      rw [q11, ← hmy]
end UG
