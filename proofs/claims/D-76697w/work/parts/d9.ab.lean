set_option maxRecDepth 100000
/-! axisBy -/
section AB
variable {l : Launch} {g : zG} {d x0 : Nat} {P : cP} {σ σ' : cS} {hp hp' : zHp} {nx M M' : Nat} {A : sV} {S : sSt} {mc ms kc ks : Nat}
theorem x_pj {pk j len : Nat} (hpk : pk < 2147483648) (hj : j < 8) (hl : len ≤ 64) : (vp_in (nI pk + nI j) len ↔ pk + j < len) ∧ (pk + j < len → (nI pk + nI j).toNatClampNeg = pk + j) := by
  rw [nI_add]
  by_cases h : pk + j < 2147483648
  · have hc : (nI (pk + j)).toNatClampNeg = pk + j := nI_clamp (by omega)
    refine ⟨⟨fun z => ?_, fun z => ?_⟩, fun _ => hc⟩
    · have := x_in0 z
      omega
    · rintro (y | y)
      · exact nI_pos (by omega) y
      · omega
  · refine ⟨⟨fun z => ?_, fun z => by omega⟩, fun z => by omega⟩
    exfalso
    apply z
    left
    rw [Int32.lt_iff_toInt_lt]
    have e : (nI (pk + j)).toInt = (pk + j : Nat) - 4294967296 := by
      show (Int32.ofNat (pk + j)).toInt = _
      rw [Int32.toInt_ofNat', Int.bmod_def]
      have e9 : (Int32.size : Int) = 4294967296 := by decide
      rw [e9]
      split <;> omega
    have e0 : (0 : Int32).toInt = 0 := by decide
    omega
theorem x_p {p : Int32} (h : ¬ p < 0) : ∃ pk, pk < 2147483648 ∧ p = nI pk := by
  rw [Int32.lt_iff_toInt_lt] at h
  have e0 : (0 : Int32).toInt = 0 := by decide
  have hlt := Int32.toInt_lt p
  refine ⟨p.toInt.toNat, by omega, ?_⟩
  apply Int32.toInt_inj.mp
  rw [nI_toInt (by omega)]
  omega
theorem co_axisBy (hV : sOK A.1) (hI : cINV g x0 P hp σ A M) (hT : l.stackTraces = false) (hz9 : g.2.2.2.2 999 + 257 ≤ nx) (hd : 200 ≤ d) (hmc : 247 ≤ mc) (hms : 1482 ≤ ms) {x w y p n : Int32} {K : Int32 → zHp → Nat → Prop} (hK : ∀ σ' hp' nx', cINV g x0 P hp' σ' (o_axisBy A x w y p n).2 M → hLe hp hp' → nx ≤ nx' → K (o_axisBy A x w y p n).1 (cput g x0 P σ' hp') nx') : zMtW l g yX0_axisBy cX0_axisBy 9 (some .int) [(73, 116, 119, 445), (73, 116, 124, 484)] d mc ms [.ref x0, .int x, .int w, .int y, .int p, .int n] (cput g x0 P σ hp) nx (zQi g K) := by
  obtain ⟨d, rfl⟩ := Nat.exists_eq_add_of_le' (show 1 ≤ d by omega)
  have hI' := hI
  obtain ⟨i1, i2, i3, i4, i5, i6, i7, i8, i9, i10⟩ := hI
  have h0 := hK σ hp nx
  apply mv_X0_axisBy
  unfold wv_X0_axisBy
  refine ⟨Nat.zero_le _, Nat.zero_le _, ?_⟩
  have m37 : ∀ h n' kc ks, (o_axisBy A x w y p n = (-2, A) ∧ h = cput g x0 P σ hp ∧ nx = n' ∧ kc = 0 ∧ ks = 0) → kc ≤ mc ∧ ks ≤ ms ∧ K (-2) h n' := by
    rintro h n' kc ks ⟨e, rfl, rfl, rfl, rfl⟩
    rw [e] at h0
    exact ⟨Nat.zero_le _, Nat.zero_le _, h0 hI' hLe.rf (Nat.le_refl _)⟩
  refine c_isTable (by omega) (fun e => ?_) (fun t ht ex e => ?_)
  · exact ⟨fun h n' kc ks => o_axisBy A x w y p n = (-2, A) ∧ h = cput g x0 P σ hp ∧ nx = n' ∧ kc = 0 ∧ ks = 0, m37, fun _ => ⟨by unfold o_axisBy; rw [e], rfl, rfl, rfl, rfl⟩, fun z => absurd rfl z⟩
  refine ⟨fun h n' kc ks => o_axisBy A x w y p n = (-2, A) ∧ h = cput g x0 P σ hp ∧ nx = n' ∧ kc = 0 ∧ ks = 0, m37, fun z => absurd z (by decide), fun _ => ⟨Nat.zero_le _, Nat.zero_le _, ?_⟩⟩
  refine c_inn (a := 0) (b := 1) (by decide) (by decide) (by omega) (fun z => ⟨fun _ => ⟨by unfold o_axisBy; rw [e]; simp only [if_pos z], rfl, rfl, rfl, rfl⟩, fun y => absurd rfl y⟩) (fun h1 => ⟨fun y => absurd y (by decide), fun _ => ⟨Nat.zero_le _, Nat.zero_le _, ?_⟩⟩)
  refine c_isRow (by omega) (fun e2 => ⟨fun _ => ⟨by unfold o_axisBy; rw [e]; simp only [if_neg h1, e2], rfl, rfl, rfl, rfl⟩, fun z9 => absurd rfl z9⟩) (fun r hr er e2 => ⟨fun z9 => absurd z9 (by decide), fun _ => ⟨Nat.zero_le _, Nat.zero_le _, ?_⟩⟩)
  refine c_inn (a := 1) (b := 8) (by decide) (by decide) (by omega) (fun z => ⟨fun _ => ⟨by unfold o_axisBy; rw [e]; simp only [if_neg h1, e2, if_pos z], rfl, rfl, rfl, rfl⟩, fun y => absurd rfl y⟩) (fun h4 => ⟨fun y => absurd y (by decide), fun _ => ⟨Nat.zero_le _, Nat.zero_le _, ?_⟩⟩)
  clear m37
  obtain ⟨nn, hnn, rfl⟩ := s_n_of h4
  obtain ⟨ww, hww, rfl⟩ : ∃ k, k < 2 ∧ w = nI k := by
    rcases s_x_of (x := w) (M := 1) (n := 1) (by decide) with q | q
    · exact absurd q h1
    · exact q
  subst ex
  subst er
  have cn : (nI nn).toNatClampNeg = nn := nI_clamp (by omega)
  have cw : (nI ww).toNatClampNeg = ww := nI_clamp (by omega)
  have cr : (nI r).toNatClampNeg = r := nI_clamp (by omega)
  have ew1 : nI ww = 1 ↔ ww = 1 := by
    rw [show (1 : Int32) = nI 1 from rfl]
    exact nI_eq (by omega) (by omega)
  rw [cz_o]
  refine c_isFixed (w := ww) i1 i6.1 ht hww (by omega) (fun q => ⟨fun y => absurd y (by decide), fun _ => ⟨Nat.zero_le _, Nat.zero_le _, ?_⟩⟩) (fun L hL q => ⟨fun _ => ?_, fun y => absurd rfl y⟩)
  · have : o_axisBy A (nI t) (nI ww) (nI r) p (nI nn) = (-3, A) := by
      unfold o_axisBy; rw [e]; simp only [if_neg h1, e2, if_neg h4]
      rcases q with q | ⟨L, q1, q2, q3⟩
      · simp only [q]
      · simp only [q1]
        rw [if_pos ⟨ew1.mpr q2, q3⟩]
    rw [this] at h0
    exact h0 hI' hLe.rf (Nat.le_refl _)
  have hfx : ¬ (nI ww = 1 ∧ L.2.2.1 = none) := fun y => q ⟨ew1.mp y.1, y.2⟩
  refine cRR hr ?_
  rw [cr_g hr]
  rcases i9 r hr with ⟨w1, w2, w3⟩ | ⟨a2, q2, w1, w2, w3, w4, w5, w6, w7⟩
  · rw [w2]
    refine ⟨fun _ => ⟨Nat.zero_le _, Nat.zero_le _, ?_⟩, fun z9 => absurd rfl z9⟩
    have eo : o_axisBy A (nI t) (nI ww) (nI r) p (nI nn) = (-11, A) := by unfold o_axisBy; rw [e]; simp only [if_neg h1, e2, if_neg h4, hL, if_neg hfx, w1]
    rw [eo] at h0
    exact h0 hI' hLe.rf (Nat.le_refl _)
  rw [w2]
  refine ⟨fun z9 => absurd z9 (by simp), fun _ => ?_⟩
  clear h0
  refine c_nar (n := nn) i1 (by omega) (by omega) (by omega) (fun u1 u2 u3 u4 => ?_)
  rintro _ _ _ rfl rfl rfl
  rw [cn]
  have hle : ∀ f : Nat → UInt64, hLe hp (va_up hp nx (some (.inl (g.2.1 1, nn, .inr (.inr (.inr (.inl f))))))) := fun f => hLe.up u2
  have hW1 : ∀ f : Nat → UInt64, cW g x0 P (va_up hp nx (some (.inl (g.2.1 1, nn, .inr (.inr (.inr (.inl f))))))) := fun f => cW_hq u1 i1
  have fail : ∀ (f : Nat → UInt64) (v : Int32) (n' : Nat), o_axisBy A (nI t) (nI ww) (nI r) p (nI nn) = (v, A) → nx ≤ n' → K v (cput g x0 P σ (va_up hp nx (some (.inl (g.2.1 1, nn, .inr (.inr (.inr (.inl f)))))))) n' := fun f v n' eo hn' => by
    have h9 := hK σ (va_up hp nx (some (.inl (g.2.1 1, nn, .inr (.inr (.inr (.inl f)))))) ) n'
    rw [eo] at h9
    exact h9 (hI'.mo (hle f) (hW1 f)) (hle f) hn'
  refine cRR hr ?_
  rw [cr_g hr, w2]
  have hrr : ∀ f : Nat → UInt64, cput g x0 P σ (va_up hp nx (some (.inl (g.2.1 1, nn, .inr (.inr (.inr (.inl f))))))) a2 = some (.inl (g.2.1 (cSo q2.1), q2.2.length, σ.2.2.2.2.2.2.2.2.2.2.2 r)) := fun f => cput_r (σ := σ) (hW1 f) hr w3
  refine x_ia (t := 3) (hrr _) w4 (by decide) (fun y9 hy9 => ⟨fun z9 => ?_, fun z9 => ⟨hT, by omega, by omega, by omega, fun q9 n9 hle9 => ⟨by omega, by omega, ?_⟩⟩⟩)
  rotate_left
  · have q1 : q2.1 ≠ 3 := by
      rcases hy9 with ⟨u, -⟩ | ⟨-, u⟩
      · rw [u] at z9; exact absurd z9 (by decide)
      · exact u
    exact fail _ _ _ (by unfold o_axisBy; rw [e]; simp only [if_neg h1, e2, if_neg h4, hL, if_neg hfx, w1]; rw [if_pos q1]) (by omega)
  have q1 : q2.1 = 3 := by
    rcases hy9 with ⟨-, u⟩ | ⟨u, -⟩
    · exact u
    · rw [u] at z9; exact absurd z9 (by decide)
  obtain ⟨f9, hx⟩ : ∃ f, σ.2.2.2.2.2.2.2.2.2.2.2 r = .inr (.inr (.inr (.inl f))) := by
    rw [q1] at w6
    rcases hx : σ.2.2.2.2.2.2.2.2.2.2.2 r with f | f | f | f | f
    · rw [hx] at w6; exact absurd w6 (by rintro (u | u) <;> cases u)
    · rw [hx] at w6; exact w6.elim
    · rw [hx] at w6; exact absurd w6 (by intro u; cases u)
    · exact ⟨f, rfl⟩
    · rw [hx] at w6; exact w6.elim
  have hrr' : ∀ f : Nat → UInt64, cput g x0 P σ (va_up hp nx (some (.inl (g.2.1 1, nn, .inr (.inr (.inr (.inl f))))))) a2 = some (.inl (g.2.1 1, q2.2.length, .inr (.inr (.inr (.inl f9))))) := fun f => by
    have h9 := hrr f
    rw [q1, hx] at h9
    exact h9
  have hit : ∀ k, k < q2.2.length → (q2.2.getD k none = none ∧ f9 k = cNaN) ∨ (q2.2.getD k none = some (f9 k) ∧ s_B (f9 k)) := by
    intro k hk
    obtain ⟨o, o1, o2⟩ := x_gd (q := q2.2) (k := k) hk
    have h9 := w7 k o o1
    rw [hx, q1] at h9
    rw [o2]
    exact h9.2
  have eo9 : o_axisBy A (nI t) (nI ww) (nI r) p (nI nn) = if p < 0 ∨ q2.2.length < p.toNatClampNeg + nn then (-12, A) else s_if (∃ k, k < nn ∧ q2.2.getD (p.toNatClampNeg + k) none = none) (-3, A) (o_lay A t (s_ax L ww ((List.range nn).map fun k => (q2.2.getD (p.toNatClampNeg + k) none).getD 0))) := by
    unfold o_axisBy; rw [e]; simp only [if_neg h1, e2, if_neg h4, hL, if_neg hfx, w1, cn, cw]; rw [if_neg (fun u => u q1)]
  refine ⟨fun m r48 r49 k h n' kc ks => ∃ j f, m = nn - j ∧ j ≤ nn ∧ r48 = some nx ∧ r49 = some a2 ∧ k = nI j ∧ h = cput g x0 P σ (va_up hp nx (some (.inl (g.2.1 1, nn, .inr (.inr (.inr (.inl f))))))) ∧ n' = nx + 1 ∧ kc = 1 ∧ ks = nn ∧ (∀ i, i < j → vp_in (p + nI i) q2.2.length) ∧ ∀ i, i < j → f i = f9 (p + nI i).toNatClampNeg, ⟨nn, 0, fun _ => 0, rfl, Nat.zero_le _, rfl, rfl, rfl, rfl, rfl, by omega, by omega, fun i hi => absurd hi (Nat.not_lt_zero _), fun i hi => absurd hi (Nat.not_lt_zero _)⟩, ?_⟩
  rintro m r48 r49 k h n' kc ks ⟨j, f, rfl, hj, rfl, rfl, rfl, rfl, rfl, hkc, hks, hin, hf⟩
  have ha : va_up hp nx (some (.inl (g.2.1 1, nn, .inr (.inr (.inr (.inl f)))))) nx = some (.inl (g.2.1 1, nn, .inr (.inr (.inr (.inl f))))) := va_s
  refine ⟨fun z => ?_, fun z => ?_⟩
  · have hjk : j = nn := by
      have := (nI_leI (by omega) (by omega)).mp z
      omega
    subst hjk
    have hp0 : ¬ p < 0 := fun u => by
      have h9 := hin 0 (by omega)
      rw [show nI 0 = (0 : Int32) from rfl, Int32.add_zero] at h9
      exact h9 (Or.inl u)
    obtain ⟨pk, hpk, rfl⟩ := x_p hp0
    have cp : (nI pk).toNatClampNeg = pk := nI_clamp (by omega)
    have hlen : pk + j ≤ q2.2.length := by
      have h9 := (x_pj (j := j - 1) hpk (by omega) w5).1.mp (hin (j - 1) (by omega))
      omega
    have hfv : ∀ i, i < j → f i = f9 (pk + i) := fun i hi => by rw [hf i hi, (x_pj hpk (by omega) w5).2 (by omega)]
    rw [cp, if_neg (fun u => u.elim hp0 (fun u => by omega))] at eo9
    refine ⟨fun m r56 k k58 h n' kc ks => ∃ j2, m = j - j2 ∧ j2 ≤ j ∧ r56 = some nx ∧ k = nI j2 ∧ h = cput g x0 P σ (va_up hp nx (some (.inl (g.2.1 1, j, .inr (.inr (.inr (.inl f))))))) ∧ n' = nx + 1 ∧ kc = 1 ∧ ks = j ∧ ∀ i, i < j2 → q2.2.getD (pk + i) none ≠ none, ⟨j, 0, rfl, Nat.zero_le _, rfl, rfl, rfl, rfl, hkc, hks, fun i hi => absurd hi (Nat.not_lt_zero _)⟩, ?_⟩
    rintro m r56 k k58 h n' kc2 ks2 ⟨j2, rfl, hj2, rfl, rfl, rfl, rfl, hkc2, hks2, hnn2⟩
    refine ⟨fun z2 => ?_, fun z2 => ?_⟩
    · have hjk : j2 = j := by
        have := (nI_leI (by omega) (by omega)).mp z2
        omega
      subst hjk
      rw [s_if_n (fun ⟨k, k1, k2⟩ => hnn2 k k1 k2)] at eo9
      obtain ⟨ns, ens⟩ : ∃ ns, ns = (List.range j2).map fun k => (q2.2.getD (pk + k) none).getD 0 := ⟨_, rfl⟩
      rw [← ens] at eo9
      have hln : ns.length = j2 := by rw [ens, List.length_map, List.length_range]
      have hns : ∀ i, i < j2 → ns.getD i 0 = f i := fun i hi => by
        rw [ens, List.getD_eq_getElem?_getD, List.getElem?_map, List.getElem?_range hi, hfv i hi]
        rcases hit (pk + i) (by omega) with ⟨u, -⟩ | ⟨u, -⟩
        · exact absurd u (hnn2 i hi)
        · show (q2.2.getD (pk + i) none).getD 0 = _
          rw [u]; rfl
      refine ⟨246, 1474, by omega, by omega, ?_⟩
      rw [cz_o]
      rw [eo9] at hK
      refine c_varies (L := L) (w := ww) (ns := ns) (f := f) hV (hI'.mo (hle f) (hW1 f)) ht hL hww (fun y y2 => q ⟨y, y2⟩) (by rw [va_s, hln]) (fun i hi => (hns i (by omega)).symm) (Or.inr (by omega)) (by omega) (by omega) (by omega) (by omega) (fun σ' hp' nx' z1 z2 z3 => ⟨by omega, by omega, hK σ' hp' nx' z1 ((hle f).tr z2) (by omega)⟩)
    · have hjk : j2 < j := by
        rcases Nat.lt_or_ge j2 j with y | y
        · exact y
        · exact absurd ((nI_leI (by omega) (by omega)).mpr y) z2
      have cj2 : (nI j2).toNatClampNeg = j2 := nI_clamp (by omega)
      rw [c_aD (cput_h (hW1 f) ha)]
      refine ⟨vp_in_nI hjk (by omega), ?_⟩
      intro x75 e75
      rw [cj2] at e75
      subst e75
      rw [c_aD (cput_h (hW1 f) ha)]
      refine ⟨vp_in_nI hjk (by omega), ?_⟩
      intro x79 e79
      rw [cj2] at e79
      subst e79
      refine ⟨fun u => ?_, fun u => ⟨by omega, by omega, ?_⟩⟩
      · rintro _ rfl
        refine ⟨j - (j2 + 1), by omega, j2 + 1, rfl, by omega, rfl, nI_1 j2, rfl, rfl, hkc2, hks2, fun i hi => ?_⟩
        by_cases y : i = j2
        · subst y
          intro y2
          rcases hit (pk + i) (by omega) with ⟨-, y3⟩ | ⟨y3, -⟩
          · rw [hfv i hjk, y3] at u
            exact cNaN_ne (fc_l0.mp u)
          · rw [y2] at y3; cases y3
        · exact hnn2 i (by omega)
      · refine fail f (-3) _ ?_ (by omega)
        rw [eo9]
        refine s_if_p ⟨j2, hjk, ?_⟩
        rcases hit (pk + j2) (by omega) with ⟨y3, -⟩ | ⟨-, y3⟩
        · exact y3
        · exact absurd (fc_l0.mpr (by rw [hfv j2 hjk]; exact s_eq_B y3)) u
  · have hjk : j < nn := by
      rcases Nat.lt_or_ge j nn with y | y
      · exact y
      · exact absurd ((nI_leI (by omega) (by omega)).mpr y) z
    rw [c_aD (hrr' f)]
    refine ⟨fun hi9 => ?_, fun hi9 => ⟨by omega, hT, by omega, by omega, by omega, fun q9 n9 hle9 => ⟨by omega, by omega, ?_⟩⟩⟩
    · rintro _ rfl
      rw [c_aD (cput_h (hW1 f) ha)]
      refine ⟨vp_in_nI hjk (by omega), u3, ?_⟩
      rintro _ rfl
      rintro _ rfl
      refine ⟨nn - (j + 1), by omega, j + 1, va_up f j (f9 (p + nI j).toNatClampNeg), rfl, by omega, rfl, rfl, nI_1 j, ?_, rfl, hkc, hks, fun i hi => ?_, fun i hi => ?_⟩
      · rw [nI_clamp (show j < 2 ^ 31 by omega), cput_hq u1, cva_uu]
      · by_cases y : i = j
        · subst y; exact hi9
        · exact hin i (by omega)
      · by_cases y : i = j
        · subst y; rw [va_s]
        · rw [va_o y]; exact hf i (by omega)
    · refine fail f (-12) _ ?_ (by omega)
      rw [eo9]
      refine if_pos ?_
      by_cases hp0 : p < 0
      · exact Or.inl hp0
      · right
        obtain ⟨pk, hpk, rfl⟩ := x_p hp0
        have cp : (nI pk).toNatClampNeg = pk := nI_clamp (by omega)
        have h9 : ¬ pk + j < q2.2.length := fun u => hi9 ((x_pj hpk (by omega) w5).1.mpr u)
        rw [cp]
        omega
end AB
