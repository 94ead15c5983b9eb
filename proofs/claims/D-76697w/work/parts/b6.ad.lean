set_option maxRecDepth 100000
/-! adds, asks -/
section AD
variable {l : Launch} {g : zG} {d x0 : Nat} {P : cP} {σ σ' : cS} {hp hp' : zHp} {nx M M' : Nat} {A : sV} {S : sSt} {fm : sF} {ly : sY} {kd : Nat → Int32} {mc ms kc ks : Nat}
theorem c_put2 {q : Nat} {u v : Option va_E} (hq : ¬ cOv x0 P q) : va_up (cput g x0 P σ (va_up hp q u)) q v = cput g x0 P σ (va_up hp q v) := by
  rw [cput_hq hq, cva_uu]
theorem c_how {t w : Nat} (hW : cW g x0 P hp) (hw : w < 5) (hd : 10 ≤ d) (hmc : 1 ≤ mc) (hms : 6 ≤ ms) {K : Option Nat → zHp → Nat → Prop} (hK : ¬ cOv x0 P nx → hp nx = none → zB g ≤ nx → K (some nx) (cput g x0 P σ (va_up hp nx (some (.inr (18 + w, cAk (18 + w) x0 t))))) (nx + 1)) : zMt l g yX0_how cX0_how 3 (some (.object "WhatIfSheet$Asked")) d mc ms [.ref x0, .int (nI t), .int (nI w)] (cput g x0 P σ hp) nx (zQq g K) := by
  obtain ⟨d, rfl⟩ := Nat.exists_eq_add_of_le' (show 1 ≤ d by omega)
  apply met_X0_how
  unfold wp_X0_how
  have ew : ∀ k, k < 5 → (nI w = nI k ↔ w = k) := fun k hk => nI_eq (by omega) (by omega)
  refine ⟨fun e => ?_, fun e => ?_, fun e => ?_, fun e => ?_, fun e => ?_⟩
  · have e := (ew 0 (by decide)).mp e
    subst e
    refine c_nw hW (by omega) (by rw [zNn_18]; omega) (fun u1 u2 u3 u4 => ?_)
    rw [zNf_18]
    rintro _ _ _ rfl rfl rfl
    refine ⟨by omega, by rw [zNn_18]; omega, x18_18 (cput_h (cW_hq u1 hW) va_s) u3 (by omega) ?_⟩
    rw [c_put2 u1]
    exact ⟨by omega, by rw [zNn_18]; omega, hK u1 u2 u3⟩
  · have e := (ew 1 (by decide)).mp e
    subst e
    refine c_nw hW (by omega) (by rw [zNn_19]; omega) (fun u1 u2 u3 u4 => ?_)
    rw [zNf_19]
    rintro _ _ _ rfl rfl rfl
    refine ⟨by omega, by rw [zNn_19]; omega, x19_19 (cput_h (cW_hq u1 hW) va_s) u3 (by omega) ?_⟩
    rw [c_put2 u1]
    exact ⟨by omega, by rw [zNn_19]; omega, hK u1 u2 u3⟩
  · have e := (ew 2 (by decide)).mp e
    subst e
    refine c_nw hW (by omega) (by rw [zNn_20]; omega) (fun u1 u2 u3 u4 => ?_)
    rw [zNf_20]
    rintro _ _ _ rfl rfl rfl
    refine ⟨by omega, by rw [zNn_20]; omega, x20_20 (cput_h (cW_hq u1 hW) va_s) u3 (by omega) ?_⟩
    rw [c_put2 u1]
    exact ⟨by omega, by rw [zNn_20]; omega, hK u1 u2 u3⟩
  · have e := (ew 3 (by decide)).mp e
    subst e
    refine c_nw hW (by omega) (by rw [zNn_21]; omega) (fun u1 u2 u3 u4 => ?_)
    rw [zNf_21]
    rintro _ _ _ rfl rfl rfl
    refine ⟨by omega, by rw [zNn_21]; omega, x21_21 (cput_h (cW_hq u1 hW) va_s) u3 (by omega) ?_⟩
    rw [c_put2 u1]
    exact ⟨by omega, by rw [zNn_21]; omega, hK u1 u2 u3⟩
  · obtain ⟨e0, e1, e2, e3⟩ := e
    have e : w = 4 := by
      have h0 : w ≠ 0 := fun z => e0 (by rw [z]; rfl)
      have h1 : w ≠ 1 := fun z => e1 (by rw [z]; rfl)
      have h2 : w ≠ 2 := fun z => e2 (by rw [z]; rfl)
      have h3 : w ≠ 3 := fun z => e3 (by rw [z]; rfl)
      omega
    subst e
    refine c_nw hW (by omega) (by rw [zNn_22]; omega) (fun u1 u2 u3 u4 => ?_)
    rw [zNf_22]
    rintro _ _ _ rfl rfl rfl
    refine ⟨by omega, by rw [zNn_22]; omega, x22_22 (cput_h (cW_hq u1 hW) va_s) u3 (by omega) ?_⟩
    rw [c_put2 u1]
    exact ⟨by omega, by rw [zNn_22]; omega, hK u1 u2 u3⟩
theorem cIV_tl (hI : cINV g x0 P hp σ A M) (hM : M ≤ M') : cINV g x0 P hp σ A M' := hI.tl rfl hI.2.2.1 (fun _ _ _ _ => rfl) (hI.2.2.2.2.2.2.2.2.2.le hM)
/-- adds -/
theorem co_adds (hV : sOK A.1) (hI : cINV g x0 P hp σ A M) (hM : M + 10000000 ≤ 2147483647) (hd : 1400 ≤ d) (hmc : 1 ≤ mc) (hms : 6 ≤ ms) {x w : Int32} {K : Int64 → zHp → Nat → Prop} (hK : ∀ σ' hp' nx', cINV g x0 P hp' σ' A (M + 10000000) → hLe hp hp' → nx ≤ nx' → K (o_adds A x w) (cput g x0 P σ' hp') nx') : zMt l g yX0_adds cX0_adds 5 (some .long) d mc ms [.ref x0, .int x, .int w] (cput g x0 P σ hp) nx (zQl g K) := by
  obtain ⟨d, rfl⟩ := Nat.exists_eq_add_of_le' (show 1 ≤ d by omega)
  obtain ⟨rk, hST⟩ := hV.st
  have hI' := hI
  obtain ⟨i1, i2, i3, i4, i5, i6, i7, i8, i9, i10⟩ := hI
  have h0 := hK σ hp nx (cIV_tl hI' (by omega)) hLe.rf (Nat.le_refl _)
  have hB0 := i1.1
  apply met_X0_adds
  unfold wp_X0_adds
  refine ⟨Nat.zero_le _, Nat.zero_le _, ?_⟩
  have m19 : ∀ h n kc ks, (o_adds A x w = -2 ∧ h = cput g x0 P σ hp ∧ nx = n ∧ kc = 0 ∧ ks = 0) → kc ≤ mc ∧ ks ≤ ms ∧ K (-2) h n := by
    rintro h n kc ks ⟨e, rfl, rfl, rfl, rfl⟩
    rw [e] at h0
    exact ⟨Nat.zero_le _, Nat.zero_le _, h0⟩
  refine c_isTable (by omega) (fun e => ?_) (fun t ht ex e => ?_)
  · exact ⟨fun h n kc ks => o_adds A x w = -2 ∧ h = cput g x0 P σ hp ∧ nx = n ∧ kc = 0 ∧ ks = 0, m19, fun _ => ⟨by unfold o_adds; rw [e], rfl, rfl, rfl, rfl⟩, fun z => absurd rfl z⟩
  refine ⟨fun h n kc ks => o_adds A x w = -2 ∧ h = cput g x0 P σ hp ∧ nx = n ∧ kc = 0 ∧ ks = 0, m19, fun z => absurd z (by decide), fun _ => ⟨Nat.zero_le _, Nat.zero_le _, ?_⟩⟩
  subst ex
  have cct : (nI t).toNatClampNeg = t := nI_clamp (by omega)
  refine c_inn (a := 0) (b := 4) (by decide) (by decide) (by omega) (fun z => ⟨fun _ => ⟨by unfold o_adds; rw [e]; simp only [if_pos z], rfl, rfl, rfl, rfl⟩, fun y => absurd rfl y⟩) (fun hw => ⟨fun y => absurd y (by decide), fun _ => ?_⟩)
  obtain ⟨f, hf, rfl⟩ : ∃ k, k < 5 ∧ w = nI k := by
    rcases s_x_of (x := w) (M := 4) (n := 4) (by decide) with q | q
    · exact absurd q hw
    · exact q
  have cf : (nI f).toNatClampNeg = f := nI_clamp (by omega)
  refine cRT ht ?_
  have hn := i6.1.tn ht
  refine ⟨fun z => ⟨Nat.zero_le _, Nat.zero_le _, ?_⟩, fun z => ?_⟩
  · have : o_adds A (nI t) (nI f) = -3 := by unfold o_adds; rw [e]; simp only [if_neg hw, hn.mp z]
    rw [this] at h0
    exact h0
  clear h0 m19
  obtain ⟨L, hl⟩ : ∃ L, A.1.2.1 t = some L := by
    cases h : A.1.2.1 t with
    | none => exact absurd (hn.mpr h) z
    | some L => exact ⟨L, rfl⟩
  obtain ⟨a, ha, hTb, hTk⟩ := i6.1.tb ht hl
  have eo : o_adds A (nI t) (nI f) = if nI f = 4 then FP.d2l (s_tot A.1 L 4).1 else s_an (s_tot A.1 L f).1 (s_tot A.1 L f).2 := by
    unfold o_adds; rw [e]; simp only [if_neg hw, hl, cf]
  rw [cp_fault]
  refine ⟨hB0, ?_⟩
  refine ⟨1, 6, by omega, by omega, ?_⟩
  rw [cz_o]
  refine c_how i1 hf (by omega) (by omega) (by omega) (fun u1 u2 u3 => ?_)
  obtain ⟨hp1, e1⟩ : ∃ hp1, hp1 = va_up hp nx (some (.inr (18 + f, cAk (18 + f) x0 t))) := ⟨_, rfl⟩
  rw [← e1]
  have l1 : hLe hp hp1 := by rw [e1]; exact hLe.up u2
  have w1 : cW g x0 P hp1 := by rw [e1]; exact cW_hq u1 i1
  have n1 : hp1 nx = some (.inr (18 + f, cAk (18 + f) x0 t)) := by rw [e1, va_s]
  have hI1 := hI'.mo l1 w1
  have j6 := hI1.2.2.2.2.2.1
  have hm5 : 18 + f ∈ [18, 19, 20, 21, 22] := by simp only [List.mem_cons]; omega
  refine ⟨by omega, by omega, ?_⟩
  rw [ch_o w1 n1 hm5]
  refine ⟨fun v h n => ∃ σ1, h = cput g x0 P σ1 hp1 ∧ n = nx + 1 ∧ cRs (cuI σ 2 0) ((s_tot A.1 L f).1, (s_tot A.1 L f).2, (cuI σ 2 0).1 4) v σ1 ∧ cINV g x0 P hp1 σ1 A (M + 10000000), ?_, ?_⟩
  · rintro v h n ⟨σ1, rfl, rfl, b1, b2⟩
    have hz : (cuI σ 2 0).1 2 = 0 := by unfold cuI; simp only [va_s]
    have hfin := hK σ1 hp1 (nx + 1) b2 l1 (by omega)
    rw [eo] at hfin
    have b4 := b1.2.2 hz
    refine ⟨fun _ x h n kc ks => x = (if nI f = 4 then FP.d2l (s_tot A.1 L 4).1 else s_an (s_tot A.1 L f).1 (s_tot A.1 L f).2) ∧ h = cput g x0 P σ1 hp1 ∧ n = nx + 1 ∧ kc = 1 ∧ ks = 6, ?_, fun q => ?_, fun q => ?_⟩
    · rintro _ x h n kc ks ⟨rfl, rfl, rfl, rfl, rfl⟩
      exact ⟨by omega, by omega, hfin⟩
    · have hf4 : f = 4 := (nI_eq (by omega) (by omega)).mp q
      subst hf4
      refine ⟨?_, rfl, rfl, rfl, rfl⟩
      rw [if_pos q, (b4.1 ?_).1]
      unfold s_tot s_tv
      rfl
    · refine ⟨by omega, by omega, ?_⟩
      rw [cz_o]
      refine c_answer b1.1.f (by omega) ⟨?_, rfl, rfl, rfl, rfl⟩
      rw [if_neg q]
      by_cases y : (s_tot A.1 L f).2 = 0
      · obtain ⟨y1, y2, -⟩ := b4.1 y
        rw [y2, y, y1]
      · obtain ⟨y1, -⟩ := b4.2 y
        rw [y1]
        unfold s_an
        rw [if_neg y, if_neg y]
  · refine c_ask (σ := cuI σ 2 0) (t := t) (tb := some a) (tvt := s_tot A.1 L) (J := fun σ1 => ∀ u v : Int32, cINV g x0 P hp1 (cuI (cuI σ1 2 u) 3 v) A (M + 10000000)) (by omega) w1 ht n1 (by omega) (by omega) ha (fun z => by cases z) (fun a' ea => ?_) (fun v σ' q1 q2 => ?_)
    · cases ea
      refine ⟨L, fun k => s_cv A.1 L (k / s_my L) (k % s_my L), hTb.mo l1, hTk, fun _ => rfl, fun Q hQ => ?_⟩
      refine c_casA (σ := cuI σ 2 0) w1 j6.sh hST hV.tm ht ha hl j6.2.2.1 i10 (by omega) (by omega) (fun σ1 a1 a2 a3 a4 a5 a6 => ?_)
      refine hQ σ1 (fun u v => ?_) (a3 2 (by decide)) (a3 3 (by decide)) (a3 4 (by decide)) (fun k hk => ?_)
      · refine hI1.tl (by show σ1.2.2.2 = _; rw [a1]; rfl) (by show σ1.2.1 = _; rw [a2]; exact i3) (fun k p q r => ?_) (show cSt σ1 _ from a5.le (by omega))
        show va_up (va_up (cNo σ1).1 2 u) 3 v k = _
        rw [va_o q, va_o p, cNo_1 p q, a3 k r]
        show va_up σ.1 2 0 k = _
        rw [va_o p]
      · obtain ⟨r1, r2, r3, -⟩ := a6 k hk
        exact ⟨r1, r2, r3⟩
    · refine ⟨σ', rfl, rfl, ?_, ?_⟩
      · rw [show 18 + f - 18 = f by omega] at q2
        exact q2
      · have := q1 (σ'.1 2) (σ'.1 3)
        have es : cuI (cuI (cNo σ') 2 (σ'.1 2)) 3 (σ'.1 3) = σ' := by
          unfold cNo cuI
          refine Prod.ext ?_ rfl
          funext k
          show va_up (va_up (va_up (va_up σ'.1 2 0) 3 0) 2 (σ'.1 2)) 3 (σ'.1 3) k = σ'.1 k
          by_cases z3 : k = 3
          · subst z3; rw [va_s]
          · rw [va_o z3]
            by_cases z2 : k = 2
            · subst z2; rw [va_s]
            · rw [va_o z2, va_o z3, va_o z2]
        rw [es] at this
        exact this
end AD
