set_option maxRecDepth 100000
/-! at, blame, adds -/
section AT
variable {l : Launch} {g : zG} {d x0 : Nat} {P : cP} {σ σ' : cS} {hp hp' : zHp} {nx M M' : Nat} {A : sV} {S : sSt} {fm : sF} {ly : sY} {kd : Nat → Int32} {mc ms kc ks : Nat}
theorem cS0.tb (h : cS0 g x0 P hp σ.2.2.2.2 fm ly kd) {t : Nat} {L : sL} (ht : t < 6) (hl : ly t = some L) : ∃ a, σ.2.2.2.2.2.2.1 1 t = some a ∧ cTb g hp a t L ∧ cTk L := by
  rcases h.2.2.2 t ht with ⟨q, -⟩ | ⟨a0, L', q1, q2, q3, q4⟩
  · rw [hl] at q; cases q
  · rw [hl] at q1; cases q1; exact ⟨a0, q2, q3, q4⟩
theorem cS0.tn (h : cS0 g x0 P hp σ.2.2.2.2 fm ly kd) {t : Nat} (ht : t < 6) : σ.2.2.2.2.2.2.1 1 t = none ↔ ly t = none := by
  rcases h.2.2.2 t ht with ⟨q1, q2⟩ | ⟨a0, L', q1, q2, -⟩
  · exact ⟨fun _ => q1, fun _ => q2⟩
  · exact ⟨fun z => (by rw [q2] at z; cases z), fun z => (by rw [q1] at z; cases z)⟩
/-- a table's reference, a sight's -/
theorem cRT {t : Nat} (ht : t < 6) {K : Option Nat → Prop} (hK : K (σ.2.2.2.2.2.2.1 1 t)) : zgR (cput g x0 P σ hp) (some x0) [0] 1 fun r => zaR (g.2.1 8) (cput g x0 P σ hp) r fun a n f => vp_in (nI t) n ∧ ∀ q : Option Nat, q = f (nI t).toNatClampNeg → K q := by
  rw [cg_tables, ca_tables]
  refine ⟨vp_in_nI ht (by decide), ?_⟩
  intro q e
  rw [nI_clamp (by omega)] at e
  rw [e]
  exact hK
theorem cRS {t : Nat} (ht : t < 6) {K : Option Nat → Prop} (hK : K (some (x0 + cSA t))) : zgR (cput g x0 P σ hp) (some x0) [0] 5 fun r => zaR (g.2.1 9) (cput g x0 P σ hp) r fun a n f => vp_in (nI t) n ∧ ∀ q : Option Nat, q = f (nI t).toNatClampNeg → K q := by
  rw [cg_sights, ca_sights]
  refine ⟨vp_in_nI ht (by decide), ?_⟩
  intro q e
  rw [nI_clamp (by omega)] at e
  rw [e]
  exact hK
def cBad (L : sL) (i j : Int32) : Prop := (i < 0 ∨ nI L.2.2.2.1.length - 1 < i) ∨ (j < 0 ∨ nI (s_my L) - 1 < j)
theorem c_isCase {a t : Nat} {L : sL} {i j : Int32} (hW : cW g x0 P hp) (hT : cTb g hp a t L) (hd : 5 ≤ d) {K : Int32 → zHp → Nat → Prop} (h0 : cBad L i j → K 0 (cput g x0 P σ hp) nx) (h1 : ¬ cBad L i j → K 1 (cput g x0 P σ hp) nx) : zMt l g yX0_isCase cX0_isCase 4 (some .boolean) d 0 0 [.ref x0, va_rf (some a), .int i, .int j] (cput g x0 P σ hp) nx (zQi g K) := by
  obtain ⟨d, rfl⟩ := Nat.exists_eq_add_of_le' (show 1 ≤ d by omega)
  have hT' := hT
  obtain ⟨a1, r2, q1, q2, -⟩ := hT
  have q2' := q2
  obtain ⟨b, f, p1, -⟩ := q2'
  apply met_X0_isCase
  unfold wp_X0_isCase
  rw [ch_R hW q1 (r := some a1) rfl (by decide), ch_o hW p1 (by decide)]
  refine c_size (by omega) hW q2 ?_
  have go : ∀ x : Int32, ((x = 0 ∧ cBad L i j) ∨ (x = 1 ∧ ¬ cBad L i j)) → (x = 0 ∨ x = 1) ∧ K x (cput g x0 P σ hp) nx := by
    rintro x (⟨rfl, z⟩ | ⟨rfl, z⟩)
    · exact ⟨Or.inl rfl, h0 z⟩
    · exact ⟨Or.inr rfl, h1 z⟩
  refine c_inn (a := 0) (b := nI L.2.2.2.1.length - 1) (by decide) rfl (by omega) (fun z => ?_) (fun z => ?_)
  · refine ⟨fun x h n => ((x = 0 ∧ cBad L i j) ∨ (x = 1 ∧ ¬ cBad L i j)) ∧ h = cput g x0 P σ hp ∧ nx = n, ?_, ?_⟩
    · rintro x h n ⟨hx, rfl, rfl⟩
      exact go x hx
    · refine ⟨fun h n => cBad L i j ∧ h = cput g x0 P σ hp ∧ nx = n, ?_, fun _ => ⟨Or.inl z, rfl, rfl⟩, fun y => absurd rfl y⟩
      rintro h n ⟨y, rfl, rfl⟩
      exact ⟨Or.inl ⟨rfl, y⟩, rfl, rfl⟩
  · refine ⟨fun x h n => ((x = 0 ∧ cBad L i j) ∨ (x = 1 ∧ ¬ cBad L i j)) ∧ h = cput g x0 P σ hp ∧ nx = n, ?_, ?_⟩
    · rintro x h n ⟨hx, rfl, rfl⟩
      exact go x hx
    · refine ⟨fun h n => cBad L i j ∧ h = cput g x0 P σ hp ∧ nx = n, ?_, fun y => absurd y (by decide), fun _ => ?_⟩
      · rintro h n ⟨y, rfl, rfl⟩
        exact ⟨Or.inl ⟨rfl, y⟩, rfl, rfl⟩
      rw [ch_o hW q1 (by decide)]
      refine c_many (by omega) hW hT' ?_
      refine c_inn (a := 0) (b := nI (s_my L) - 1) (by decide) rfl (by omega) (fun y => ⟨fun _ => ⟨Or.inr y, rfl, rfl⟩, fun y => absurd rfl y⟩) (fun y => ⟨fun w => absurd w (by decide), fun _ => ⟨Or.inr ⟨rfl, fun w => w.elim z y⟩, rfl, rfl⟩⟩)
theorem cBad_n {L : sL} {i j : Int32} (hT : cTk L) (h : ¬ cBad L i j) : ∃ i' j', i' < L.2.2.2.1.length ∧ j' < s_my L ∧ i = nI i' ∧ j = nI j' := by
  have hm := hT.my
  have hn := hT.2.2
  obtain ⟨a, ha, rfl⟩ := s_in_of (by omega) hn.1 (fun q => h (Or.inl q))
  obtain ⟨b, hb, rfl⟩ := s_in_of (by omega) hm.1 (fun q => h (Or.inr q))
  exact ⟨a, b, ha, hb, rfl, rfl⟩
/-- what came of a case: a sight's errors, results, blames -/
theorem cAn_e {e : Int32} (h : e = 1 ∨ e = 2 ∨ e = 3 ∨ e = 4) : ((-20 : Int32) - e).toInt64 = -20 - e.toInt64 := by
  rcases h with rfl | rfl | rfl | rfl <;> decide
theorem cRk_E {fm : sF} {ly : sY} {kd : Nat → Int32} {ow : sO} {c : Nat} (hV : sOK (fm, ly, kd, ow)) (hc : c < 24) (w : sO) : s_Ec (s_EV fm ly kd w c) := by
  obtain ⟨rk, hST⟩ := hV.st
  exact s_EV_E hST.1 hST.2.1 hST.2.2.1 _ c (Nat.lt_succ_self _) hc w
theorem co_at (hV : sOK A.1) (hI : cINV g x0 P hp σ A M) (hM : M + 10000000 ≤ 2147483647) (hd : 1400 ≤ d) {x i j : Int32} {K : Int64 → zHp → Nat → Prop} (hK : ∀ σ', cINV g x0 P hp σ' A (M + 10000000) → K (o_at A x i j) (cput g x0 P σ' hp) nx) : zMt l g yX0_at cX0_at 6 (some .long) d 0 0 [.ref x0, .int x, .int i, .int j] (cput g x0 P σ hp) nx (zQl g K) := by
  obtain ⟨d, rfl⟩ := Nat.exists_eq_add_of_le' (show 1 ≤ d by omega)
  obtain ⟨rk, hST⟩ := hV.st
  have hI' := hI
  obtain ⟨i1, i2, i3, i4, i5, i6, i7, i8, i9, i10⟩ := hI
  have h0 := hK σ (hI'.tl rfl i3 (fun _ _ _ _ => rfl) (i10.le (by omega)))
  have hB0 := i1.1
  apply met_X0_at
  unfold wp_X0_at
  refine c_isTable (by omega) (fun e => ⟨fun _ => ?_, fun z => absurd rfl z⟩) (fun t ht ex e => ⟨fun z => absurd z (by decide), fun _ => ?_⟩)
  · have : o_at A x i j = -2 := by unfold o_at o_no; rw [e]; rfl
    rw [this] at h0
    exact h0
  subst ex
  have cct : (nI t).toNatClampNeg = t := nI_clamp (by omega)
  refine cRT ht ?_
  have hn := i6.1.tn ht
  refine ⟨fun z => ?_, fun z => ?_⟩
  · have : o_at A (nI t) i j = -3 := by unfold o_at o_no; rw [e]; simp only [hn.mp z]; rfl
    rw [this] at h0
    exact h0
  obtain ⟨L, hl⟩ : ∃ L, A.1.2.1 t = some L := by
    cases h : A.1.2.1 t with
    | none => exact absurd (hn.mpr h) z
    | some L => exact ⟨L, rfl⟩
  obtain ⟨a, ha, hTb, hTk⟩ := i6.1.tb ht hl
  rw [ha, cz_o]
  refine c_isCase i1 hTb (by omega) (fun y => ⟨fun _ => ?_, fun y => absurd rfl y⟩) (fun y => ⟨fun w => absurd w (by decide), fun _ => ?_⟩)
  · have : o_at A (nI t) i j = -2 := by unfold o_at o_no; rw [e]; simp only [hl, if_pos (show (i < 0 ∨ nI L.2.2.2.1.length - 1 < i) ∨ (j < 0 ∨ nI (s_my L) - 1 < j) from y)]; rfl
    rw [this] at h0
    exact h0
  clear h0
  have eo : o_at A (nI t) i j = s_an (s_cv A.1 L i.toNatClampNeg j.toNatClampNeg).1 (s_cv A.1 L i.toNatClampNeg j.toNatClampNeg).2.1 := by
    have e0 : o_no A.1 (nI t) i j = 0 := by unfold o_no; rw [e]; simp only [hl, if_neg (show ¬ ((i < 0 ∨ nI L.2.2.2.1.length - 1 < i) ∨ (j < 0 ∨ nI (s_my L) - 1 < j)) from y)]
    unfold o_at
    rw [if_neg (fun w => w e0), cct, hl]
  obtain ⟨i', j', hi, hj, rfl, rfl⟩ := cBad_n hTk y
  have hnc := hTk.nc
  have hmy := hTk.my
  have ci' : (nI i').toNatClampNeg = i' := nI_clamp (by have := hTk.2.2; omega)
  have cj' : (nI j').toNatClampNeg = j' := nI_clamp (by omega)
  rw [ci', cj'] at eo
  rw [cp_now]
  refine ⟨hB0, ?_⟩
  obtain ⟨k1, k2, k3⟩ := cJI hi hj
  rw [cz_o]
  refine c_cas (σ := cuN σ none) (t := t) (one := some (i', j')) i1 i6.sh hST hV.tm ht ha hl i6.2.2.1 i10 (by omega) (fun p q => by cases q; exact ⟨hi, hj⟩) (by omega) (fun σ1 a1 a2 a3 a4 a5 a6 => ?_)
  obtain ⟨r1, r2, r3, r4⟩ := a6 (s_my L * i' + j') k1 (fun p q => by cases q; rfl)
  rw [k2, k3] at r1 r3 r4
  have hfin := hK σ1 (hI'.tl (by rw [a1]; rfl) (by rw [a2]; rfl) (fun k p q r => by rw [a3 k r]; rfl) (a5.le (by omega)))
  rw [eo] at hfin
  have hTb' := hTb
  obtain ⟨_, _, p1, -⟩ := hTb'
  rw [ch_o i1 p1 (by decide)]
  refine c_many (by omega) i1 hTb ?_
  intro x24 e24
  rw [pk_mul, nI_add] at e24
  subst e24
  have ck : (nI (s_my L * i' + j')).toNatClampNeg = s_my L * i' + j' := nI_clamp (by omega)
  have ik : vp_in (nI (s_my L * i' + j')) (cWd t) := by
    have : cWd t = 64 := by unfold cWd; rw [if_pos ht]
    rw [this]
    exact vp_in_nI (by omega) (by decide)
  have ht7 : t < 7 := by omega
  have hE := cRk_E (ow := A.1.2.2.2) hV hTk.1 (s_bi L A.1.2.2.2 i' j')
  refine cRS ht ?_
  rw [cs_errors ht7, csa_errors ht7]
  refine ⟨ik, ?_⟩
  intro x40 e40
  rw [ck, r1] at e40
  subst e40
  refine ⟨fun _ _ x h n => x = s_an (s_cv A.1 L i' j').1 (s_cv A.1 L i' j').2.1 ∧ h = cput g x0 P σ1 hp ∧ nx = n, ?_, fun z0 => ?_, fun z0 => ?_⟩
  · rintro _ _ x h n ⟨rfl, rfl, rfl⟩
    exact hfin
  · refine cRS ht ?_
    rw [cs_results ht7, csa_results ht7]
    refine ⟨ik, ?_⟩
    intro x61 e61
    rw [ck] at e61
    have e61 := e61.trans (r3 z0)
    subst e61
    have hB := r2
    rw [r3 z0] at hB
    refine t_dlb (by omega) hB.f ⟨?_, rfl, rfl⟩
    unfold s_an s_cv
    rw [if_pos z0]
  · refine cRS ht ?_
    rw [cs_errors ht7, csa_errors ht7]
    refine ⟨ik, ?_⟩
    intro x80 e80
    rw [ck, r1] at e80
    subst e80
    refine ⟨?_, rfl, rfl⟩
    unfold s_an s_cv
    rw [if_neg z0]
    exact cAn_e (hE.nz z0).1
theorem co_blame (hV : sOK A.1) (hI : cINV g x0 P hp σ A M) (hM : M + 10000000 ≤ 2147483647) (hd : 1400 ≤ d) {x i j : Int32} {K : Int32 → zHp → Nat → Prop} (hK : ∀ σ', cINV g x0 P hp σ' A (M + 10000000) → K (o_blame A x i j) (cput g x0 P σ' hp) nx) : zMt l g yX0_blame cX0_blame 5 (some .int) d 0 0 [.ref x0, .int x, .int i, .int j] (cput g x0 P σ hp) nx (zQi g K) := by
  obtain ⟨d, rfl⟩ := Nat.exists_eq_add_of_le' (show 1 ≤ d by omega)
  obtain ⟨rk, hST⟩ := hV.st
  have hI' := hI
  obtain ⟨i1, i2, i3, i4, i5, i6, i7, i8, i9, i10⟩ := hI
  have h0 := hK σ (hI'.tl rfl i3 (fun _ _ _ _ => rfl) (i10.le (by omega)))
  have hB0 := i1.1
  apply met_X0_blame
  unfold wp_X0_blame
  refine c_isTable (by omega) (fun e => ⟨fun _ => ?_, fun z => absurd rfl z⟩) (fun t ht ex e => ⟨fun z => absurd z (by decide), fun _ => ?_⟩)
  · have : o_blame A x i j = -2 := by unfold o_blame o_no; rw [e]; rfl
    rw [this] at h0
    exact h0
  subst ex
  have cct : (nI t).toNatClampNeg = t := nI_clamp (by omega)
  refine cRT ht ?_
  have hn := i6.1.tn ht
  refine ⟨fun z => ?_, fun z => ?_⟩
  · have : o_blame A (nI t) i j = -3 := by unfold o_blame o_no; rw [e]; simp only [hn.mp z]; rfl
    rw [this] at h0
    exact h0
  obtain ⟨L, hl⟩ : ∃ L, A.1.2.1 t = some L := by
    cases h : A.1.2.1 t with
    | none => exact absurd (hn.mpr h) z
    | some L => exact ⟨L, rfl⟩
  obtain ⟨a, ha, hTb, hTk⟩ := i6.1.tb ht hl
  rw [ha, cz_o]
  refine c_isCase i1 hTb (by omega) (fun y => ⟨fun _ => ?_, fun y => absurd rfl y⟩) (fun y => ⟨fun w => absurd w (by decide), fun _ => ?_⟩)
  · have : o_blame A (nI t) i j = -2 := by unfold o_blame o_no; rw [e]; simp only [hl, if_pos (show (i < 0 ∨ nI L.2.2.2.1.length - 1 < i) ∨ (j < 0 ∨ nI (s_my L) - 1 < j) from y)]; rfl
    rw [this] at h0
    exact h0
  clear h0
  have eo : o_blame A (nI t) i j = (s_cv A.1 L i.toNatClampNeg j.toNatClampNeg).2.2 := by
    have e0 : o_no A.1 (nI t) i j = 0 := by unfold o_no; rw [e]; simp only [hl, if_neg (show ¬ ((i < 0 ∨ nI L.2.2.2.1.length - 1 < i) ∨ (j < 0 ∨ nI (s_my L) - 1 < j)) from y)]
    unfold o_blame
    rw [if_neg (fun w => w e0), cct, hl]
  obtain ⟨i', j', hi, hj, rfl, rfl⟩ := cBad_n hTk y
  have hnc := hTk.nc
  have hmy := hTk.my
  have ci' : (nI i').toNatClampNeg = i' := nI_clamp (by have := hTk.2.2; omega)
  have cj' : (nI j').toNatClampNeg = j' := nI_clamp (by omega)
  rw [ci', cj'] at eo
  obtain ⟨k1, k2, k3⟩ := cJI hi hj
  rw [cz_o]
  refine c_cas (t := t) (one := some (i', j')) i1 i6.sh hST hV.tm ht ha hl i6.2.2.1 i10 (by omega) (fun p q => by cases q; exact ⟨hi, hj⟩) (by omega) (fun σ1 a1 a2 a3 a4 a5 a6 => ?_)
  obtain ⟨r1, r2, r3, r4⟩ := a6 (s_my L * i' + j') k1 (fun p q => by cases q; rfl)
  rw [k2, k3] at r4
  have hfin := hK σ1 (hI'.tl a1 (a2.trans i3) (fun k p q r => a3 k r) (a5.le (by omega)))
  rw [eo] at hfin
  have hTb' := hTb
  obtain ⟨_, _, p1, -⟩ := hTb'
  have ht7 : t < 7 := by omega
  refine cRS ht ?_
  rw [cs_blameds ht7, ch_o i1 p1 (by decide)]
  refine c_many (by omega) i1 hTb ?_
  rw [pk_mul, nI_add, csa_blameds ht7]
  have ck : (nI (s_my L * i' + j')).toNatClampNeg = s_my L * i' + j' := nI_clamp (by omega)
  refine ⟨?_, ?_⟩
  · have : cWd t = 64 := by unfold cWd; rw [if_pos ht]
    rw [this]
    exact vp_in_nI (by omega) (by decide)
  intro x40 e40
  rw [ck, r4] at e40
  subst e40
  exact hfin
end AT
