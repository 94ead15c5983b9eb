set_option maxRecDepth 100000
/-! tells -/
section TL
variable {l : Launch} {g : zG} {d x0 : Nat} {P : cP} {σ σ' : cS} {hp hp' : zHp} {nx M M' : Nat} {A : sV} {S : sSt} {mc ms kc ks : Nat}
theorem co_tells (hV : sOK A.1) (hI : cINV g x0 P hp σ A M) (hM : M + 10000000 ≤ 2147483647) (hT : l.stackTraces = false) (hd : 1400 ≤ d) (hmc : 6 ≤ mc) (hms : 1010 ≤ ms) {x y z w : Int32} {K : Int32 → zHp → Nat → Prop} (hK : ∀ σ' hp' nx', cINV g x0 P hp' σ' A (M + 10000000) → hLe hp hp' → nx ≤ nx' → K (o_tells A x y z w) (cput g x0 P σ' hp') nx') : zMtW l g yX0_tells cX0_tells 8 (some .int) [(86, 100, 103, 445)] d mc ms [.ref x0, .int x, .int y, .int z, .int w] (cput g x0 P σ hp) nx (zQi g K) := by
  obtain ⟨d, rfl⟩ := Nat.exists_eq_add_of_le' (show 1 ≤ d by omega)
  have hI' := hI
  obtain ⟨i1, i2, i3, i4, i5, i6, i7, i8, i9, i10⟩ := hI
  have h0 := fun n hle => hK σ hp n (cIV_tl hI' (by omega)) hLe.rf hle
  apply mv_X0_tells
  unfold wv_X0_tells
  refine ⟨Nat.zero_le _, Nat.zero_le _, ?_⟩
  have m34 : ∀ h n kc ks, (o_tells A x y z w = -2 ∧ h = cput g x0 P σ hp ∧ nx = n ∧ kc = 0 ∧ ks = 0) → kc ≤ mc ∧ ks ≤ ms ∧ K (-2) h n := by
    rintro h n kc ks ⟨e, rfl, rfl, rfl, rfl⟩
    have h1 := h0 nx (Nat.le_refl _)
    rw [e] at h1
    exact ⟨Nat.zero_le _, Nat.zero_le _, h1⟩
  refine c_isTable (by omega) (fun e => ?_) (fun t ht ex e => ?_)
  · exact ⟨fun h n kc ks => o_tells A x y z w = -2 ∧ h = cput g x0 P σ hp ∧ nx = n ∧ kc = 0 ∧ ks = 0, m34, fun _ => ⟨by unfold o_tells; rw [e], rfl, rfl, rfl, rfl⟩, fun z9 => absurd rfl z9⟩
  refine ⟨fun h n kc ks => o_tells A x y z w = -2 ∧ h = cput g x0 P σ hp ∧ nx = n ∧ kc = 0 ∧ ks = 0, m34, fun z9 => absurd z9 (by decide), fun _ => ⟨Nat.zero_le _, Nat.zero_le _, ?_⟩⟩
  subst ex
  refine c_isRow (by omega) (fun e2 => ⟨fun _ => ⟨by unfold o_tells; rw [e]; simp only [e2], rfl, rfl, rfl, rfl⟩, fun z9 => absurd rfl z9⟩) (fun r hr er e2 => ⟨fun z9 => absurd z9 (by decide), fun _ => ⟨Nat.zero_le _, Nat.zero_le _, ?_⟩⟩)
  subst er
  refine c_isCell (by omega) (fun e3 => ⟨fun _ => ⟨by unfold o_tells; rw [e]; simp only [e2, e3], rfl, rfl, rfl, rfl⟩, fun z9 => absurd rfl z9⟩) (fun b hb24 eb e3 => ⟨fun z9 => absurd z9 (by decide), fun _ => ⟨Nat.zero_le _, Nat.zero_le _, ?_⟩⟩)
  subst eb
  refine c_inn (a := 0) (b := 3) (by decide) (by decide) (by omega) (fun q => ⟨fun _ => ⟨by unfold o_tells; rw [e]; simp only [e2, e3]; exact if_pos q, rfl, rfl, rfl, rfl⟩, fun y9 => absurd rfl y9⟩) (fun h1 => ⟨fun y9 => absurd y9 (by decide), fun _ => ?_⟩)
  clear m34
  have cr : (nI r).toNatClampNeg = r := nI_clamp (by omega)
  refine cRT ht ?_
  have hn := i6.1.tn ht
  refine ⟨fun _ h n kc ks => o_tells A (nI t) (nI r) (nI b) w = -3 ∧ h = cput g x0 P σ hp ∧ nx = n ∧ kc = 0 ∧ ks = 0, ?_, fun q => ⟨?_, rfl, rfl, rfl, rfl⟩, fun q => ?_⟩
  · rintro _ h n kc ks ⟨e9, rfl, rfl, rfl, rfl⟩
    have h2 := h0 nx (Nat.le_refl _)
    rw [e9] at h2
    exact ⟨Nat.zero_le _, Nat.zero_le _, h2⟩
  · unfold o_tells; rw [e]; simp only [e2, e3, hn.mp q]; exact if_neg h1
  obtain ⟨L, hl⟩ : ∃ L, A.1.2.1 t = some L := by
    cases h : A.1.2.1 t with
    | none => exact absurd (hn.mpr h) q
    | some L => exact ⟨L, rfl⟩
  clear q
  obtain ⟨a, ha, hTb, hTk⟩ := i6.1.tb ht hl
  rw [ha]
  refine ⟨fun r30 h n kc ks => (r30 = some a ∧ ¬ (1 < w ∧ A.1.1 b ≠ [])) ∧ h = cput g x0 P σ hp ∧ nx = n ∧ kc = 0 ∧ ks = 0, ?_, fun q1 => ⟨⟨rfl, fun q2 => absurd q1 (Int32.not_le.mpr q2.1)⟩, rfl, rfl, rfl, rfl⟩, fun q1 => ?_⟩
  rotate_left
  · refine cRC (S := A.1) i6.1 hb24 ?_
    refine ⟨Nat.zero_le _, Nat.zero_le _, ?_⟩
    rw [cc_o i1 hb24]
    refine ⟨fun q hp1 nx1 => ((q = 1 ∧ A.1.1 b = []) ∨ (q = 0 ∧ A.1.1 b ≠ [])) ∧ hp1 = cput g x0 P σ hp ∧ nx = nx1, ?_, c_isIn (S := A.1) i1 i6.1 hb24 (by omega) (fun w => ⟨Or.inl ⟨rfl, w⟩, rfl, rfl⟩) (fun w => ⟨Or.inr ⟨rfl, w⟩, rfl, rfl⟩)⟩
    rintro q h n ⟨hq, rfl, rfl⟩
    refine ⟨fun z9 => ⟨?_, rfl, rfl, rfl, rfl⟩, fun z9 => ⟨⟨rfl, ?_⟩, rfl, rfl, rfl, rfl⟩⟩
    · have hb : A.1.1 b ≠ [] := by
        rcases hq with ⟨u, -⟩ | ⟨-, u⟩
        · rw [u] at z9; exact absurd z9 (by decide)
        · exact u
      unfold o_tells; rw [e]; simp only [e2, e3, hl]; rw [if_neg h1, if_pos ⟨Int32.not_le.mp q1, hb⟩]
    · rcases hq with ⟨-, u⟩ | ⟨u, -⟩
      · exact fun y9 => y9.2 u
      · exact absurd u z9
  rintro r30 h n kc ks ⟨⟨rfl, hg⟩, rfl, rfl, rfl, rfl⟩
  refine cRR hr ?_
  rw [cr_g hr]
  rcases i9 r hr with ⟨w1, w2, w3⟩ | ⟨a2, q, w1, w2, w3, w4, w5, w6, w7⟩
  · rw [w2]
    refine ⟨fun _ => ⟨Nat.zero_le _, Nat.zero_le _, ?_⟩, fun z9 => absurd rfl z9⟩
    have eo : o_tells A (nI t) (nI r) (nI b) w = -11 := by unfold o_tells; rw [e]; simp only [e2, e3, hl, w1]; rw [if_neg h1, if_neg hg]
    have h2 := h0 nx (Nat.le_refl _)
    rw [eo] at h2; exact h2
  rw [w2]
  refine ⟨fun z9 => absurd z9 (by simp), fun _ => ?_⟩
  refine cRR hr ?_
  rw [cr_g hr, w2]
  have hrr := cput_r (σ := σ) i1 hr w3
  refine x_ia (t := 3) hrr w4 (by decide) (fun y9 hy9 => ⟨fun z9 => ?_, fun z9 => ⟨hT, by omega, by omega, by omega, fun q9 n9 hle => ⟨by omega, by omega, ?_⟩⟩⟩)
  rotate_left
  · have q1 : q.1 ≠ 3 := by
      rcases hy9 with ⟨u, -⟩ | ⟨-, u⟩
      · rw [u] at z9; exact absurd z9 (by decide)
      · exact u
    have eo : o_tells A (nI t) (nI r) (nI b) w = -13 := by unfold o_tells; rw [e]; simp only [e2, e3, hl, w1]; rw [if_neg h1, if_neg hg, if_pos q1]
    have h2 := h0 n9 hle
    rw [eo] at h2; exact h2
  have q1 : q.1 = 3 := by
    rcases hy9 with ⟨-, u⟩ | ⟨u, -⟩
    · exact u
    · rw [u] at z9; exact absurd z9 (by decide)
  have hrr' : cput g x0 P σ hp a2 = some (.inl (g.2.1 1, q.2.length, σ.2.2.2.2.2.2.2.2.2.2.2 r)) := by rw [q1] at hrr; exact hrr
  rw [c_ln hrr']
  refine ⟨Nat.zero_le _, Nat.zero_le _, ?_⟩
  have hTb' := hTb
  obtain ⟨a1, r2, p1, -⟩ := hTb'
  rw [ch_o i1 p1 (by decide)]
  have hnc := hTk.nc
  refine c_cases (by omega) i1 hTb ⟨fun z8 => ?_, fun z8 => ⟨Nat.zero_le _, Nat.zero_le _, ?_⟩⟩
  rotate_left
  · have el : q.2.length ≠ s_nc L := fun u => z8 (by show nI q.2.length = _; rw [u])
    have eo : o_tells A (nI t) (nI r) (nI b) w = -2 := by unfold o_tells; rw [e]; simp only [e2, e3, hl, w1]; rw [if_neg h1, if_neg hg, if_neg (fun u => u q1), if_pos el]
    have h2 := h0 nx (Nat.le_refl _)
    rw [eo] at h2; exact h2
  have el : q.2.length = s_nc L := (nI_eq (by omega) (by omega)).mp z8
  obtain ⟨f, hx⟩ : ∃ f, σ.2.2.2.2.2.2.2.2.2.2.2 r = .inr (.inr (.inr (.inl f))) := by
    rw [q1] at w6
    rcases hx : σ.2.2.2.2.2.2.2.2.2.2.2 r with f | f | f | f | f
    · rw [hx] at w6; exact absurd w6 (by rintro (u | u) <;> cases u)
    · rw [hx] at w6; exact w6.elim
    · rw [hx] at w6; exact absurd w6 (by intro u; cases u)
    · exact ⟨f, rfl⟩
    · rw [hx] at w6; exact w6.elim
  have hit : cItm (s_nc L) f (fun k => q.2.getD k none) := by
    intro k hk
    obtain ⟨o, o1, o2⟩ := x_gd (q := q.2) (k := k) (by omega)
    have h9 := w7 k o o1
    rw [hx, q1] at h9
    show (q.2.getD k none = none ∧ _) ∨ (q.2.getD k none = _ ∧ _)
    rw [o2]
    exact h9.2
  have hP' : P.2.2 r = some (a2, 1, s_nc L) := by rw [w3, q1, el]; rfl
  have eo : o_tells A (nI t) (nI r) (nI b) w = o_tell A.1 L (fun k => q.2.getD k none) b w := by unfold o_tells; rw [e]; simp only [e2, e3, hl, w1]; rw [if_neg h1, if_neg hg, if_neg (fun u => u q1), if_neg (fun u => u el)]
  refine ⟨fun _ _ v h n kc ks => ∃ σ' hp', v = o_tell A.1 L (fun k => q.2.getD k none) b w ∧ h = cput g x0 P σ' hp' ∧ nx ≤ n ∧ cINV g x0 P hp' σ' A (M + 10000000) ∧ hLe hp hp' ∧ kc ≤ 6 ∧ ks ≤ 18, ?_, fun q5 => ?_, fun q5 => ?_⟩
  · rintro _ _ v h n kc ks ⟨σ', hp', rfl, rfl, hle, hJ, hl2, k1, k2⟩
    have h2 := hK σ' hp' n hJ hl2 hle
    rw [eo] at h2
    exact ⟨by omega, by omega, h2⟩
  · refine ⟨Nat.zero_le _, Nat.zero_le _, ?_⟩
    rw [cz_o]
    obtain ⟨rk, hST⟩ := hV.st
    refine c_first (S := A.1) i1 i6.sh hST hV.tm ht ha hl i6.2.2.1 i10 (by omega) hr hP' hx hit (by omega) (fun σ' e5 e6 e7 e8 => ⟨σ', hp, ?_, rfl, Nat.le_refl _, cIV_tl (hI'.tl e5 (e6.trans i3) (fun k _ _ k3 => e7 k k3) e8) (by omega), hLe.rf, by omega, by omega⟩)
    unfold o_tell; rw [if_pos q5]
  · refine ⟨fun q6 => ⟨6, 18, by omega, by omega, ?_⟩, fun q6 => ⟨Nat.zero_le _, Nat.zero_le _, ?_⟩⟩
    · rw [cz_o]
      refine c_kindsOf hV hI' hM ht hb24 ha hl hTk hr hP' hx hit (by omega) (by omega) (by omega) (fun σ' hp' nx' j1 j2 j3 => ⟨σ', hp', ?_, rfl, j3, j1, j2, by omega, by omega⟩)
      unfold o_tell; rw [if_neg q5, if_pos q6]
    · rw [cz_o]
      have hw : w = 2 ∨ w = 3 := by
        rcases s_x_of (x := w) (M := 3) (n := 3) (by decide) with u | ⟨j, hj, rfl⟩
        · exact absurd u h1
        · rcases (show j = 0 ∨ j = 1 ∨ j = 2 ∨ j = 3 by omega) with rfl | rfl | rfl | rfl
          · exact absurd rfl q5
          · exact absurd rfl q6
          · exact Or.inl rfl
          · exact Or.inr rfl
      have hfb : A.1.1 b = [] := Classical.byContradiction fun u => hg ⟨by rcases hw with rfl | rfl <;> decide, u⟩
      refine c_numbersOf hV hI' hM ht hb24 hfb ha hl hTk hr hP' hx hit (by omega) (fun σ' j1 => ⟨σ', hp, ?_, rfl, Nat.le_refl _, j1, hLe.rf, by omega, by omega⟩)
      unfold o_tell; rw [if_neg q5, if_neg q6]
      rcases hw with rfl | rfl
      · rw [if_pos rfl, if_neg (by decide)]
      · rw [if_neg (by decide), if_pos rfl]
end TL
