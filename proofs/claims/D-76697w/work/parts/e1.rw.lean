set_option maxRecDepth 100000
/-! row -/
section RW
variable {l : Launch} {g : zG} {d x0 : Nat} {P : cP} {σ σ' : cS} {hp hp' : zHp} {nx M M' : Nat} {A : sV} {S : sSt} {mc ms kc ks : Nat}
theorem c_rdn {r : Nat} (hI : cINV g x0 P hp σ A M) (hr : r < 4) : ∃ P' σ' hp', cput g x0 P (cuW σ (va_up σ.2.2.2.2.2.2.2.2.2.1 r none)) hp = cput g x0 P' σ' hp' ∧ hLe hp hp' ∧ cINV g x0 P' hp' σ' (v_rw A (s_up A.2.2.2 r none)) M := by
  have i1 := hI.1
  refine ⟨_, _, _, cDrE (σ := cuW σ (va_up σ.2.2.2.2.2.2.2.2.2.1 r none)) i1 hr, cDrL (σ := cuW σ (va_up σ.2.2.2.2.2.2.2.2.2.1 r none)) i1 hr, ?_⟩
  exact cINV.rw (σ' := cuW σ (va_up σ.2.2.2.2.2.2.2.2.2.1 r none)) hI (cDrL (σ := cuW σ (va_up σ.2.2.2.2.2.2.2.2.2.1 r none)) i1 hr) (cDrW (σ := cuW σ (va_up σ.2.2.2.2.2.2.2.2.2.1 r none)) i1 hr) rfl rfl rfl rfl rfl rfl rfl rfl rfl rfl rfl rfl (hI.2.2.2.2.2.2.2.2.1.dn)
theorem x_z0 : FP.i2d (0 : Int32) = 0 := by decide +kernel
theorem x_z1 : FP.f2d (0 : UInt32) = 0 := by decide +kernel
theorem x_z2 : s_C 0 := ⟨false, 0, -149, by decide +kernel, by rw [Nat.zero_mul]; exact Nat.zero_le _⟩
/-- a new array of a sort, or none -/
theorem c_things {s : Nat} {n : Int32} (hs : s ≤ 3) (hn : n ≤ 64) (hW : cW g x0 P hp) (hT : l.stackTraces = false) (hd : 170 ≤ d) (hmc : 3 ≤ mc) (hms : 222 ≤ ms) {K : Option Nat → zHp → Nat → Prop} {KX : Nat → zHp → Nat → Prop} (hK : ∀ nn x, nn ≤ 64 → n = nI nn → cSx s x → (∀ i, cIt1 s x i (some 0)) → ¬ cOv x0 P nx → hp nx = none → zB g ≤ nx → K (some nx) (cput g x0 P σ (va_up hp nx (some (.inl (g.2.1 (cSo s), nn, x))))) (nx + 1)) (hX : n < 0 → ∀ u nx', nx ≤ nx' → KX u (cput g x0 P σ hp) nx') : zMx l g yX0_things cX0_things 2 (some (.object "java/lang/Object")) d mc ms [.int (nI s), .int n] (cput g x0 P σ hp) nx (zQq g K) "java/lang/NegativeArraySizeException" KX := by
  obtain ⟨d, rfl⟩ := Nat.exists_eq_add_of_le' (show 1 ≤ d by omega)
  have out : n < 0 → (l.stackTraces = false ∧ 160 ≤ d ∧ (0 + 3) ≤ mc ∧ (0 + 222) ≤ ms ∧ ∀ u nx' : Nat, nx ≤ nx' → KX u (cput g x0 P σ hp) nx') := fun h => ⟨hT, by omega, by omega, by omega, fun u nx' h2 => hX h u nx' h2⟩
  have ofn : ¬ n < 0 → ∃ nn, nn ≤ 64 ∧ n = nI nn := fun h => by
    rcases s_x_of (x := n) (M := 64) (n := 64) (by decide) with q | ⟨k, hk, e⟩
    · exact absurd q (fun z => z.elim h (fun z => Int32.not_le.mpr z hn))
    · exact ⟨k, by omega, e⟩
  apply mv_X0_things
  unfold wv_X0_things
  rcases (show s = 0 ∨ s = 1 ∨ s = 2 ∨ s = 3 by omega) with rfl | rfl | rfl | rfl
  · refine ⟨fun _ => ⟨fun h => ?_, out⟩, fun z => absurd z (by decide), fun z => absurd z (by decide), fun z => absurd rfl z.1⟩
    obtain ⟨nn, hnn, rfl⟩ := ofn h
    refine c_nar (n := nn) hW (by omega) (by omega) (by omega) (fun u1 u2 u3 u4 => ?_)
    rintro _ _ _ rfl rfl rfl
    rw [nI_clamp (show nn < 2 ^ 31 by omega)]
    exact ⟨by omega, by omega, hK nn _ hnn rfl (Or.inl rfl) (fun i => ⟨Or.inl rfl, by rw [x_z0], fun _ => (by decide : (0 : Int32).toInt8.toInt32 = 0)⟩) u1 u2 u3⟩
  · refine ⟨fun z => absurd z (by decide), fun _ => ⟨fun h => ?_, out⟩, fun z => absurd z (by decide), fun z => absurd rfl z.2.1⟩
    obtain ⟨nn, hnn, rfl⟩ := ofn h
    refine c_nar (n := nn) hW (by omega) (by omega) (by omega) (fun u1 u2 u3 u4 => ?_)
    rintro _ _ _ rfl rfl rfl
    rw [nI_clamp (show nn < 2 ^ 31 by omega)]
    exact ⟨by omega, by omega, hK nn _ hnn rfl (Or.inr rfl) (fun i => ⟨Or.inr rfl, by rw [x_z0], fun e => by cases e⟩) u1 u2 u3⟩
  · refine ⟨fun z => absurd z (by decide), fun z => absurd z (by decide), fun _ => ⟨fun h => ?_, out⟩, fun z => absurd rfl z.2.2⟩
    obtain ⟨nn, hnn, rfl⟩ := ofn h
    refine c_nar (n := nn) hW (by omega) (by omega) (by omega) (fun u1 u2 u3 u4 => ?_)
    rintro _ _ _ rfl rfl rfl
    rw [nI_clamp (show nn < 2 ^ 31 by omega)]
    exact ⟨by omega, by omega, hK nn _ hnn rfl rfl (fun i => ⟨rfl, by rw [x_z1], x_z2⟩) u1 u2 u3⟩
  · refine ⟨fun z => absurd z (by decide), fun z => absurd z (by decide), fun z => absurd z (by decide), fun _ => ⟨fun h => ?_, out⟩⟩
    obtain ⟨nn, hnn, rfl⟩ := ofn h
    refine c_nar (n := nn) hW (by omega) (by omega) (by omega) (fun u1 u2 u3 u4 => ?_)
    rintro _ _ _ rfl rfl rfl
    rw [nI_clamp (show nn < 2 ^ 31 by omega)]
    exact ⟨by omega, by omega, hK nn _ hnn rfl rfl (fun i => ⟨rfl, Or.inr ⟨rfl, fk_B0⟩⟩) u1 u2 u3⟩
/-- row -/
theorem co_row (hI : cINV g x0 P hp σ A M) (hT : l.stackTraces = false) (hd : 200 ≤ d) (hmc : 3 ≤ mc) (hms : 222 ≤ ms) {x s n : Int32} {K : Int32 → zHp → Nat → Prop} (hK : ∀ P' σ' hp' nx', cINV g x0 P' hp' σ' (o_row A x s n).2 M → hLe hp hp' → nx ≤ nx' → K (o_row A x s n).1 (cput g x0 P' σ' hp') nx') : zMtW l g yX0_row cX0_row 5 (some .int) [(34, 57, 58, 585)] d mc ms [.ref x0, .int x, .int s, .int n] (cput g x0 P σ hp) nx (zQi g K) := by
  obtain ⟨d, rfl⟩ := Nat.exists_eq_add_of_le' (show 1 ≤ d by omega)
  have i1 := hI.1
  have h0 := hK P σ hp
  have hB0 : zB g ≤ x0 := i1.1
  apply mv_X0_row
  unfold wv_X0_row
  refine ⟨Nat.zero_le _, Nat.zero_le _, ?_⟩
  have m31 : ∀ h n' kc ks, (o_row A x s n = (-2, A) ∧ h = cput g x0 P σ hp ∧ nx = n' ∧ kc = 0 ∧ ks = 0) → kc ≤ mc ∧ ks ≤ ms ∧ K (-2) h n' := by
    rintro h n' kc ks ⟨e, rfl, rfl, rfl, rfl⟩
    rw [e] at h0
    exact ⟨Nat.zero_le _, Nat.zero_le _, h0 nx hI hLe.rf (Nat.le_refl _)⟩
  refine c_isRow (by omega) (fun e => ?_) (fun r hr ex e => ?_)
  · exact ⟨fun h n' kc ks => o_row A x s n = (-2, A) ∧ h = cput g x0 P σ hp ∧ nx = n' ∧ kc = 0 ∧ ks = 0, m31, fun _ => ⟨by unfold o_row; rw [e], rfl, rfl, rfl, rfl⟩, fun z => absurd rfl z⟩
  refine ⟨fun h n' kc ks => o_row A x s n = (-2, A) ∧ h = cput g x0 P σ hp ∧ nx = n' ∧ kc = 0 ∧ ks = 0, m31, fun z => absurd z (by decide), fun _ => ⟨Nat.zero_le _, Nat.zero_le _, ?_⟩⟩
  subst ex
  clear m31
  refine c_inn (a := -1) (b := 3) (by decide) (by decide) (by omega) (fun z => ⟨fun _ => ⟨by unfold o_row; rw [e]; simp only [if_pos z], rfl, rfl, rfl, rfl⟩, fun y => absurd rfl y⟩) (fun h1 => ⟨fun y => absurd y (by decide), fun _ => ?_⟩)
  have cr : (nI r).toNatClampNeg = r := nI_clamp (by omega)
  refine ⟨fun h n' kc ks => (s < 0 ∨ n ≤ 64) ∧ h = cput g x0 P σ hp ∧ nx = n' ∧ kc = 0 ∧ ks = 0, ?_, fun z => ⟨Or.inl z, rfl, rfl, rfl, rfl⟩, fun z => ⟨fun z2 => ⟨Or.inr z2, rfl, rfl, rfl, rfl⟩, fun z2 => ⟨?_, rfl, rfl, rfl, rfl⟩⟩⟩
  rotate_left
  · unfold o_row; rw [e]; simp only [if_neg h1]; rw [if_pos ⟨z, z2⟩]
  rintro h n' kc ks ⟨hsn, rfl, rfl, rfl, rfl⟩
  refine cRR hr ?_
  refine ⟨fun r23 r24 h n' kc ks => r23 = some (x0 + (227 + r)) ∧ kc ≤ 3 ∧ ks ≤ 222 ∧ nx ≤ n' ∧ ((s < 0 ∧ r24 = none ∧ h = cput g x0 P σ hp) ∨ ∃ k nn y, s = nI k ∧ k ≤ 3 ∧ n = nI nn ∧ nn ≤ 64 ∧ cSx k y ∧ (∀ i, cIt1 k y i (some 0)) ∧ ¬ cOv x0 P nx ∧ hp nx = none ∧ zB g ≤ nx ∧ r24 = some nx ∧ h = cput g x0 P σ (va_up hp nx (some (.inl (g.2.1 (cSo k), nn, y))))), ?_, fun z => ?_, fun z => ⟨rfl, by omega, by omega, Nat.le_refl _, Or.inl ⟨Int32.not_le.mp z, rfl, rfl⟩⟩⟩
  · rintro r23 r24 h n' kc ks ⟨rfl, k1, k2, k3, hc⟩
    rcases hc with ⟨z, rfl, rfl⟩ | ⟨k, nn, y, rfl, hk, rfl, hnn, y1, y2, u1, u2, u3, rfl, rfl⟩
    · rw [cr_p hr none]
      refine ⟨by omega, by omega, by omega, ?_⟩
      obtain ⟨P', σ', hp', c1, c2, c3⟩ := c_rdn hI hr
      rw [c1]
      have eo : o_row A (nI r) s n = (1, v_rw A (s_up A.2.2.2 r none)) := by
        unfold o_row; rw [e]; simp only [if_neg h1]; rw [if_neg (fun y => y.1 z), if_neg (fun y => y.1 z), if_pos z]
      rw [eo] at hK
      exact hK P' σ' hp' n' c3 c2 k3
    · rw [cr_p hr (some nx)]
      refine ⟨by omega, by omega, by omega, ?_⟩
      have hlr : (List.replicate nn (some (0 : UInt64))).length = nn := List.length_replicate ..
      obtain ⟨P', σ', hp', c1, c2, c3⟩ := c_rset (a := nx) (s := k) (q := List.replicate nn (some 0)) (x := y) hI y1 hr hk (by omega) (fun i o h => by
        rw [List.getElem?_replicate] at h
        split at h
        · cases h; exact y2 i
        · cases h) u1 u2 u3
      rw [hlr] at c1
      rw [c1]
      have z : ¬ nI k < 0 := nI_pos (by omega)
      have zn : ¬ nI nn < 0 := nI_pos (by omega)
      have ck : (nI k).toNatClampNeg = k := nI_clamp (by omega)
      have cn : (nI nn).toNatClampNeg = nn := nI_clamp (by omega)
      have h64 : nI nn ≤ 64 := hsn.elim (fun y => absurd y z) id
      have eo : o_row A (nI r) (nI k) (nI nn) = (1, v_rw A (s_up A.2.2.2 r (some (k, List.replicate nn (some 0))))) := by
        unfold o_row; rw [e]; simp only [if_neg h1]; rw [if_neg (fun y => y.2 h64), if_neg (fun y => y.2 (Int32.not_lt.mp zn)), if_neg z, ck, cn]
      rw [eo] at hK
      exact hK P' σ' hp' n' c3 c2 k3
  · obtain ⟨k, hk, rfl⟩ : ∃ k, k < 4 ∧ s = nI k := by
      rcases s_s_of h1 with rfl | q
      · exact absurd z (by decide)
      · exact q
    have h64 : n ≤ 64 := hsn.elim (fun y => absurd y (nI_pos (by omega))) id
    refine ⟨3, 222, by omega, by omega, ?_⟩
    refine c_things (by omega) h64 i1 hT (by omega) (by omega) (by omega) (fun nn y hnn en y1 y2 u1 u2 u3 => ⟨rfl, by omega, by omega, by omega, Or.inr ⟨k, nn, y, rfl, by omega, en, hnn, y1, y2, u1, u2, u3, rfl, rfl⟩⟩) (fun hn0 u nx' hle => ⟨by omega, by omega, ?_⟩)
    have z' : ¬ nI k < 0 := nI_pos (by omega)
    have eo : o_row A (nI r) (nI k) n = (-14, A) := by
      unfold o_row; rw [e]; simp only [if_neg h1]; rw [if_neg (fun y => y.2 h64), if_pos ⟨z', Int32.not_le.mpr hn0⟩]
    rw [eo] at h0
    exact h0 nx' hI hLe.rf hle
end RW
