set_option maxRecDepth 100000
/-! taken -/
section TA
variable {l : Launch} {g : zG} {d x0 : Nat} {P : cP} {σ σ' : cS} {hp hp' : zHp} {nx M M' : Nat} {A : sV} {S : sSt} {mc ms kc ks : Nat}
def s_tk (k kd : Int32) : Prop := k = 0 ∨ k = kd ∨ (k = 1 ∧ kd = 3) ∨ (k = 2 ∧ kd = 4)
theorem s_tk0 : ∀ ci ∈ [2, 6, 7, 8, 9, 10], (ci ∈ [2, 6, 7, 8, 9, 10] ↔ s_tk 0 (cKi ci)) := by unfold s_tk; decide
theorem s_tk1 : ∀ ci ∈ [2, 6, 7, 8, 9, 10], (ci ∈ [6, 8] ↔ s_tk 1 (cKi ci)) := by unfold s_tk; decide
theorem s_tk2 : ∀ ci ∈ [2, 6, 7, 8, 9, 10], (ci ∈ [7, 9] ↔ s_tk 2 (cKi ci)) := by unfold s_tk; decide
theorem s_tk3 : ∀ ci ∈ [2, 6, 7, 8, 9, 10], (ci ∈ [8] ↔ s_tk 3 (cKi ci)) := by unfold s_tk; decide
theorem s_tk4 : ∀ ci ∈ [2, 6, 7, 8, 9, 10], (ci ∈ [9] ↔ s_tk 4 (cKi ci)) := by unfold s_tk; decide
theorem s_tk5 : ∀ ci ∈ [2, 6, 7, 8, 9, 10], (ci ∈ [10] ↔ s_tk 5 (cKi ci)) := by unfold s_tk; decide
theorem co_taken (hI : cINV g x0 P hp σ A M) (hT : l.stackTraces = false) (hd : 200 ≤ d) (hmc : 3 ≤ mc) (hms : 1010 ≤ ms) {x k : Int32} {K : Int32 → zHp → Nat → Prop} (hK : ∀ nx', nx ≤ nx' → K (o_taken A x k) (cput g x0 P σ hp) nx') : zMtM l g yX0_taken cX0_taken 5 (some .int) [(29, 71, 112, 445), (72, 79, 112, 445), (80, 87, 112, 445), (88, 95, 112, 445), (96, 103, 112, 445), (104, 111, 112, 445)] d mc ms [.ref x0, .int x, .int k] (cput g x0 P σ hp) nx (zQi g K) := by
  obtain ⟨d, rfl⟩ := Nat.exists_eq_add_of_le' (show 1 ≤ d by omega)
  obtain ⟨i1, i2, i3, i4, i5, i6, i7⟩ := hI
  have h0 := hK nx (Nat.le_refl _)
  apply mv_X0_taken
  unfold wv_X0_taken
  refine ⟨Nat.zero_le _, Nat.zero_le _, ?_⟩
  have m19 : ∀ h n kc ks, (o_taken A x k = -2 ∧ h = cput g x0 P σ hp ∧ nx = n ∧ kc = 0 ∧ ks = 0) → kc ≤ mc ∧ ks ≤ ms ∧ K (-2) h n := by
    rintro h n kc ks ⟨e, rfl, rfl, rfl, rfl⟩
    rw [e] at h0
    exact ⟨Nat.zero_le _, Nat.zero_le _, h0⟩
  refine c_isCell (by omega) (fun e => ?_) (fun c hc ex e => ?_)
  · exact ⟨fun h n kc ks => o_taken A x k = -2 ∧ h = cput g x0 P σ hp ∧ nx = n ∧ kc = 0 ∧ ks = 0, m19, fun _ => ⟨by unfold o_taken; rw [e], rfl, rfl, rfl, rfl⟩, fun z => absurd rfl z⟩
  refine ⟨fun h n kc ks => o_taken A x k = -2 ∧ h = cput g x0 P σ hp ∧ nx = n ∧ kc = 0 ∧ ks = 0, m19, fun z => absurd z (by decide), fun _ => ⟨Nat.zero_le _, Nat.zero_le _, ?_⟩⟩
  refine c_inn (a := 0) (b := 5) (by decide) (by decide) (by omega) (fun z => ⟨fun _ => ⟨by unfold o_taken; rw [e]; exact if_pos z, rfl, rfl, rfl, rfl⟩, fun y => absurd rfl y⟩) (fun h1 => ⟨fun y => absurd y (by decide), fun _ => ?_⟩)
  subst ex
  clear m19
  have hci := (i1.2.2.1 c hc).2.2.2
  have ekd : A.1.2.2.1 c = cKi (P.2.1 c) := i6.1.2.1 c hc
  have yes : s_tk k (cKi (P.2.1 c)) → K (cKi (P.2.1 c)) (cput g x0 P σ hp) nx := fun q => by
    have eo : o_taken A (nI c) k = cKi (P.2.1 c) := by unfold o_taken; rw [e]; simp only [if_neg h1, ekd]; exact if_pos q
    rw [eo] at h0; exact h0
  have no : ¬ s_tk k (cKi (P.2.1 c)) → o_taken A (nI c) k = -13 := fun q => by
    unfold o_taken; rw [e]; simp only [if_neg h1, ekd]; exact if_neg q
  refine cRC (S := A.1) i6.1 hc ?_
  have hcell : cput g x0 P σ hp (P.1 c) = some (.inr (P.2.1 c, [.int (nI c), va_rf (σ.2.2.2.2.2.2.2.2.2.2.1 c), .double (σ.2.2.2.1 c)])) := cput_c i1 hc
  have hz : ∀ {T : List Nat} {Q : Nat → Nat → List Value → Prop}, P.2.1 c ∈ T → zo (cput g x0 P σ hp) (some (P.1 c)) T Q = Q (P.1 c) (P.2.1 c) [.int (nI c), va_rf (σ.2.2.2.2.2.2.2.2.2.2.1 c), .double (σ.2.2.2.1 c)] := fun {T Q} h => hz_o hcell h
  have kd : ∀ {PP : Int32 → zHp → Nat → Prop}, PP (cKi (P.2.1 c)) (cput g x0 P σ hp) nx → _ := fun {PP} h => c_kd (l := l) (g := g) (d := d) (a := P.1 c) hci (by omega) (PP := PP) h
  refine ⟨fun _ _ h n kc ks => o_taken A (nI c) k = -13 ∧ h = cput g x0 P σ hp ∧ nx ≤ n ∧ kc = 3 ∧ ks = 1010, ?_, fun z => ?_, fun z => ?_, fun z => ?_, fun z => ?_, fun z => ?_, fun z => ?_⟩
  · rintro _ _ h n kc ks ⟨eo, rfl, hle, rfl, rfl⟩
    have h2 := hK n hle
    rw [eo] at h2
    exact ⟨by omega, by omega, h2⟩
  · subst z
    rw [hz hci]
    refine ⟨fun q => ⟨Nat.zero_le _, Nat.zero_le _, ?_⟩, fun _ => trivial⟩
    rw [hz hci]
    refine ⟨fun y h n => y = cKi (P.2.1 c) ∧ h = cput g x0 P σ hp ∧ nx = n, ?_, kd ⟨rfl, rfl, rfl⟩⟩
    rintro y h n ⟨rfl, rfl, rfl⟩
    exact ⟨Nat.zero_le _, Nat.zero_le _, yes ((s_tk0 _ hci).mp q)⟩
  · subst z
    rw [hz hci]
    refine ⟨fun q => ⟨Nat.zero_le _, Nat.zero_le _, ?_⟩, fun q => ⟨hT, by omega, by omega, by omega, fun q9 nx9 hle => ⟨no (fun y => q ((s_tk1 _ hci).mpr y)), rfl, hle, rfl, rfl⟩⟩⟩
    rw [hz q]
    refine ⟨fun y h n => y = cKi (P.2.1 c) ∧ h = cput g x0 P σ hp ∧ nx = n, ?_, (kd ⟨rfl, rfl, rfl⟩).2.1, (kd ⟨rfl, rfl, rfl⟩).2.2.2.1⟩
    rintro y h n ⟨rfl, rfl, rfl⟩
    exact ⟨Nat.zero_le _, Nat.zero_le _, yes ((s_tk1 _ hci).mp q)⟩
  · subst z
    rw [hz hci]
    refine ⟨fun q => ⟨Nat.zero_le _, Nat.zero_le _, ?_⟩, fun q => ⟨hT, by omega, by omega, by omega, fun q9 nx9 hle => ⟨no (fun y => q ((s_tk2 _ hci).mpr y)), rfl, hle, rfl, rfl⟩⟩⟩
    rw [hz q]
    refine ⟨fun y h n => y = cKi (P.2.1 c) ∧ h = cput g x0 P σ hp ∧ nx = n, ?_, (kd ⟨rfl, rfl, rfl⟩).2.2.1, (kd ⟨rfl, rfl, rfl⟩).2.2.2.2.1⟩
    rintro y h n ⟨rfl, rfl, rfl⟩
    exact ⟨Nat.zero_le _, Nat.zero_le _, yes ((s_tk2 _ hci).mp q)⟩
  · subst z
    rw [hz hci]
    refine ⟨fun q => ⟨Nat.zero_le _, Nat.zero_le _, ?_⟩, fun q => ⟨hT, by omega, by omega, by omega, fun q9 nx9 hle => ⟨no (fun y => q ((s_tk3 _ hci).mpr y)), rfl, hle, rfl, rfl⟩⟩⟩
    rw [hz q]
    exact (kd ⟨Nat.zero_le _, Nat.zero_le _, yes ((s_tk3 _ hci).mp q)⟩).2.2.2.1 (by simpa using q)
  · subst z
    rw [hz hci]
    refine ⟨fun q => ⟨Nat.zero_le _, Nat.zero_le _, ?_⟩, fun q => ⟨hT, by omega, by omega, by omega, fun q9 nx9 hle => ⟨no (fun y => q ((s_tk4 _ hci).mpr y)), rfl, hle, rfl, rfl⟩⟩⟩
    rw [hz q]
    exact (kd ⟨Nat.zero_le _, Nat.zero_le _, yes ((s_tk4 _ hci).mp q)⟩).2.2.2.2.1 (by simpa using q)
  · have k5 : k = 5 := by
      rcases s_x_of (x := k) (M := 5) (n := 5) (by decide) with q | ⟨j, hj, rfl⟩
      · exact absurd q h1
      · obtain ⟨z0, z1, z2, z3, z4⟩ := z
        rcases (show j = 0 ∨ j = 1 ∨ j = 2 ∨ j = 3 ∨ j = 4 ∨ j = 5 by omega) with rfl | rfl | rfl | rfl | rfl | rfl
        · exact absurd rfl z0
        · exact absurd rfl z1
        · exact absurd rfl z2
        · exact absurd rfl z3
        · exact absurd rfl z4
        · rfl
    subst k5
    rw [hz hci]
    refine ⟨fun q => ⟨Nat.zero_le _, Nat.zero_le _, ?_⟩, fun q => ⟨hT, by omega, by omega, by omega, fun q9 nx9 hle => ⟨no (fun y => q ((s_tk5 _ hci).mpr y)), rfl, hle, rfl, rfl⟩⟩⟩
    rw [hz q]
    exact (kd ⟨Nat.zero_le _, Nat.zero_le _, yes ((s_tk5 _ hci).mp q)⟩).2.2.2.2.2 (by simpa using q)
end TA
