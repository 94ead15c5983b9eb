set_option maxRecDepth 100000
/-! back -/
section BA
variable {l : Launch} {g : zG} {d x0 : Nat} {P : cP} {σ σ' : cS} {hp hp' : zHp} {nx M M' : Nat} {A : sV} {S : sSt} {fm : sF} {ly : sY} {kd : Nat → Int32} {mc ms kc ks : Nat}
/-- so far: the first j cells are as they were kept -/
def cBj (g : zG) (x0 : Nat) (P : cP) (hp : zHp) (σ : cS) (S : sSt) (j : Nat) (P1 : cP) (hp1 : zHp) (τ : cS) : Prop := cW g x0 P1 hp1 ∧ hLe hp hp1 ∧ P1.2.2 = P.2.2 ∧ τ.1 = σ.1 ∧ τ.2.1 = σ.2.1 ∧ τ.2.2.1 = σ.2.2.1 ∧ τ.2.2.2.2.1 = σ.2.2.2.2.1 ∧ τ.2.2.2.2.2.1 = σ.2.2.2.2.2.1 ∧ (∀ k, k ≠ 0 → τ.2.2.2.2.2.2.1 k = σ.2.2.2.2.2.2.1 k) ∧ τ.2.2.2.2.2.2.2.1 = σ.2.2.2.2.2.2.2.1 ∧ τ.2.2.2.2.2.2.2.2.1 = σ.2.2.2.2.2.2.2.2.1 ∧ τ.2.2.2.2.2.2.2.2.2.1 = σ.2.2.2.2.2.2.2.2.2.1 ∧ τ.2.2.2.2.2.2.2.2.2.2.2 = σ.2.2.2.2.2.2.2.2.2.2.2 ∧ (∀ e, e < 24 → τ.2.2.2.2.2.2.1 0 e = some (P1.1 e)) ∧ (∀ e, e < j → cKi (P1.2.1 e) = S.2.2.1 e ∧ τ.2.2.2.1 e = σ.2.2.2.2.2.1 25 e ∧ τ.2.2.2.2.2.2.2.2.2.2.1 e = σ.2.2.2.2.2.2.1 26 e)
theorem cKi_of {a b : Nat} (ha : a ∈ [2, 6, 7, 8, 9, 10]) (h : cKi a = nI b) (hb : b ≤ 5) : a = cCl b := by
  have : ∀ a ∈ [2, 6, 7, 8, 9, 10], ∀ b, b < 6 → cKi a = nI b → a = cCl b := by decide
  exact this a ha b (by omega) h
theorem co_back (hIm : ∀ S, A.2.1 = some S → sOK S) (hI : cINV g x0 P hp σ A M) (hd : 30 ≤ d) (hmc : 150 ≤ mc) (hms : 810 ≤ ms) {K : Int32 → zHp → Nat → Prop} (hK : ∀ P' σ' hp' nx', cINV g x0 P' hp' σ' (o_back A).2 M → hLe hp hp' → nx ≤ nx' → K (o_back A).1 (cput g x0 P' σ' hp') nx') : zMt l g yX0_back cX0_back 2 (some .int) d mc ms [.ref x0] (cput g x0 P σ hp) nx (zQi g K) := by
  obtain ⟨d, rfl⟩ := Nat.exists_eq_add_of_le' (show 1 ≤ d by omega)
  have hI' := hI
  obtain ⟨i1, i2, i3, i4, i5, i6, i7, i8, i9, i10⟩ := hI
  have hB0 := i1.1
  have e24 : (24 : Int32) = nI 24 := rfl
  have e6 : (6 : Int32) = nI 6 := rfl
  apply met_X0_back
  unfold wp_X0_back
  rw [cg_isKept]
  rcases i7 with ⟨k0, k1⟩ | ⟨k0, S, k1, kk, kf, kt, ko, kn⟩
  · rw [k0]
    refine ⟨fun _ => ⟨Nat.zero_le _, Nat.zero_le _, ?_⟩, fun z => absurd rfl z⟩
    have h0 := hK P σ hp nx
    unfold o_back at h0
    rw [k1] at h0
    exact h0 hI' hLe.rf (Nat.le_refl _)
  rw [k0]
  refine ⟨fun z => absurd z (by decide), fun _ => ?_⟩
  have eo : o_back A = (nI (s_nf S), S, A.2) := by unfold o_back; rw [k1]
  rw [eo] at hK
  have hS := hIm S k1
  have hx := hS.2.2.2.2.2.2
  rw [e24, e6]
  refine ⟨fun n k h n' kc ks => ∃ j P1 hp1 τ, n = 24 - j ∧ j ≤ 24 ∧ k = nI j ∧ h = cput g x0 P1 τ hp1 ∧ nx ≤ n' ∧ kc ≤ j ∧ ks ≤ 3 * j ∧ cBj g x0 P hp σ S j P1 hp1 τ, ⟨24, 0, P, hp, σ, rfl, Nat.zero_le _, rfl, rfl, Nat.le_refl _, Nat.le_refl _, Nat.le_refl _, i1, hLe.rf, rfl, rfl, rfl, rfl, rfl, rfl, fun _ _ => rfl, rfl, rfl, rfl, rfl, i6.1.1, fun e he => absurd he (Nat.not_lt_zero _)⟩, ?_⟩
  rintro n k h n' kc ks ⟨j, P1, hp1, τ, rfl, hj, rfl, rfl, hn1, hkc, hks, b1, b2, b3, b4, b5, b6, b7, b8, b9, b10, b11, b12, b13, b14, b15⟩
  refine ⟨fun y => ?_, fun y => ?_⟩
  · have : j = 24 := by have := (nI_leI (by omega) (by omega)).mp y; omega
    subst this
    refine ⟨fun n k h n'' kc' ks' => ∃ j τ2, n = 6 - j ∧ j ≤ 6 ∧ k = nI j ∧ h = cput g x0 P1 τ2 hp1 ∧ n'' = n' ∧ kc' = kc ∧ ks' = ks ∧ τ2.1 = τ.1 ∧ τ2.2.1 = τ.2.1 ∧ τ2.2.2.1 = τ.2.2.1 ∧ τ2.2.2.2.1 = τ.2.2.2.1 ∧ τ2.2.2.2.2.1 = τ.2.2.2.2.1 ∧ τ2.2.2.2.2.2.1 = τ.2.2.2.2.2.1 ∧ (∀ q, q ≠ 1 → τ2.2.2.2.2.2.2.1 q = τ.2.2.2.2.2.2.1 q) ∧ τ2.2.2.2.2.2.2.2 = τ.2.2.2.2.2.2.2 ∧ ∀ t, t < j → τ2.2.2.2.2.2.2.1 1 t = σ.2.2.2.2.2.2.1 27 t, ⟨6, 0, τ, rfl, Nat.zero_le _, rfl, rfl, rfl, rfl, rfl, rfl, rfl, rfl, rfl, rfl, rfl, fun _ _ => rfl, rfl, fun t ht => absurd ht (Nat.not_lt_zero _)⟩, ?_⟩
    rintro n k h n'' kc' ks' ⟨j, τ2, rfl, hj, rfl, rfl, rfl, rfl, rfl, c1, c2, c3, c4, c5, c6, c7, c8, c9⟩
    refine ⟨fun y => ?_, fun y => ?_⟩
    · have : j = 6 := by have := (nI_leI (by omega) (by omega)).mp y; omega
      subst this
      /- all is as it was kept: orders -/
      have r9 : ∀ q, q ≠ 0 → q ≠ 1 → τ2.2.2.2.2.2.2.1 q = σ.2.2.2.2.2.2.1 q := fun q q0 q1 => (c7 q q1).trans (b9 q q0)
      have h0 : cIV0 g x0 P1 hp1 τ2 (S, A.2) M := by
        refine ⟨b1, i2.mo b2, (c2.trans b5).trans i3, ?_, ?_, ⟨⟨fun e he => ?_, fun e he => ?_, fun e he => ?_, fun t ht => ?_⟩, ?_, fun e he hne => ?_⟩, ?_, ?_, ?_, ?_⟩
        · unfold cBk at i4 ⊢
          rw [c8, b10]; exact i4
        · rw [c8, b11]; exact i5
        · rw [c7 0 (by decide)]; exact b14 e he
        · exact (b15 e he).1.symm
        · rw [c8, (b15 e he).2.2]; exact (kf e he).mo b2
        · rw [c9 t ht]; exact (kt t ht).mo b2
        · refine ⟨ko.1, fun e he hf => ?_⟩
          rw [c4, (b15 e he).2.1]; exact ko.2 e he hf
        · rw [c4, (b15 e he).2.1]; exact kn e he hne
        · refine Or.inr ⟨by rw [c1, b4]; exact k0, S, k1, fun c hc => ?_, fun c hc => ?_, fun t ht => ?_, ?_, fun c hc hne => ?_⟩
          · rw [c5, b7]; exact kk c hc
          · rw [r9 26 (by decide) (by decide)]; exact (kf c hc).mo b2
          · rw [r9 27 (by decide) (by decide)]; exact (kt t ht).mo b2
          · rw [c6, b8]; exact ko
          · rw [c6, b8]; exact kn c hc hne
        · unfold cTp at i8 ⊢
          rw [c1, b4, c5, b7]; exact i8
        · unfold cRw at i9 ⊢
          rw [c8, b12, b13, b3]; exact i9
        · unfold cSt at i10 ⊢
          rw [c3, b6]; exact i10
      refine ⟨122, 734, by omega, by omega, ?_⟩
      rw [cz_o]
      obtain ⟨⟨rk, hr⟩, -⟩ := hS
      refine c_ord1 h0 (hIm S k1).mr ⟨rk, hr⟩ (hIm S k1).tm (by omega) (fun σ3 hp3 nx3 z1 z2 z3 z4 => ⟨by omega, by omega, ?_⟩)
      rw [cz_o]
      exact c_formulas z1.1 z1.2.2.2.2.2.1.1 (by omega) ⟨by omega, by omega, hK P1 σ3 hp3 nx3 z1 (b2.tr z3) (by omega)⟩
    · have hj6 : j < 6 := by
        rcases Nat.lt_or_ge j 6 with w | w
        · exact w
        · exact absurd ((nI_leI (by omega) (by omega)).mpr w) y
      rw [cg_tables, cg_tablesKept, ca_tablesKept]
      refine ⟨vp_in_nI hj6 (by decide), ?_⟩
      intro r er
      rw [nI_clamp (by omega), c7 27 (by decide), b9 27 (by decide)] at er
      have hly := (kt j hj6).mo b2
      rw [← er] at hly
      rw [ca_tables]
      refine ⟨vp_in_nI hj6 (by decide), by omega, hly.ca b1, ?_⟩
      rintro _ rfl
      rw [nI_clamp (by omega), cu_tables]
      rintro _ rfl
      refine ⟨6 - (j + 1), by omega, j + 1, _, rfl, by omega, nI_1 j, rfl, rfl, rfl, rfl, c1, c2, c3, c4, c5, c6, fun q hq => ?_, c8, fun t ht => ?_⟩
      · show va_up τ2.2.2.2.2.2.2.1 1 (va_up (τ2.2.2.2.2.2.2.1 1) j r) q = _
        rw [va_o hq]; exact c7 q hq
      · show va_up τ2.2.2.2.2.2.2.1 1 (va_up (τ2.2.2.2.2.2.2.1 1) j r) 1 t = _
        rw [va_s]
        by_cases q : t = j
        · subst q; rw [va_s]; exact er
        · rw [va_o q]; exact c9 t (by omega)
  · have hj24 : j < 24 := by
      rcases Nat.lt_or_ge j 24 with w | w
      · exact w
      · exact absurd ((nI_leI (by omega) (by omega)).mpr w) y
    have cj : (nI j).toNatClampNeg = j := nI_clamp (by omega)
    have ij : vp_in (nI j) 24 := vp_in_nI hj24 (by decide)
    have cellr : ∀ {P' : cP} {τ' : cS} {hp' : zHp} {Q : Option Nat → Prop}, τ'.2.2.2.2.2.2.1 0 j = some (P'.1 j) → Q (some (P'.1 j)) → zgR (cput g x0 P' τ' hp') (some x0) [0] 0 fun r => zaR (g.2.1 7) (cput g x0 P' τ' hp') r fun a n f => vp_in (nI j) n ∧ ∀ q : Option Nat, q = f (nI j).toNatClampNeg → Q q := by
      intro P' τ' hp' Q e hQ
      rw [cg_cells, ca_cells]
      refine ⟨ij, ?_⟩
      intro q eq
      rw [cj, e] at eq
      rw [eq]; exact hQ
    refine cellr (b14 j hj24) ⟨by omega, by omega, ?_⟩
    rw [cc_o b1 hj24]
    refine ⟨fun q h n => q = cKi (P1.2.1 j) ∧ h = cput g x0 P1 τ hp1 ∧ n = n', ?_, c_kd (b1.2.2.1 j hj24).2.2.2 (by omega) ⟨rfl, rfl, rfl⟩⟩
    rintro q h n ⟨rfl, rfl, rfl⟩
    rw [cg_kindsKept, ca_kindsKept]
    refine ⟨ij, ?_⟩
    intro x68 e68
    rw [cj, b7, kk j hj24] at e68
    subst e68
    /- the kind is right: what it owns, its formula -/
    refine ⟨fun k h n kc' ks' => ∃ P2 hp2 τ2, k = nI j ∧ h = cput g x0 P2 τ2 hp2 ∧ nx ≤ n ∧ kc' ≤ j + 1 ∧ ks' ≤ 3 * (j + 1) ∧ cBj g x0 P hp σ S j P2 hp2 τ2 ∧ cKi (P2.2.1 j) = S.2.2.1 j, ?_, fun z => ?_, fun z => ?_⟩
    · rintro k h n kc' ks' ⟨P2, hp2, τ2, rfl, rfl, hn2, hkc2, hks2, ⟨d1, d2, d3, d4, d5, d6, d7, d8, d9, d10, d11, d12, d13, d14, d15⟩, dk⟩
      refine cellr (d14 j hj24) ?_
      rw [cg_ownKept, ca_ownKept]
      refine ⟨ij, ?_⟩
      intro v ev
      rw [cj, d8] at ev
      rw [cc_pw d1 hj24]
      refine cellr (τ' := cuO τ2 j v) (d14 j hj24) ?_
      rw [cg_formulasKept, ca_formulasKept]
      refine ⟨ij, ?_⟩
      intro r er
      have er : r = σ.2.2.2.2.2.2.1 26 j := by rw [er, cj]; show τ2.2.2.2.2.2.2.1 26 j = _; rw [d9 26 (by decide)]
      rw [cc_pf d1 hj24]
      rintro _ rfl
      refine ⟨24 - (j + 1), by omega, j + 1, P2, hp2, _, rfl, by omega, nI_1 j, rfl, hn2, hkc2, hks2, d1, d2, d3, d4, d5, d6, d7, d8, d9, d10, d11, d12, d13, d14, fun e he => ?_⟩
      show _ ∧ va_up τ2.2.2.2.1 j v e = _ ∧ va_up τ2.2.2.2.2.2.2.2.2.2.2.1 j r e = _
      by_cases q : e = j
      · subst q; rw [va_s, va_s]; exact ⟨dk, ev, er⟩
      · rw [va_o q, va_o q]; exact d15 e (by omega)
    · exact ⟨P1, hp1, τ, rfl, rfl, hn1, by omega, by omega, ⟨b1, b2, b3, b4, b5, b6, b7, b8, b9, b10, b11, b12, b13, b14, b15⟩, z⟩
    · rw [cg_cells, cg_kindsKept, ca_kindsKept]
      refine ⟨ij, ?_⟩
      intro x127 e127
      rw [cj, b7, kk j hj24] at e127
      obtain ⟨f, hf, ef⟩ := hx.1 j hj24
      rw [ef] at e127
      subst e127
      refine ⟨1, 3, by omega, by omega, ?_⟩
      refine c_made b1 hf (by omega) (by omega) (by omega) (fun u1 u2 u3 => ?_)
      obtain ⟨hp2, e2⟩ : ∃ hp2, hp2 = va_up hp1 n (some (.inr (cCl f, [.int (nI j), va_rf none, .double cNaN]))) := ⟨_, rfl⟩
      rw [← e2]
      have w2 : cW g x0 P1 hp2 := by rw [e2]; exact cW_hq u1 b1
      have n2 : hp2 n = some (.inr (cCl f, [.int (nI j), va_rf none, .double cNaN])) := by rw [e2, va_s]
      rw [ca_cells]
      refine ⟨ij, by omega, ?_, ?_⟩
      · intro a ea
        cases ea
        exact ⟨_, _, cput_h w2 n2, cCl_in⟩
      rintro _ rfl
      rw [cj, cu_cells]
      have hW3 := cSwW (σ := cuR τ 0 (va_up (τ.2.2.2.2.2.2.1 0) j (some n))) w2 hj24 u1 u3 (cCl_in (k := f))
      rw [cSwE (σ := cuR τ 0 (va_up (τ.2.2.2.2.2.2.1 0) j (some n))) w2 hj24 u1 n2 u3 cCl_in]
      have un : hp n = none := by
        cases hq : hp n with
        | none => rfl
        | some e => rw [b2 _ _ hq] at u2; cases u2
      have up : hp (P1.1 j) = none := by
        cases hq : hp (P1.1 j) with
        | none => rfl
        | some e => have := (b1.2.2.1 j hj24).2.1; rw [b2 _ _ hq] at this; cases this
      refine ⟨_, _, _, rfl, rfl, by omega, by omega, by omega, ⟨hW3, cSwL (by rw [e2]; exact b2.up2 un) un up, b3, b4, b5, b6, b7, b8, fun k hk => ?_, b10, b11, b12, b13, fun e he => ?_, fun e he => ?_⟩, ?_⟩
      · show va_up τ.2.2.2.2.2.2.1 0 (va_up (τ.2.2.2.2.2.2.1 0) j (some n)) k = _
        rw [va_o hk]; exact b9 k hk
      · show va_up τ.2.2.2.2.2.2.1 0 (va_up (τ.2.2.2.2.2.2.1 0) j (some n)) 0 e = some (va_up P1.1 j n e)
        rw [va_s]
        by_cases q : e = j
        · subst q; rw [va_s, va_s]
        · rw [va_o q, va_o q]; exact b14 e he
      · have q : e ≠ j := by omega
        show cKi (va_up P1.2.1 j (cCl f) e) = _ ∧ va_up τ.2.2.2.1 j cNaN e = _ ∧ va_up τ.2.2.2.2.2.2.2.2.2.2.1 j none e = _
        rw [va_o q, va_o q, va_o q]; exact b15 e he
      · show cKi (va_up P1.2.1 j (cCl f) j) = _
        rw [va_s, cCl_ki hf, ef]
end BA
