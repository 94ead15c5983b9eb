set_option maxRecDepth 100000
/-! what the cases are held against -/
section TE
variable {l : Launch} {g : zG} {d x0 : Nat} {P P' : cP} {σ σ' : cS} {hp hp' : zHp} {nx M M' : Nat} {A : sV} {S : sSt} {fm : sF} {ly : sY} {kd : Nat → Int32} {rk : Nat → Nat} {mc ms kc ks : Nat}
theorem s_eq_cm {a b : UInt64} (ha : s_F a) (hb : s_F b) : s_eq a b ↔ s_eq b a := by rw [fo_eq ha hb, fo_eq hb ha]; exact eq_comm
theorem cNaN_eq {x : UInt64} : ¬ s_eq cNaN x := by
  intro h
  have h : FP.Core.order (fv cNaN) (fv x) = some .eq := h
  have e : fv cNaN = .nan := by unfold fv; decide +kernel
  rw [e] at h
  cases hx : fv x <;> rw [hx] at h <;> cases h
/-- items of a row of doubles -/
def cItm (n : Nat) (f : Nat → UInt64) (it : Nat → Option UInt64) : Prop := ∀ k, k < n → (it k = none ∧ f k = cNaN) ∨ (it k = some (f k) ∧ s_B (f k))
theorem c_first {a t r b : Nat} {L : sL} {f : Nat → UInt64} {it : Nat → Option UInt64} (hW : cW g x0 P hp) (hS : cSH g x0 P hp σ.2.2.2.2 S.1 S.2.1 S.2.2.1) (hST : sST S.1 S.2.1 rk) (hTm : ¬ s_tm S.1 S.2.1) (ht : t < 6) (ha : σ.2.2.2.2.2.2.1 1 t = some a) (hl : S.2.1 t = some L) (hOW : cOW S.1 S.2.2.1 σ.2.2.2.1 S.2.2.2) (hSt : cSt σ M) (hM : M + 192001 ≤ 2147483647) (hr : r < 4) (hP : P.2.2 r = some (b, 1, s_nc L)) (hC : σ.2.2.2.2.2.2.2.2.2.2.2 r = .inr (.inr (.inr (.inl f)))) (hit : cItm (s_nc L) f it) (hd : 1360 ≤ d) {K : Int32 → zHp → Nat → Prop}
    (hK : ∀ σ', σ'.2.2.2 = σ.2.2.2 → σ'.2.1 = σ.2.1 → (∀ k, k ≠ 10 → σ'.1 k = σ.1 k) → cSt σ' (M + 192001) → K (s_io (s_oth S L it)) (cput g x0 P σ' hp) nx) : zMt l g yX0_first cX0_first 6 (some .int) d 0 0 [.ref x0, va_rf (some a), va_rf (some b)] (cput g x0 P σ hp) nx (zQi g K) := by
  obtain ⟨d, rfl⟩ := Nat.exists_eq_add_of_le' (show 1 ≤ d by omega)
  obtain ⟨a', ha', hTb, hTk⟩ := hS.s0.tb ht hl
  rw [ha] at ha'
  cases ha'
  have hnc := hTk.nc
  apply met_X0_first
  unfold wp_X0_first
  rw [cz_o]
  refine c_casA hW hS hST hTm ht ha hl hOW hSt hM (by omega) (fun σ1 a1 a2 a3 a4 a5 a6 => ?_)
  have hTb' := hTb
  obtain ⟨_, _, p1, -⟩ := hTb'
  rw [cg_sights, ch_I hW p1 (x := nI t) rfl (by decide), ca_sights]
  refine ⟨vp_in_nI ht (by decide), ?_⟩
  intro r14 e14
  rw [nI_clamp (by omega)] at e14
  subst e14
  have hfin := hK σ1 a1 a2 a3 a5
  have hC1 : σ1.2.2.2.2.2.2.2.2.2.2.2 r = .inr (.inr (.inr (.inl f))) := by rw [a1]; exact hC
  have hb : cput g x0 P σ1 hp b = some (.inl (g.2.1 1, s_nc L, .inr (.inr (.inr (.inl f))))) := by rw [cput_r hW hr hP, hC1]
  have ht7 : t < 7 := by omega
  have wt : cWd t = 64 := by unfold cWd; rw [if_pos ht]
  let q : Nat → Prop := fun k => ¬ s_so (s_cv S L (k / s_my L) (k % s_my L)) (it k)
  refine ⟨fun n r k h n' => ∃ j, n = 64 - j ∧ j ≤ s_nc L ∧ r = some (x0 + cSA t) ∧ k = nI j ∧ h = cput g x0 P σ1 hp ∧ nx = n' ∧ s_fo q j = none, ⟨64, 0, rfl, Nat.zero_le _, rfl, rfl, rfl, rfl, rfl⟩, ?_⟩
  rintro n r k h n' ⟨j, rfl, hj, rfl, rfl, rfl, rfl, hq⟩
  rw [c_ln hb]
  show (nI (s_nc L) ≤ nI j → _) ∧ (¬ nI (s_nc L) ≤ nI j → _)
  refine ⟨fun w => ?_, fun w => ?_⟩
  · have hjN : j = s_nc L := by
      have := (nI_leI (by omega) (by omega)).mp w
      omega
    rw [hjN] at hq
    have : s_oth S L it = none := hq
    rw [this] at hfin
    exact hfin
  · have hjN : j < s_nc L := by
      rcases Nat.lt_or_ge j (s_nc L) with y | y
      · exact y
      · exact absurd ((nI_leI (by omega) (by omega)).mpr y) w
    have cj : (nI j).toNatClampNeg = j := nI_clamp (by omega)
    have ij : vp_in (nI j) (cWd t) := by rw [wt]; exact vp_in_nI (by omega) (by decide)
    have ij2 : vp_in (nI j) (s_nc L) := vp_in_nI hjN (by omega)
    obtain ⟨r1', r2', r3', r4'⟩ := a6 j hjN
    rw [cs_errors ht7, csa_errors ht7]
    refine ⟨ij, ?_⟩
    intro x30 e30
    rw [cj, r1'] at e30
    subst e30
    refine ⟨fun r k z h n' => r = some (x0 + cSA t) ∧ k = nI j ∧ h = cput g x0 P σ1 hp ∧ nx = n' ∧ ((z = 0 ∧ q j) ∨ (z ≠ 0 ∧ ¬ q j)), ?_, fun y => ?_, fun y => ?_⟩
    · rintro r k z h n' ⟨rfl, rfl, rfl, rfl, hz⟩
      refine ⟨fun y => ?_, fun y => ?_⟩
      · have hqj : q j := by
          rcases hz with ⟨-, e⟩ | ⟨e, -⟩
          · exact e
          · exact absurd y e
        have : s_oth S L it = some j := s_fo_k (s_fo_p hq hqj) _ hjN
        rw [this] at hfin
        exact hfin
      · have hqj : ¬ q j := by
          rcases hz with ⟨e, -⟩ | ⟨-, e⟩
          · exact absurd e y
          · exact e
        rintro _ rfl
        exact ⟨64 - (j + 1), by omega, j + 1, rfl, by omega, rfl, nI_1 j, rfl, rfl, s_fo_n hq hqj⟩
    · rw [c_aD hb]
      refine ⟨ij2, ?_⟩
      intro x41 e41
      rw [cj] at e41
      rw [cs_results ht7, csa_results ht7]
      refine ⟨ij, ?_⟩
      intro x49 e49
      rw [cj] at e49
      have e49 := e49.trans (r3' y)
      have hB : s_B x49 := by rw [e49]; have := r2'; rw [r3' y] at this; exact this
      have hso : s_so (s_cv S L (j / s_my L) (j % s_my L)) (it j) ↔ s_eq x41 x49 := by
        unfold s_so
        rw [if_neg (fun z => z y)]
        have ec : (s_cv S L (j / s_my L) (j % s_my L)).1 = x49 := e49.symm
        rw [ec, e41]
        rcases hit j hjN with ⟨e1, e2⟩ | ⟨e1, e2⟩
        · rw [e1, e2]
          refine ⟨fun ⟨w, z, _⟩ => (by cases z), fun z => ?_⟩
          exact absurd z cNaN_eq
        · rw [e1]
          exact ⟨fun ⟨w, z, z2⟩ => by cases z; exact (s_eq_cm hB.f e2.f).mp z2, fun z => ⟨_, rfl, (s_eq_cm e2.f hB.f).mp z⟩⟩
      refine ⟨fun z => ⟨rfl, rfl, rfl, rfl, Or.inr ⟨by decide, fun w => w (hso.mpr (fc_l0.mp z))⟩⟩, fun z => ⟨rfl, rfl, rfl, rfl, Or.inl ⟨rfl, fun w => z (fc_l0.mpr (hso.mp w))⟩⟩⟩
    · rw [c_aD hb]
      refine ⟨ij2, ?_⟩
      intro x53 e53
      rw [cj] at e53
      rw [c_aD hb]
      refine ⟨ij2, ?_⟩
      intro x57 e57
      rw [cj] at e57
      have hso : s_so (s_cv S L (j / s_my L) (j % s_my L)) (it j) ↔ ¬ s_eq x53 x57 := by
        unfold s_so
        rw [if_pos (show (s_cv S L (j / s_my L) (j % s_my L)).2.1 ≠ 0 from y), e53, e57]
        rcases hit j hjN with ⟨e1, e2⟩ | ⟨e1, e2⟩
        · rw [e1, e2]; exact ⟨fun _ => cNaN_ne, fun _ => rfl⟩
        · rw [e1]; exact ⟨fun z => (by cases z), fun z => absurd (s_eq_B e2) z⟩
      refine ⟨fun z => ⟨rfl, rfl, rfl, rfl, Or.inl ⟨rfl, fun w => (hso.mp w) (fc_l0.mp z)⟩⟩, fun z => ⟨rfl, rfl, rfl, rfl, Or.inr ⟨by decide, fun w => w (hso.mpr (fun w2 => z (fc_l0.mpr w2)))⟩⟩⟩
/-- the sheet with another kind of a cell, what it's given untouched -/
theorem cOW.kind2 {own : Nat → UInt64} {ow : sO} (h : cOW fm kd own ow) (hk : ∀ c, c < 24 → ∀ v, ow c = some v → s_kp (kd c) v = v) {c : Nat} {k : Int32} : cOW fm (s_up kd c k) (va_up own c (cLk1 k (own c))) ow := by
  refine ⟨h.1, fun e he hf => ?_⟩
  by_cases q : e = c
  · subst q
    rw [s_up_s, va_s]
    rcases h.2 e he hf with ⟨e1, e2⟩ | ⟨v, e1, e2, hB⟩
    · left
      rw [e2]
      unfold cLk1
      rw [s_if_n cNaN_ne]
      exact ⟨e1, rfl⟩
    · right
      rw [e2, hk e he v e1]
      unfold cLk1
      rw [s_if_p (s_eq_B hB)]
      exact ⟨v, e1, rfl, hB⟩
  · rw [s_up_o q, va_o q]; exact h.2 e he hf
theorem s_io_f {S : sSt} {L : sL} {it : Nat → Option UInt64} (h : s_nc L ≤ 64) : s_io (s_oth S L it) = -1 ↔ s_oth S L it = none := by
  refine s_io_1 (fun k hk => ?_)
  have : ∀ {p : Nat → Prop} {n k : Nat}, s_fo p n = some k → k < n := by
    intro p n
    induction n with
    | zero => intro k h; cases h
    | succ n ih =>
      intro k h
      simp only [s_fo] at h
      cases hq : s_fo p n with
      | some k' => rw [hq] at h; cases h; have := ih hq; omega
      | none =>
        rw [hq] at h
        simp only [] at h
        by_cases y : p n
        · rw [s_if_p y] at h; cases h; omega
        · rw [s_if_n y] at h; cases h
  have := this hk
  omega
/-- state of kindsOf's loop -/
def cKj (g : zG) (x0 : Nat) (P : cP) (hp : zHp) (σ : cS) (b k M : Nat) (P1 : cP) (hp1 : zHp) (τ : cS) : Prop := cW g x0 P1 hp1 ∧ hLe hp hp1 ∧ P1.2.2 = P.2.2 ∧ (∀ e, e ≠ b → P1.1 e = P.1 e ∧ P1.2.1 e = P.2.1 e) ∧ (∀ q, q ≠ 10 → τ.1 q = σ.1 q) ∧ τ.2.1 = σ.2.1 ∧ cSt τ (M + 192001 * k) ∧ τ.2.2.2.2.1 = σ.2.2.2.2.1 ∧ τ.2.2.2.2.2.1 = σ.2.2.2.2.2.1 ∧ (∀ q, q ≠ 0 → τ.2.2.2.2.2.2.1 q = σ.2.2.2.2.2.2.1 q) ∧ (∀ e, e ≠ b → τ.2.2.2.2.2.2.1 0 e = σ.2.2.2.2.2.2.1 0 e) ∧ τ.2.2.2.2.2.2.1 0 b = some (P1.1 b) ∧ τ.2.2.2.2.2.2.2 = σ.2.2.2.2.2.2.2 ∧ (∀ e, e ≠ b → τ.2.2.2.1 e = σ.2.2.2.1 e) ∧ ((k = 0 ∧ P1 = P ∧ τ.2.2.2.1 b = σ.2.2.2.1 b) ∨ (k ≠ 0 ∧ P1.1 b ≠ P.1 b ∧ hp1 (P.1 b) = some (cpl P σ b)))
theorem c_kindsOf {a t r b0 b : Nat} {L : sL} {f : Nat → UInt64} {it : Nat → Option UInt64} (hV : sOK A.1) (hI : cINV g x0 P hp σ A M) (hM : M + 10000000 ≤ 2147483647) (ht : t < 6) (hb24 : b < 24) (ha : σ.2.2.2.2.2.2.1 1 t = some a) (hl : A.1.2.1 t = some L) (hTk : cTk L) (hr : r < 4) (hP : P.2.2 r = some (b0, 1, s_nc L)) (hC : σ.2.2.2.2.2.2.2.2.2.2.2 r = .inr (.inr (.inr (.inl f)))) (hit : cItm (s_nc L) f it) (hd : 1370 ≤ d) (hmc : 6 ≤ mc) (hms : 18 ≤ ms) {K : Int32 → zHp → Nat → Prop}
    (hK : ∀ σ' hp' nx', cINV g x0 P hp' σ' A (M + 10000000) → hLe hp hp' → nx ≤ nx' → K (s_kb A.1 L it b) (cput g x0 P σ' hp') nx') : zMtW l g yX0_kindsOf cX0_kindsOf 8 (some .int) [(11, 63, 74, 0), (74, 76, 74, 0)] d mc ms [.ref x0, va_rf (some a), va_rf (some b0), .int (nI b)] (cput g x0 P σ hp) nx (zQi g K) := by
  obtain ⟨d, rfl⟩ := Nat.exists_eq_add_of_le' (show 1 ≤ d by omega)
  obtain ⟨rk, hST⟩ := hV.st
  have hI' := hI
  obtain ⟨i1, i2, i3, i4, i5, i6, i7, i8, i9, i10⟩ := hI
  have hB0 := i1.1
  have hnc := hTk.nc
  have hx := hV.2.2.2.2.2.2
  have cb : (nI b).toNatClampNeg = b := nI_clamp (by omega)
  have ib : vp_in (nI b) 24 := vp_in_nI hb24 (by decide)
  have e6 : (6 : Int32) = nI 6 := rfl
  let p : Nat → Prop := fun k => s_oth (A.1.1, A.1.2.1, s_up A.1.2.2.1 b (nI k), A.1.2.2.2) L it = none
  apply met_X0_kindsOf
  unfold wp_X0_kindsOf
  rw [e6]
  refine cRC (S := A.1) i6.1 hb24 ?_
  refine ⟨fun n r9 s k h n' kc ks => ∃ j P1 hp1 τ, n = 6 - j ∧ j ≤ 6 ∧ r9 = some (P.1 b) ∧ s = s_ms p j ∧ k = nI j ∧ h = cput g x0 P1 τ hp1 ∧ nx ≤ n' ∧ kc ≤ j ∧ ks ≤ 3 * j ∧ cKj g x0 P hp σ b j M P1 hp1 τ, ⟨6, 0, P, hp, σ, rfl, Nat.zero_le _, rfl, rfl, rfl, rfl, Nat.le_refl _, Nat.le_refl _, Nat.le_refl _, i1, hLe.rf, rfl, fun _ _ => ⟨rfl, rfl⟩, fun _ _ => rfl, rfl, i10, rfl, rfl, fun _ _ => rfl, fun _ _ => rfl, i6.1.1 b hb24, rfl, fun _ _ => rfl, Or.inl ⟨rfl, rfl, rfl⟩⟩, ?_⟩
  rintro n r9 s k h n' kc ks ⟨j, P1, hp1, τ, rfl, hj, rfl, rfl, rfl, rfl, hn1, hkc, hks, b1, b2, b3, b4, b5, b6, b7, b8, b9, b10, b11, b12, b13, b14, b15⟩
  have hF : τ.2.2.2.2.2.2.2.2.2.2.1 = σ.2.2.2.2.2.2.2.2.2.2.1 := by rw [b13]
  /- the old one, wherever it stands -/
  have hold : cput g x0 P1 τ hp1 (P.1 b) = some (cpl P σ b) := by
    rcases b15 with ⟨-, rfl, e⟩ | ⟨-, -, e⟩
    · rw [cput_c b1 hb24]
      unfold cpl
      rw [hF, e]
    · exact cput_h b1 e
  have cib := (i1.2.2.1 b hb24).2.2.2
  have zib := (i1.2.2.1 b hb24).2.2.1
  have novP : P1.1 b ≠ P.1 b → ¬ cOv x0 P1 (P.1 b) := by
    rintro hne (z | ⟨e, he, z⟩ | ⟨r', t', n2, hr', z⟩)
    · exact (i1.2.2.1 b hb24).1 z
    · by_cases q : e = b
      · exact hne (by rw [← q]; rw [← q] at z; exact z)
      · rw [(b4 e q).1] at z
        exact q (i1.2.2.2.1 e b he hb24 z)
    · rw [b3] at z
      exact (i1.2.2.2.2.1 r' _ t' n2 hr' z).2.2.2 b hb24 rfl
  refine ⟨fun y => ?_, fun y => ?_⟩
  · have : j = 6 := by have := (nI_leI (by omega) (by omega)).mp y; omega
    subst this
    rcases b15 with ⟨e, -⟩ | ⟨-, hne, hat⟩
    · exact absurd e (by decide)
    rw [cg_cells, ca_cells]
    refine ⟨ib, by omega, ?_, ?_⟩
    · intro a' ea
      cases ea
      exact ⟨_, _, hold, cib⟩
    rintro _ rfl
    rw [cb, cu_cells]
    refine ⟨by omega, by omega, ?_⟩
    rw [cSwE (σ := cuR τ 0 (va_up (τ.2.2.2.2.2.2.1 0) b (some (P.1 b)))) b1 hb24 (novP hne) hat zib cib]
    have hW3 := cSwW (σ := cuR τ 0 (va_up (τ.2.2.2.2.2.2.1 0) b (some (P.1 b)))) b1 hb24 (novP hne) zib cib
    have hpn : hp (P.1 b) = none := (i1.2.2.1 b hb24).2.1
    have up : hp (P1.1 b) = none := by
      cases hq : hp (P1.1 b) with
      | none => rfl
      | some e => have := (b1.2.2.1 b hb24).2.1; rw [b2 _ _ hq] at this; cases this
    have hl3 := cSwL (P := P1) (σ := cuR τ 0 (va_up (τ.2.2.2.2.2.2.1 0) b (some (P.1 b)))) (c := b) (a := P.1 b) b2 hpn up
    have eP : cPc P1 b (P.1 b) (P.2.1 b) = P := by
      unfold cPc
      refine Prod.ext (funext fun e => ?_) (Prod.ext (funext fun e => ?_) b3)
      · show va_up P1.1 b (P.1 b) e = P.1 e
        by_cases q : e = b
        · subst q; exact va_s
        · rw [va_o q]; exact (b4 e q).1
      · show va_up P1.2.1 b (P.2.1 b) e = P.2.1 e
        by_cases q : e = b
        · subst q; exact va_s
        · rw [va_o q]; exact (b4 e q).2
    rw [eP] at hW3 ⊢
    refine hK _ _ _ ((hI'.mo hl3 hW3).tl ?_ (by show τ.2.1 = none; rw [b6]; exact i3) (fun q _ _ q3 => b5 q q3) (show cSt τ _ from b7.le (by omega))) hl3 hn1
    refine Prod.ext (funext fun e => ?_) (Prod.ext b8 (Prod.ext b9 (Prod.ext (funext fun q => ?_) ?_)))
    · show va_up τ.2.2.2.1 b (σ.2.2.2.1 b) e = _
      by_cases q : e = b
      · subst q; exact va_s
      · rw [va_o q]; exact b14 e q
    · show va_up τ.2.2.2.2.2.2.1 0 _ q = _
      by_cases q0 : q = 0
      · subst q0
        rw [va_s]
        funext e
        by_cases q : e = b
        · subst q; rw [va_s, i6.1.1 e hb24]
        · rw [va_o q]; exact b11 e q
      · rw [va_o q0]; exact b10 q q0
    · show (τ.2.2.2.2.2.2.2.1, τ.2.2.2.2.2.2.2.2.1, τ.2.2.2.2.2.2.2.2.2.1, va_up τ.2.2.2.2.2.2.2.2.2.2.1 b (σ.2.2.2.2.2.2.2.2.2.2.1 b), τ.2.2.2.2.2.2.2.2.2.2.2) = _
      rw [b13, cva_id]
  · have hj6 : j < 6 := by
      rcases Nat.lt_or_ge j 6 with w | w
      · exact w
      · exact absurd ((nI_leI (by omega) (by omega)).mpr w) y
    rw [cg_cells]
    refine ⟨1, 3, by omega, by omega, ?_⟩
    refine c_made b1 (by omega) (by omega) (by omega) (by omega) (fun u1 u2 u3 => ?_)
    obtain ⟨hp2, e2⟩ : ∃ hp2, hp2 = va_up hp1 n' (some (.inr (cCl j, [.int (nI b), va_rf none, .double cNaN]))) := ⟨_, rfl⟩
    rw [← e2]
    have w2 : cW g x0 P1 hp2 := by rw [e2]; exact cW_hq u1 b1
    have n2 : hp2 n' = some (.inr (cCl j, [.int (nI b), va_rf none, .double cNaN])) := by rw [e2, va_s]
    have hne : n' ≠ P.1 b := fun z => by
      rcases b15 with ⟨-, rfl, -⟩ | ⟨-, -, e⟩
      · exact u1 (Or.inr (Or.inl ⟨b, hb24, z.symm⟩))
      · rw [z, e] at u2; cases u2
    have hold2 : cput g x0 P1 τ hp2 (P.1 b) = some (cpl P σ b) := by
      rw [e2, ← cput_hq u1, va_o (fun z => hne z.symm)]; exact hold
    refine ⟨by omega, by omega, ?_⟩
    rw [ch_o w2 n2 cCl_in]
    obtain ⟨v, ev⟩ : ∃ v, v = cLk1 (nI j) (σ.2.2.2.1 b) := ⟨_, rfl⟩
    obtain ⟨hp3, e3⟩ : ∃ hp3, hp3 = va_up hp1 n' (some (.inr (cCl j, [.int (nI b), va_rf (σ.2.2.2.2.2.2.2.2.2.2.1 b), .double v]))) := ⟨_, rfl⟩
    have w3 : cW g x0 P1 hp3 := by rw [e3]; exact cW_hq u1 b1
    have n3 : hp3 n' = some (.inr (cCl j, [.int (nI b), va_rf (σ.2.2.2.2.2.2.2.2.2.2.1 b), .double v])) := by rw [e3, va_s]
    refine ⟨fun r h n => r = some n' ∧ h = cput g x0 P1 τ hp3 ∧ n = n' + 1, ?_, x_like (cput_h w2 n2) hold2 hne cCl_in cib u3 (i6.2.2.1.own i6.2.2.2 hb24) (by omega) ⟨rfl, ?_, rfl⟩⟩
    rotate_left
    · rw [e2, c_put2 u1, e3, ev, cCl_ki (by omega)]
    rintro r h n ⟨rfl, rfl, rfl⟩
    rw [ca_cells]
    refine ⟨ib, by omega, ?_, ?_⟩
    · intro a' ea
      cases ea
      exact ⟨_, _, cput_h w3 n3, cCl_in⟩
    rintro _ rfl
    rw [cb, cu_cells]
    refine ⟨by omega, by omega, ?_⟩
    rw [cz_o]
    have hW4 := cSwW (σ := cuR τ 0 (va_up (τ.2.2.2.2.2.2.1 0) b (some n'))) w3 hb24 u1 u3 (cCl_in (k := j))
    rw [cSwE (σ := cuR τ 0 (va_up (τ.2.2.2.2.2.2.1 0) b (some n'))) w3 hb24 u1 n3 u3 cCl_in]
    have un : hp n' = none := by
      cases hq : hp n' with
      | none => rfl
      | some e => rw [b2 _ _ hq] at u2; cases u2
    have up : hp (P1.1 b) = none := by
      cases hq : hp (P1.1 b) with
      | none => rfl
      | some e => have := (b1.2.2.1 b hb24).2.1; rw [b2 _ _ hq] at this; cases this
    have hl4 : hLe hp (cHc P1 (cuR τ 0 (va_up (τ.2.2.2.2.2.2.1 0) b (some n'))) hp3 b n') := cSwL (by rw [e3]; exact b2.up2 un) un up
    obtain ⟨P2, eP2⟩ : ∃ P2, P2 = cPc P1 b n' (cCl j) := ⟨_, rfl⟩
    obtain ⟨τ2, eτ2⟩ : ∃ τ2, τ2 = cSc (cuR τ 0 (va_up (τ.2.2.2.2.2.2.1 0) b (some n'))) b (σ.2.2.2.2.2.2.2.2.2.2.1 b) v := ⟨_, rfl⟩
    obtain ⟨hp4, ep4⟩ : ∃ hp4, hp4 = cHc P1 (cuR τ 0 (va_up (τ.2.2.2.2.2.2.1 0) b (some n'))) hp3 b n' := ⟨_, rfl⟩
    rw [← eP2, ← ep4] at hW4
    rw [← eP2, ← eτ2, ← ep4]
    rw [← ep4] at hl4
    /- facts of the new world -/
    have f1 : τ2.1 = τ.1 := by rw [eτ2]; rfl
    have f2 : τ2.2.1 = τ.2.1 := by rw [eτ2]; rfl
    have f3 : τ2.2.2.1 = τ.2.2.1 := by rw [eτ2]; rfl
    have f4 : τ2.2.2.2.1 = va_up τ.2.2.2.1 b v := by rw [eτ2]; rfl
    have f5 : τ2.2.2.2.2.1 = σ.2.2.2.2.1 := by rw [eτ2]; exact b8
    have f6 : τ2.2.2.2.2.2.1 = σ.2.2.2.2.2.1 := by rw [eτ2]; exact b9
    have f7 : ∀ q, q ≠ 0 → τ2.2.2.2.2.2.2.1 q = σ.2.2.2.2.2.2.1 q := fun q hq => by
      rw [eτ2]
      show va_up τ.2.2.2.2.2.2.1 0 _ q = _
      rw [va_o hq]; exact b10 q hq
    have f8 : ∀ e, τ2.2.2.2.2.2.2.1 0 e = va_up (τ.2.2.2.2.2.2.1 0) b (some n') e := fun e => by
      rw [eτ2]
      show va_up τ.2.2.2.2.2.2.1 0 (va_up (τ.2.2.2.2.2.2.1 0) b (some n')) 0 e = _
      rw [va_s]
    have f9 : τ2.2.2.2.2.2.2.2 = σ.2.2.2.2.2.2.2 := by
      rw [eτ2]
      show (τ.2.2.2.2.2.2.2.1, τ.2.2.2.2.2.2.2.2.1, τ.2.2.2.2.2.2.2.2.2.1, va_up τ.2.2.2.2.2.2.2.2.2.2.1 b (σ.2.2.2.2.2.2.2.2.2.2.1 b), τ.2.2.2.2.2.2.2.2.2.2.2) = _
      rw [b13, cva_id]
    have g1 : ∀ e, P2.1 e = va_up P1.1 b n' e := fun e => by rw [eP2]; rfl
    have g2 : ∀ e, P2.2.1 e = va_up P1.2.1 b (cCl j) e := fun e => by rw [eP2]; rfl
    have hp2r : P2.2.2 = P.2.2 := by rw [eP2]; exact b3
    have j0 : cS0 g x0 P2 hp4 τ2.2.2.2.2 A.1.1 A.1.2.1 (s_up A.1.2.2.1 b (nI j)) := by
      have i61 := i6.1.mo hl4
      refine ⟨fun e he => ?_, fun e he => ?_, fun e he => ?_, fun t' ht' => ?_⟩
      · rw [f8 e, g1 e]
        by_cases q : e = b
        · subst q; rw [va_s, va_s]
        · rw [va_o q, va_o q, b11 e q, (b4 e q).1]; exact i61.1 e he
      · rw [g2 e]
        by_cases q : e = b
        · subst q; rw [s_up_s, va_s, cCl_ki (by omega)]
        · rw [s_up_o q, va_o q, (b4 e q).2]; exact i61.2.1 e he
      · rw [f9]; exact i61.2.2.1 e he
      · rw [f7 1 (by decide)]; exact i61.2.2.2 t' ht'
    have jS : cSH g x0 P2 hp4 τ2.2.2.2.2 A.1.1 A.1.2.1 (s_up A.1.2.2.1 b (nI j)) := ⟨j0.1, j0.2.1, j0.2.2.1, j0.2.2.2, fun c hc => by rw [f9]; exact ((i6.2.1 c (by omega)).1 hc).1.2⟩
    have jO : cOW A.1.1 (s_up A.1.2.2.1 b (nI j)) τ2.2.2.2.1 A.1.2.2.2 := by
      have := i6.2.2.1.kind2 hx.2.2.1 (c := b) (k := nI j)
      rw [← ev] at this
      have eo : τ2.2.2.2.1 = va_up σ.2.2.2.1 b v := by
        rw [f4]
        funext e
        by_cases q : e = b
        · subst q; rw [va_s, va_s]
        · rw [va_o q, va_o q]; exact b14 e q
      rw [eo]; exact this
    have jt : cSt τ2 (M + 192001 * j) := by unfold cSt at b7 ⊢; rw [f3]; exact b7
    refine c_first (rk := rk) (S := (A.1.1, A.1.2.1, s_up A.1.2.2.1 b (nI j), A.1.2.2.2)) (M := M + 192001 * j) hW4 jS hST hV.tm ht (by rw [f7 1 (by decide)]; exact ha) hl jO jt (by omega) hr (by rw [hp2r]; exact hP) (by rw [f9]; exact hC) hit (by omega) (fun τ3 z1 z2 z3 z4 => ?_)
    have J : cKj g x0 P hp σ b (j + 1) M P2 hp4 τ3 := by
      refine ⟨hW4, hl4, hp2r, fun e he => ?_, fun q hq => by rw [z3 q hq, f1]; exact b5 q hq, by rw [z2, f2]; exact b6, z4.le (by omega), by rw [z1]; exact f5, by rw [z1]; exact f6, fun q hq => by rw [z1]; exact f7 q hq, fun e he => ?_, ?_, by rw [z1]; exact f9, fun e he => ?_, Or.inr ⟨by omega, ?_, ?_⟩⟩
      · rw [g1 e, g2 e, va_o he, va_o he]; exact b4 e he
      · rw [z1, f8 e, va_o he]; exact b11 e he
      · rw [z1, f8 b, va_s, g1 b, va_s]
      · rw [z1, f4, va_o he]; exact b14 e he
      · rw [g1 b, va_s]; exact hne
      · rw [ep4]
        unfold cHc
        by_cases q : P.1 b = P1.1 b
        · rw [q, va_s]
          rcases b15 with ⟨-, rfl, e⟩ | ⟨-, e, -⟩
          · unfold cpl
            show some (Sum.inr (P1.2.1 b, [.int (nI b), va_rf (τ.2.2.2.2.2.2.2.2.2.2.1 b), .double (τ.2.2.2.1 b)])) = _
            rw [hF, e]
          · exact absurd q.symm e
        · rw [va_o q, va_o (fun z => hne z.symm), e3, va_o (fun z => hne z.symm)]
          rcases b15 with ⟨-, rfl, -⟩ | ⟨-, -, e⟩
          · exact absurd rfl q
          · exact e
    have hms1 : s_ms p (j + 1) = s_ms p j ||| s_if (p j) ((1 : Int32) <<< (nI j &&& 31)) 0 := rfl
    have hio := s_io_f (S := (A.1.1, A.1.2.1, s_up A.1.2.2.1 b (nI j), A.1.2.2.2)) (L := L) (it := it) hnc.2
    refine ⟨fun r s k h n kc ks => r = some (P.1 b) ∧ s = s_ms p (j + 1) ∧ k = nI j ∧ h = cput g x0 P2 τ3 hp4 ∧ n = n' + 1 ∧ kc ≤ j + 1 ∧ ks ≤ 3 * (j + 1), ?_, fun z => ?_, fun z => ?_⟩
    · rintro r s k h n kc ks ⟨rfl, rfl, rfl, rfl, rfl, q1, q2⟩
      rintro _ rfl
      exact ⟨6 - (j + 1), by omega, j + 1, P2, hp4, τ3, rfl, by omega, rfl, rfl, nI_1 j, rfl, by omega, q1, q2, J⟩
    · rintro _ rfl
      exact ⟨rfl, by rw [hms1, s_if_p (show p j from hio.mp z)], rfl, rfl, rfl, by omega, by omega⟩
    · exact ⟨rfl, by rw [hms1, s_if_n (show ¬ p j from fun w => z (hio.mpr w)), Int32.or_zero], rfl, rfl, rfl, by omega, by omega⟩
theorem s_cn_len {p : Nat → Prop} {n m : Nat} (h : n ≤ m) : s_cn p n ≤ s_cn p m := by
  induction m with
  | zero => rw [show n = 0 by omega]; exact Nat.le_refl _
  | succ m ih =>
    by_cases e : n = m + 1
    · rw [e]; exact Nat.le_refl _
    · have := ih (by omega)
      by_cases q : p m
      · rw [s_cn_p q]; omega
      · rw [s_cn_n q]; exact this
theorem s_fo_of {p : Nat → Prop} {n i : Nat} (hi : p i) (hn : ∀ q, q < i → ¬ p q) (h : i < n) : s_fo p n = some i := by
  have h0 : ∀ j, j ≤ i → s_fo p j = none := by
    intro j
    induction j with
    | zero => intro _; rfl
    | succ j ih => intro hj; exact s_fo_n (ih (by omega)) (hn j (by omega))
  exact s_fo_k (s_fo_p (h0 i (Nat.le_refl _)) hi) n h
theorem s_fo_no {p : Nat → Prop} : ∀ {n : Nat}, (∀ q, q < n → ¬ p q) → s_fo p n = none := by
  intro n
  induction n with
  | zero => intro _; rfl
  | succ n ih => intro h; exact s_fo_n (ih (fun q hq => h q (by omega))) (h n (by omega))
theorem c21_lt : ∀ j, j < 42 → (nI j - 21 < -20 ↔ j = 0) := by decide +kernel
theorem c21_s : ∀ j, j < 41 → nI (j + 1) - 21 = nI j - 20 := by decide +kernel
theorem c21_m : ∀ j, j < 41 → (nI j - 20) + (-1 : Int32) = nI j - 21 := by decide +kernel
theorem c_numbersOf {a t r b0 b : Nat} {w : Int32} {L : sL} {f : Nat → UInt64} {it : Nat → Option UInt64} (hV : sOK A.1) (hI : cINV g x0 P hp σ A M) (hM : M + 10000000 ≤ 2147483647) (ht : t < 6) (hb24 : b < 24) (hfb : A.1.1 b = []) (ha : σ.2.2.2.2.2.2.1 1 t = some a) (hl : A.1.2.1 t = some L) (hTk : cTk L) (hr : r < 4) (hP : P.2.2 r = some (b0, 1, s_nc L)) (hC : σ.2.2.2.2.2.2.2.2.2.2.2 r = .inr (.inr (.inr (.inl f)))) (hit : cItm (s_nc L) f it) (hd : 1370 ≤ d) {K : Int32 → zHp → Nat → Prop}
    (hK : ∀ σ', cINV g x0 P hp σ' A (M + 10000000) → K (if w = 2 then nI (s_cn (s_np A.1 L it b) 41) else s_lv (s_fo (s_np A.1 L it b) 41)) (cput g x0 P σ' hp) nx) : zMtW l g yX0_numbersOf cX0_numbersOf 12 (some .int) [(21, 75, 85, 0), (85, 87, 85, 0)] d 0 0 [.ref x0, va_rf (some a), va_rf (some b0), .int (nI b), .int w] (cput g x0 P σ hp) nx (zQi g K) := by
  obtain ⟨d, rfl⟩ := Nat.exists_eq_add_of_le' (show 1 ≤ d by omega)
  obtain ⟨rk, hST⟩ := hV.st
  have hI' := hI
  obtain ⟨i1, i2, i3, i4, i5, i6, i7, i8, i9, i10⟩ := hI
  have hB0 := i1.1
  have hnc := hTk.nc
  let p : Nat → Prop := s_np A.1 L it b
  apply met_X0_numbersOf
  unfold wp_X0_numbersOf
  refine cRC (S := A.1) i6.1 hb24 ?_
  rw [cc_w i1 hb24]
  refine ⟨fun n r v c ls k h n' => ∃ j cc τ, n = j ∧ j ≤ 41 ∧ r = some (P.1 b) ∧ v = σ.2.2.2.1 b ∧ c = nI cc ∧ cc + s_cn p j = s_cn p 41 ∧ ((ls = -1 ∧ ∀ q, j ≤ q → q < 41 → ¬ p q) ∨ ∃ i, j ≤ i ∧ i < 41 ∧ p i ∧ (∀ q, j ≤ q → q < i → ¬ p q) ∧ ls = 1000 + (nI i - 20)) ∧ k = nI j - 21 ∧ h = cput g x0 P τ hp ∧ nx = n' ∧ (∀ q, q ≠ 10 → τ.1 q = σ.1 q) ∧ τ.2.1 = σ.2.1 ∧ cSt τ (M + 192001 * (41 - j)) ∧ (∀ e, e ≠ b → τ.2.2.2.1 e = σ.2.2.2.1 e) ∧ τ.2.2.2.2 = σ.2.2.2.2, ⟨41, 41, 0, σ, rfl, by omega, rfl, rfl, rfl, by omega, Or.inl ⟨rfl, fun q q1 q2 => absurd q2 (by omega)⟩, by decide, rfl, rfl, fun _ _ => rfl, rfl, (by simpa using i10), fun _ _ => rfl, rfl⟩, ?_⟩
  rintro n r v c ls k h n' ⟨j, cc, τ, rfl, hj, rfl, rfl, rfl, hcc, hls, rfl, rfl, rfl, a1, a2, a3, a4, a5⟩
  refine ⟨fun y => ?_, fun y => ?_⟩
  · have hj0 : n = 0 := (c21_lt n (by omega)).mp y
    subst hj0
    rw [cc_pw i1 hb24]
    have hfin := hK (cuO τ b (σ.2.2.2.1 b)) (hI'.tl (Prod.ext (funext fun e => ?_) a5) (a2.trans i3) (fun q _ _ q3 => a1 q q3) (show cSt τ _ from a3.le (by omega)))
    have hc0 : cc = s_cn p 41 := by
      have : s_cn p 0 = 0 := rfl
      omega
    · refine ⟨fun _ _ _ _ _ x h n' => x = (if w = 2 then nI (s_cn p 41) else s_lv (s_fo p 41)) ∧ h = cput g x0 P (cuO τ b (σ.2.2.2.1 b)) hp ∧ nx = n', ?_, fun z => ?_, fun z => ?_⟩
      · rintro _ _ _ _ _ x h n' ⟨rfl, rfl, rfl⟩
        exact hfin
      · exact ⟨by rw [if_pos z, hc0], rfl, rfl⟩
      · refine ⟨?_, rfl, rfl⟩
        rw [if_neg z]
        rcases hls with ⟨e, hn⟩ | ⟨i, -, q1, q2, q3, e⟩
        · rw [s_fo_no (fun q hq => hn q (Nat.zero_le _) hq), e]; rfl
        · rw [s_fo_of q2 (fun q hq => q3 q (Nat.zero_le _) hq) q1, e]; rfl
    · show va_up τ.2.2.2.1 b (σ.2.2.2.1 b) e = _
      by_cases q : e = b
      · subst q; exact va_s
      · rw [va_o q]; exact a4 e q
  · have hj0 : n ≠ 0 := fun z => y ((c21_lt n (by omega)).mpr z)
    obtain ⟨j, rfl⟩ : ∃ j, n = j + 1 := ⟨n - 1, by omega⟩
    rw [c21_s j (by omega)]
    have hB : s_B (FP.i2d (nI j - 20)) := fb_i2d
    have hF : τ.2.2.2.2.2.2.2.2.2.2.1 = σ.2.2.2.2.2.2.2.2.2.2.1 := by rw [a5]
    rw [cc_o i1 hb24]
    refine ⟨fun q h n => q = s_kp (A.1.2.2.1 b) (FP.i2d (nI j - 20)) ∧ h = cput g x0 P τ hp ∧ nx = n, ?_, c_kept (cput_c i1 hb24) (i1.2.2.1 b hb24).2.2.2 (by omega) hB ⟨by rw [i6.1.2.1 b hb24], rfl, rfl⟩⟩
    rintro q h n ⟨rfl, rfl, rfl⟩
    rw [cc_pw i1 hb24, cz_o]
    obtain ⟨τ2, e2⟩ : ∃ τ2, τ2 = cuO τ b (s_kp (A.1.2.2.1 b) (FP.i2d (nI j - 20))) := ⟨_, rfl⟩
    rw [← e2]
    have f5 : τ2.2.2.2.2 = σ.2.2.2.2 := by rw [e2]; exact a5
    have jS : cSH g x0 P hp τ2.2.2.2.2 A.1.1 A.1.2.1 A.1.2.2.1 := by rw [f5]; exact i6.sh
    have jO : cOW A.1.1 A.1.2.2.1 τ2.2.2.2.1 (s_up A.1.2.2.2 b (some (FP.i2d (nI j - 20)))) := by
      have := i6.2.2.1.up (c := b) (v := FP.i2d (nI j - 20)) hB
      have eo : τ2.2.2.2.1 = va_up σ.2.2.2.1 b (s_kp (A.1.2.2.1 b) (FP.i2d (nI j - 20))) := by
        rw [e2]
        funext e
        show va_up τ.2.2.2.1 b _ e = _
        by_cases q : e = b
        · subst q; rw [va_s, va_s]
        · rw [va_o q, va_o q]; exact a4 e q
      rw [eo]; exact this
    have jt : cSt τ2 (M + 192001 * (41 - (j + 1))) := by rw [e2]; exact a3
    refine c_first (rk := rk) (S := s_ow A.1 (s_up A.1.2.2.2 b (some (FP.i2d (nI j - 20))))) (M := M + 192001 * (41 - (j + 1))) i1 jS hST hV.tm ht (by rw [f5]; exact ha) hl jO jt (by omega) hr hP (by rw [f5]; exact hC) hit (by omega) (fun τ3 z1 z2 z3 z4 => ?_)
    have hio := s_io_f (S := s_ow A.1 (s_up A.1.2.2.2 b (some (FP.i2d (nI j - 20))))) (L := L) (it := it) hnc.2
    have t1 : ∀ q, q ≠ 10 → τ3.1 q = σ.1 q := fun q hq => by rw [z3 q hq, e2]; exact a1 q hq
    have t2 : τ3.2.1 = σ.2.1 := by rw [z2, e2]; exact a2
    have t3 : cSt τ3 (M + 192001 * (41 - j)) := z4.le (by omega)
    have t4 : ∀ e, e ≠ b → τ3.2.2.2.1 e = σ.2.2.2.1 e := fun e he => by
      rw [z1, e2]
      show va_up τ.2.2.2.1 b _ e = _
      rw [va_o he]; exact a4 e he
    have t5 : τ3.2.2.2.2 = σ.2.2.2.2 := by rw [z1]; exact f5
    refine ⟨fun r v c ls k h n' => r = some (P.1 b) ∧ v = σ.2.2.2.1 b ∧ (∃ cc', c = nI cc' ∧ cc' + s_cn p j = s_cn p 41) ∧ ((ls = -1 ∧ ∀ q, j ≤ q → q < 41 → ¬ p q) ∨ ∃ i, j ≤ i ∧ i < 41 ∧ p i ∧ (∀ q, j ≤ q → q < i → ¬ p q) ∧ ls = 1000 + (nI i - 20)) ∧ k = nI j - 20 ∧ h = cput g x0 P τ3 hp ∧ nx = n', ?_, fun z => ?_, fun z => ?_⟩
    · rintro r v c ls k h n' ⟨rfl, rfl, ⟨cc', rfl, hc'⟩, hl', rfl, rfl, rfl⟩
      rintro _ rfl
      exact ⟨j, by omega, j, cc', τ3, rfl, by omega, rfl, rfl, rfl, hc', hl', c21_m j (by omega), rfl, rfl, t1, t2, t3, t4, t5⟩
    · rintro _ rfl
      rintro _ rfl
      have pj : p j := hio.mp z
      rw [s_cn_p pj] at hcc
      exact ⟨rfl, rfl, ⟨cc + 1, nI_1 cc, by omega⟩, Or.inr ⟨j, Nat.le_refl _, by omega, pj, fun q q1 q2 => absurd q2 (by omega), rfl⟩, rfl, rfl, rfl⟩
    · have pj : ¬ p j := fun q => z (hio.mpr q)
      rw [s_cn_n pj] at hcc
      refine ⟨rfl, rfl, ⟨cc, rfl, hcc⟩, ?_, rfl, rfl, rfl⟩
      rcases hls with ⟨e, hn⟩ | ⟨i, q0, q1, q2, q3, e⟩
      · refine Or.inl ⟨e, fun q y1 y2 => ?_⟩
        by_cases y : q = j
        · rw [y]; exact pj
        · exact hn q (by omega) y2
      · refine Or.inr ⟨i, by omega, q1, q2, fun q y1 y2 => ?_, e⟩
        by_cases y : q = j
        · rw [y]; exact pj
        · exact q3 q (by omega) y2
end TE
