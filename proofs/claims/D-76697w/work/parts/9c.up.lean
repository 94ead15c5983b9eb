set_option maxRecDepth 100000
/-! THE REFERENCE's operations: image -/
section UP
variable {l : Launch} {g : zG} {d m0 : Nat} {τ τ' τm τ1 τ2 : tS} {hp : zHp} {nx : Nat}
/-- the image's fields of numbers and of doubles -/
def tvI (k : Nat) : Prop := k = 0 ∨ k = 1 ∨ k = 3 ∨ k = 4 ∨ k = 6 ∨ k = 7 ∨ k = 8 ∨ k = 9 ∨ k = 10
def tvD (k : Nat) : Prop := k = 2 ∨ k = 5 ∨ k = 11
theorem tiI_inj {k k' : Nat} (h : tvI k) (h' : tvI k') (e : tiI k' = tiI k) : k' = k := by
  unfold tvI at h h'
  rcases h with rfl | rfl | rfl | rfl | rfl | rfl | rfl | rfl | rfl <;> rcases h' with rfl | rfl | rfl | rfl | rfl | rfl | rfl | rfl | rfl <;> first | rfl | exact absurd e (by decide)
theorem tiD_inj {k k' : Nat} (h : tvD k) (h' : tvD k') (e : tiD k' = tiD k) : k' = k := by
  unfold tvD at h h'
  rcases h with rfl | rfl | rfl <;> rcases h' with rfl | rfl | rfl <;> first | rfl | exact absurd e (by decide)
theorem tiI_lt {k : Nat} (h : tvI k) : 58 ≤ tiI k ∧ tiI k ≤ 69 := by
  unfold tvI at h
  rcases h with rfl | rfl | rfl | rfl | rfl | rfl | rfl | rfl | rfl <;> decide
theorem tiD_lt {k : Nat} (h : tvD k) : 58 ≤ tiD k ∧ tiD k ≤ 69 := by
  unfold tvD at h
  rcases h with rfl | rfl | rfl <;> decide
/-- copied so far into the image -/
def tCp (P Q : Nat → Nat → Nat → Prop) (τ τ1 : tS) : Prop := τ1.1 = τ.1 ∧ τ1.2.1 = τ.2.1 ∧ (∀ k, (k < 58 ∨ 69 < k) → τ1.2.2.1 k = τ.2.2.1 k) ∧ (∀ k, (k < 58 ∨ 69 < k) → τ1.2.2.2 k = τ.2.2.2 k) ∧ (∀ k, tvI k → ∀ i j, P k i j → τ1.2.2.1 (tiI k) i j = τ.2.2.1 k i j) ∧ (∀ k, tvD k → ∀ i j, Q k i j → τ1.2.2.2 (tiD k) i j = τ.2.2.2 k i j) ∧ ∀ x, 24 ≤ x → τ1.2.2.1 60 0 x = τ.2.2.1 60 0 x ∧ τ1.2.2.2 62 0 x = τ.2.2.2 62 0 x
theorem tCp.z : tCp (fun _ _ _ => False) (fun _ _ _ => False) τ τ := ⟨rfl, rfl, fun _ _ => rfl, fun _ _ => rfl, fun _ _ _ _ h => h.elim, fun _ _ _ _ h => h.elim, fun _ _ => ⟨rfl, rfl⟩⟩
theorem tCp.mono {P Q P' Q' : Nat → Nat → Nat → Prop} (h : tCp P Q τ τ1) (hP : ∀ k i j, P' k i j → P k i j) (hQ : ∀ k i j, Q' k i j → Q k i j) : tCp P' Q' τ τ1 := by
  obtain ⟨h1, h2, h3, h4, h5, h6, h7⟩ := h
  exact ⟨h1, h2, h3, h4, fun k v i j q => h5 k v i j (hP k i j q), fun k v i j q => h6 k v i j (hQ k i j q), h7⟩
theorem s_cpy0 {α : Type} {f f2 : Nat → α} {n j : Nat} : va_cpy f f2 0 0 n j = if j < n then f j else f2 j := by
  unfold va_cpy
  simp only [Nat.zero_add, Nat.zero_le, true_and, Nat.sub_zero]
theorem tCp.I {P Q : Nat → Nat → Nat → Prop} (h : tCp P Q τ τ1) (k i n : Nat) (hk : tvI k) (hn : k = 1 → n ≤ 24) : tCp (fun k' i' j' => P k' i' j' ∨ (k' = k ∧ i' = i ∧ j' < n)) Q τ (taI τ1 (tiI k) i (va_cpy (τ1.2.2.1 k i) (τ1.2.2.1 (tiI k) i) 0 0 n)) := by
  obtain ⟨h1, h2, h3, h4, h5, h6, h7⟩ := h
  have lt := tiI_lt hk
  have k58 : k < 58 := by unfold tvI at hk; omega
  have val : ∀ j, (taI τ1 (tiI k) i (va_cpy (τ1.2.2.1 k i) (τ1.2.2.1 (tiI k) i) 0 0 n)).2.2.1 (tiI k) i j = if j < n then τ.2.2.1 k i j else τ1.2.2.1 (tiI k) i j := fun j => by rw [tqa, s_cpy0, h3 k (Or.inl k58)]
  refine ⟨h1, h2, fun k' q => ?_, h4, fun k' v i' j' q => ?_, h6, fun x hx => ⟨?_, (h7 x hx).2⟩⟩
  · rw [tqc (by omega)]; exact h3 k' q
  · by_cases e : tiI k' = tiI k
    · have e := tiI_inj hk v e
      subst e
      by_cases ei : i' = i
      · subst ei
        rw [val]
        by_cases ej : j' < n
        · rw [if_pos ej]
        · rw [if_neg ej]
          exact h5 k' v i' j' (q.resolve_right (fun z => ej z.2.2))
      · rw [tqb ei]
        exact h5 k' v i' j' (q.resolve_right (fun z => ei z.2.1))
    · rw [tqc e]
      exact h5 k' v i' j' (q.resolve_right (fun z => e (by rw [z.1])))
  · by_cases e : 60 = tiI k
    · have e1 : (1 : Nat) = k := tiI_inj hk (Or.inr (Or.inl rfl)) e
      subst e1
      by_cases ei : 0 = i
      · subst ei
        have := val x
        rw [if_neg (by have := hn rfl; omega)] at this
        exact this.trans (h7 x hx).1
      · rw [show (60 : Nat) = tiI 1 from rfl, tqb ei]; exact (h7 x hx).1
    · rw [tqc e]; exact (h7 x hx).1
theorem tCp.D {P Q : Nat → Nat → Nat → Prop} (h : tCp P Q τ τ1) (k i n : Nat) (hk : tvD k) (hn : k = 2 → n ≤ 24) : tCp P (fun k' i' j' => Q k' i' j' ∨ (k' = k ∧ i' = i ∧ j' < n)) τ (taD τ1 (tiD k) i (va_cpy (τ1.2.2.2 k i) (τ1.2.2.2 (tiD k) i) 0 0 n)) := by
  obtain ⟨h1, h2, h3, h4, h5, h6, h7⟩ := h
  have lt := tiD_lt hk
  have k58 : k < 58 := by unfold tvD at hk; omega
  have val : ∀ j, (taD τ1 (tiD k) i (va_cpy (τ1.2.2.2 k i) (τ1.2.2.2 (tiD k) i) 0 0 n)).2.2.2 (tiD k) i j = if j < n then τ.2.2.2 k i j else τ1.2.2.2 (tiD k) i j := fun j => by rw [tqh, s_cpy0, h4 k (Or.inl k58)]
  refine ⟨h1, h2, h3, fun k' q => ?_, h5, fun k' v i' j' q => ?_, fun x hx => ⟨(h7 x hx).1, ?_⟩⟩
  · rw [tqj (by omega)]; exact h4 k' q
  · by_cases e : tiD k' = tiD k
    · have e := tiD_inj hk v e
      subst e
      by_cases ei : i' = i
      · subst ei
        rw [val]
        by_cases ej : j' < n
        · rw [if_pos ej]
        · rw [if_neg ej]
          exact h6 k' v i' j' (q.resolve_right (fun z => ej z.2.2))
      · rw [tqi ei]
        exact h6 k' v i' j' (q.resolve_right (fun z => ei z.2.1))
    · rw [tqj e]
      exact h6 k' v i' j' (q.resolve_right (fun z => e (by rw [z.1])))
  · by_cases e : 62 = tiD k
    · have e1 : (2 : Nat) = k := tiD_inj hk (Or.inl rfl) e
      subst e1
      by_cases ei : 0 = i
      · subst ei
        have := val x
        rw [if_neg (by have := hn rfl; omega)] at this
        exact this.trans (h7 x hx).2
      · rw [show (62 : Nat) = tiD 2 from rfl, tqi ei]; exact (h7 x hx).2
    · rw [tqj e]; exact (h7 x hx).2
def v_rg (A B : sV) : Prop := s_rg A.1 B.1 ∧ ((A.2.1 = none ∧ B.2.1 = none) ∨ ∃ S S', A.2.1 = some S ∧ B.2.1 = some S' ∧ s_rg S S') ∧ A.2.2 = B.2.2
noncomputable def o_image (A : sV) : Int32 × sV := (nI (s_nf A.1), A.1, some A.1, A.2.2)
def pA (n : Nat) (k i j : Nat) : Prop := ((k = 0 ∨ k = 1 ∨ k = 3) ∧ i = 0 ∧ j < 24) ∨ (k = 4 ∧ i < n ∧ j < 96)
def qA (n : Nat) (k i j : Nat) : Prop := (k = 2 ∧ i = 0 ∧ j < 24) ∨ (k = 5 ∧ i < n ∧ j < 96)
def pB (k i j : Nat) : Prop := pA 24 k i j ∨ ((k = 6 ∨ k = 7 ∨ k = 8 ∨ k = 9) ∧ i = 0 ∧ j < 6) ∨ (k = 10 ∧ i = 0 ∧ j < 12)
def qB (n : Nat) (k i j : Nat) : Prop := qA 24 k i j ∨ (k = 11 ∧ i < n ∧ j < 8)
theorem tCp.rg (h : tCp pB (qB 12) τ τ1) : tRg τ (tim τ1) := by
  obtain ⟨h1, h2, h3, h4, h5, h6, h7⟩ := h
  refine ⟨fun k q c hc => ?_, fun c hc j hj => ?_, fun k q t ht => ?_, fun a ha => ?_, fun c hc => ?_, fun c hc j hj => ?_, fun a ha j hj => ?_⟩
  · exact h5 k (by unfold tvI; omega) 0 c (by unfold pB pA; omega)
  · exact h5 4 (by unfold tvI; omega) c j (by unfold pB pA; omega)
  · exact h5 k (by unfold tvI; omega) 0 t (by unfold pB pA; omega)
  · exact h5 10 (by unfold tvI; omega) 0 a (by unfold pB pA; omega)
  · exact h6 2 (by unfold tvD; omega) 0 c (by unfold qB qA; omega)
  · exact h6 5 (by unfold tvD; omega) c j (by unfold qB qA; omega)
  · exact h6 11 (by unfold tvD; omega) a j (by unfold qB qA; omega)
/-- the view behind it -/
theorem tCp.inv (h : tCp pB (qB 12) τ τ1) (hI : tINV τ) (h57 : ∀ k, k ≠ 57 → τ2.1 k = τ1.1 k) (e57 : τ2.1 57 = 1) (e2 : τ2.2 = τ1.2) : tINV τ2 ∧ v_rg (tVw τ2) (o_image (tVw τ)).2 ∧ tst τ2 = tst τ := by
  have hr : tRg τ (tim τ1) := h.rg
  have eim : tpe (tim τ1) (tim τ2) := ⟨fun k _ => by show τ2.2.2.1 _ = τ1.2.2.1 _; rw [e2], fun k _ => by show τ2.2.2.2 _ = τ1.2.2.2 _; rw [e2]⟩
  obtain ⟨h1, h2, h3, h4, h5, h6, h7⟩ := h
  have pe : tpe τ τ2 := ⟨fun k hk => by rw [e2]; exact h3 k (by omega), fun k hk => by rw [e2]; exact h4 k (by omega)⟩
  obtain ⟨⟨rk, hO⟩, hnb, hx⟩ := hI.1
  have srg := hr.st hO.1 hO.2.1
  have bo0 : s_BO (tow (tim τ)) := by
    rcases hI.2.2.1 with ⟨_, q⟩ | ⟨_, ⟨rk', q⟩, _⟩
    · exact q
    · exact q.2.2.2.2.2.2.1
  have bo : s_BO (tow (tim τ1)) := by
    intro x v hv
    by_cases hxx : x < 24
    · rw [show tow (tim τ1) x = tow τ x from srg.2.2.2 x hxx] at hv
      exact hO.2.2.2.2.2.2.1 x v hv
    · have e : tow (tim τ1) x = tow (tim τ) x := by
        obtain ⟨p, q⟩ := h7 x (by omega)
        show (if τ1.2.2.1 60 0 x = 0 then none else some (τ1.2.2.2 62 0 x)) = if τ.2.2.1 60 0 x = 0 then none else some (τ.2.2.2 62 0 x)
        rw [p, q]
      rw [e] at hv
      exact bo0 x v hv
  have sh2 : tSh (tim τ2) := (hr.sh hI.1 bo).pe eim
  have e34 : τ2.1 34 = τ.1 34 := by rw [h57 34 (by decide), h1]
  refine ⟨⟨hI.1.pe pe, hI.2.1.pe pe, Or.inr ⟨e57, sh2⟩, ?_, ?_⟩, ⟨?_, ?_, ?_⟩, pe.st⟩
  · unfold tTp
    rw [e34, e2, h3 33 (by decide)]
    exact hI.2.2.2.1
  · unfold tRo
    rw [e2, h3 70 (by decide), h3 71 (by decide), h3 73 (by decide), h4 72 (by decide)]
    exact hI.2.2.2.2
  · show s_rg (tst τ2) (tst τ)
    rw [pe.st]
    exact ⟨fun _ _ => rfl, fun _ _ => rfl, fun _ _ => rfl, fun _ _ => rfl⟩
  · refine Or.inr ⟨tst (tim τ2), tst τ, ?_, rfl, by rw [eim.st]; exact srg⟩
    show (if τ2.1 57 = 0 then none else some (tst (tim τ2))) = _
    rw [e57, if_neg (by decide)]
  · show (ttp τ2, trw τ2) = (ttp τ, trw τ)
    unfold ttp trw
    rw [e34, e2, h3 33 (by decide), h3 70 (by decide), h3 71 (by decide), h3 73 (by decide), h4 72 (by decide)]
theorem to_image {K : Int32 → zHp → Nat → Prop} (hd : 200 ≤ d) (hB : zB g ≤ m0) (hI : tINV τ) (hK : ∀ τ', tINV τ' → v_rg (tVw τ') (o_image (tVw τ)).2 → K (o_image (tVw τ)).1 (tput g m0 τ' hp) nx) : zMt l g yX5_image cX5_image 2 (some .int) d 0 0 [.ref m0] (tput g m0 τ hp) nx (zQi g K) := by
  obtain ⟨d, rfl⟩ := Nat.exists_eq_add_of_le' (show 1 ≤ d by omega)
  apply met_X5_image
  unfold wp_X5_image
  obtain ⟨⟨rk, hO⟩, hnb, hx⟩ := hI.1
  have hB2 : ∀ n, zB g ≤ m0 + n := fun n => by omega
  have hB3 : ∀ a b n, zB g ≤ m0 + a + b + n := fun a b n => by omega
  have c0 : (0 : Int32).toNatClampNeg = 0 := by decide
  have c24 : (24 : Int32).toNatClampNeg = 24 := by decide
  have c6 : (6 : Int32).toNatClampNeg = 6 := by decide
  have c12 : (12 : Int32).toNatClampNeg = 12 := by decide
  have c96 : (96 : Int32).toNatClampNeg = 96 := by decide
  have c8 : (8 : Int32).toNatClampNeg = 8 := by decide
  have z0 : ¬ (0 : Int32) < 0 := by decide
  have z24 : ¬ (24 : Int32) < 0 := by decide
  have z6 : ¬ (6 : Int32) < 0 := by decide
  have z12 : ¬ (12 : Int32) < 0 := by decide
  have z96 : ¬ (96 : Int32) < 0 := by decide
  have z8 : ¬ (8 : Int32) < 0 := by decide
  have fi : ∀ v : Int32, fits .int (.int v) = true := fun v => rfl
  have fd : ∀ v : UInt64, fits .double (.double v) = true := fun v => rfl
  simp only [tg_kinds, ta_kinds, tu_kinds, tg_imageKinds, ta_imageKinds, tu_imageKinds, tg_sizes, ta_sizes, tu_sizes, tg_imageSizes, ta_imageSizes, tu_imageSizes, c0, c24, z0, z24, fi, hB2, Nat.zero_add, Nat.le_refl, not_false_eq_true, true_implies, false_implies, implies_true, and_true, true_and, forall_eq]
  simp only [tg_given, ta_given, tu_given, tg_imageGiven, ta_imageGiven, tu_imageGiven, c0, c24, z0, z24, hB2, Nat.zero_add, Nat.le_refl, not_false_eq_true, true_implies, false_implies, implies_true, and_true, true_and, forall_eq]
  refine ⟨fun k hk => z_fb (hO.2.2.2.2.2.2.2.1 k hk), ?_⟩
  simp only [tg_numbers, ta_numbers, tu_numbers, tg_imageNumbers, ta_imageNumbers, tu_imageNumbers, c0, c24, z0, z24, fd, hB2, Nat.zero_add, Nat.le_refl, not_false_eq_true, true_implies, false_implies, implies_true, and_true, true_and, forall_eq]
  refine ⟨fun m i h nx' => ∃ ii τ1, ii ≤ 24 ∧ m = 24 - ii ∧ i = nI ii ∧ h = tput g m0 τ1 hp ∧ nx = nx' ∧ tCp (pA ii) (qA ii) τ τ1, ⟨24, 0, _, by omega, rfl, rfl, rfl, rfl, ((((tCp.z.I 0 0 24 (by unfold tvI; omega) (by omega)).I 3 0 24 (by unfold tvI; omega) (by omega)).I 1 0 24 (by unfold tvI; omega) (by omega)).D 2 0 24 (by unfold tvD; omega) (by omega)).mono (fun k i j q => by unfold pA at q; simp only [false_or]; omega) (fun k i j q => by unfold qA at q; simp only [false_or]; omega)⟩, ?_⟩
  rintro m _ _ _ ⟨ii, τ1, hii, hm, rfl, rfl, rfl, hc⟩
  refine pk_le 24 ii (fun hle => ?_) (fun hlt => ?_)
  rotate_left
  · have ci : (nI ii).toNatClampNeg = ii := nI_clamp (by omega)
    have iii : vp_in (nI ii) 24 := vp_in_nI hlt (by decide)
    simp only [tg_marks, ta_marks, tg_imageMarks, ta_imageMarks, ci, iii, tb_marks hlt, tv_marks hlt, tb_imageMarks hlt, tv_imageMarks hlt, c0, c96, z0, z96, fi, hB2, hB3, Nat.zero_add, Nat.le_refl, not_false_eq_true, true_implies, false_implies, implies_true, and_true, true_and, forall_eq]
    simp only [tg_figures, ta_figures, tg_imageFigures, ta_imageFigures, ci, iii, tb_figures hlt, tv_figures hlt, tb_imageFigures hlt, tv_imageFigures hlt, c0, c96, z0, z96, fd, hB2, hB3, Nat.zero_add, Nat.le_refl, not_false_eq_true, true_implies, false_implies, implies_true, and_true, true_and, forall_eq]
    exact ⟨24 - (ii + 1), by omega, ii + 1, _, by omega, rfl, nI_1 ii, rfl, ((hc.I 4 ii 96 (by unfold tvI; omega) (by omega)).D 5 ii 96 (by unfold tvD; omega) (by omega)).mono (fun k i j q => by unfold pA at q ⊢; omega) (fun k i j q => by unfold qA at q ⊢; omega)⟩
  have : ii = 24 := by omega
  subst this
  have f6 : ∀ k, k < 6 → τ1.2.2.1 6 0 k = 0 ∨ τ1.2.2.1 6 0 k = 1 := fun k hk => by rw [hc.2.2.1 6 (by decide)]; exact hO.2.2.2.2.2.2.2.2 k hk
  simp only [tg_laid, ta_laid, tu_laid, tg_imageLaid, ta_imageLaid, tu_imageLaid, c0, c6, z0, z6, hB2, Nat.zero_add, Nat.le_refl, not_false_eq_true, true_implies, false_implies, implies_true, and_true, true_and, forall_eq]
  refine ⟨fun k hk => z_fb (f6 k hk), ?_⟩
  simp only [tg_outputs, ta_outputs, tu_outputs, tg_imageOutputs, ta_imageOutputs, tu_imageOutputs, c0, c6, z0, z6, fi, hB2, Nat.zero_add, Nat.le_refl, not_false_eq_true, true_implies, false_implies, implies_true, and_true, true_and, forall_eq]
  simp only [tg_ones, ta_ones, tu_ones, tg_imageOnes, ta_imageOnes, tu_imageOnes, c0, c6, z0, z6, fi, hB2, Nat.zero_add, Nat.le_refl, not_false_eq_true, true_implies, false_implies, implies_true, and_true, true_and, forall_eq]
  simp only [tg_others, ta_others, tu_others, tg_imageOthers, ta_imageOthers, tu_imageOthers, c0, c6, z0, z6, fi, hB2, Nat.zero_add, Nat.le_refl, not_false_eq_true, true_implies, false_implies, implies_true, and_true, true_and, forall_eq]
  simp only [tg_axisSizes, ta_axisSizes, tu_axisSizes, tg_imageAxisSizes, ta_imageAxisSizes, tu_imageAxisSizes, c0, c12, z0, z12, fi, hB2, Nat.zero_add, Nat.le_refl, not_false_eq_true, true_implies, false_implies, implies_true, and_true, true_and, forall_eq]
  refine ⟨fun m i h nx' => ∃ jj τ2, jj ≤ 12 ∧ m = 12 - jj ∧ i = nI jj ∧ h = tput g m0 τ2 hp ∧ nx = nx' ∧ tCp pB (qB jj) τ τ2, ⟨12, 0, _, by omega, rfl, rfl, rfl, rfl, (((((hc.I 6 0 6 (by unfold tvI; omega) (by omega)).I 7 0 6 (by unfold tvI; omega) (by omega)).I 8 0 6 (by unfold tvI; omega) (by omega)).I 9 0 6 (by unfold tvI; omega) (by omega)).I 10 0 12 (by unfold tvI; omega) (by omega)).mono (fun k i j q => by unfold pB pA at q; unfold pA; omega) (fun k i j q => by unfold qB qA at q; unfold qA; omega)⟩, ?_⟩
  rintro m _ _ _ ⟨jj, τ2, hjj, hm, rfl, rfl, rfl, hc2⟩
  refine pk_le 12 jj (fun hle => ?_) (fun hlt => ?_)
  rotate_left
  · have ci : (nI jj).toNatClampNeg = jj := nI_clamp (by omega)
    have iii : vp_in (nI jj) 12 := vp_in_nI hlt (by decide)
    simp only [tg_axes, ta_axes, tg_imageAxes, ta_imageAxes, ci, iii, tb_axes hlt, tv_axes hlt, tb_imageAxes hlt, tv_imageAxes hlt, c0, c8, z0, z8, fd, hB2, hB3, Nat.zero_add, Nat.le_refl, not_false_eq_true, true_implies, false_implies, implies_true, and_true, true_and, forall_eq]
    exact ⟨12 - (jj + 1), by omega, jj + 1, _, by omega, rfl, nI_1 jj, rfl, (hc2.D 11 jj 8 (by unfold tvD; omega) (by omega)).mono (fun k i j q => q) (fun k i j q => by unfold qB qA at q ⊢; omega)⟩
  have : jj = 12 := by omega
  subst this
  rw [tp_hasImage]
  refine ⟨hB, ?_⟩
  obtain ⟨r1, r2, r3⟩ := hc2.inv (τ2 := tsI τ2 57 1) hI (fun k hk => by unfold tsI; exact va_o hk) tq1 rfl
  rw [tw_zo]
  refine t_formulas (by omega) r1.1 ?_
  rw [r3]
  exact hK _ r1 r2
end UP
