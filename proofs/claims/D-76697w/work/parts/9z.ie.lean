set_option maxRecDepth 100000
/-! THE REFERENCE's operations: back -/
section IE
variable {l : Launch} {g : zG} {d m0 : Nat} {τ τ' τm τ1 τ2 : tS} {hp : zHp} {nx : Nat}
noncomputable def o_back (A : sV) : Int32 × sV := match A.2.1 with
  | none => (-3, A)
  | some S => (nI (s_nf S), S, A.2)
theorem tCb.fm {N : Nat} {P Q : Nat → Nat → Nat → Prop} {c n : Nat} (h : tCb N P Q τ τ1) (hn : n ≤ 96) (e3 : (tim τ).2.2.1 3 0 c = nI n) (e4 : ∀ k, k < n → ∃ m, tok m ∧ (tim τ).2.2.1 4 c k = nI m) (p3 : P 3 0 c) (p4 : ∀ j, j < 96 → P 4 c j) (q5 : ∀ j, j < 96 → Q 5 c j) : tfm τ1 c = tfm (tim τ) c := by
  obtain ⟨h1, h2, h3, h4, h5, h6, h7, h8⟩ := h
  rw [tfm_len e3 hn, tfm_len (n := n) (by rw [h5 3 (by unfold tvI; omega) 0 c p3]; exact e3) hn]
  refine List.map_congr_left fun k hk => ?_
  have hk := List.mem_range.mp hk
  obtain ⟨m, hm, em⟩ := e4 k hk
  unfold tmk
  rw [h5 4 (by unfold tvI; omega) c k (p4 k (by omega)), show τ.2.2.1 (tiI 4) c k = nI m from em, em, nI_clamp (by unfold tok at hm; omega)]
  by_cases q : 100 ≤ m ∧ m < 200
  · rw [if_pos q, if_pos q, h6 5 (by unfold tvD; omega) c (m - 100) (q5 _ (by unfold tok at hm; omega))]; rfl
  · rw [if_neg q, if_neg q]
theorem tCb.rg (h : tCb 24 pB (qB 12) τ τ1) : tRg (tim τ) τ1 := by
  obtain ⟨h1, h2, h3, h4, h5, h6, h7, h8⟩ := h
  refine ⟨fun k q c hc => ?_, fun c hc j hj => ?_, fun k q t ht => ?_, fun a ha => ?_, fun c hc => ?_, fun c hc j hj => ?_, fun a ha j hj => ?_⟩
  · exact h5 k (by unfold tvI; omega) 0 c (by unfold pB pA; omega)
  · exact h5 4 (by unfold tvI; omega) c j (by unfold pB pA; omega)
  · exact h5 k (by unfold tvI; omega) 0 t (by unfold pB pA; omega)
  · exact h5 10 (by unfold tvI; omega) 0 a (by unfold pB pA; omega)
  · exact h6 2 (by unfold tvD; omega) 0 c (by unfold qB qA; omega)
  · exact h6 5 (by unfold tvD; omega) c j (by unfold qB qA; omega)
  · exact h6 11 (by unfold tvD; omega) a j (by unfold qB qA; omega)
theorem tCb.inv (h : tCb 24 pB (qB 12) τ τ1) (hI : tINV τ) (e57 : τ.1 57 = 1) (hT : tSh (tim τ)) : tINV τ1 ∧ v_rg (tVw τ1) (tst (tim τ), (tVw τ).2) ∧ s_rg (tst τ1) (tst (tim τ)) := by
  have hr : tRg (tim τ) τ1 := h.rg
  obtain ⟨h1, h2, h3, h4, h5, h6, h7, h8⟩ := h
  obtain ⟨⟨rk, hO⟩, hnb, hx⟩ := hT
  have srg := hr.st hO.1 hO.2.1
  have pe : tpe (tim τ) (tim τ1) := ⟨fun k _ => h3 (tiI k) (tvI_no (tiI_in k).1) (by have := (tiI_in k).1; omega) (by have := (tiI_in k).1; omega), fun k _ => h4 (tiD k) (tvD_no (tiD_in k).1)⟩
  have bo0 : s_BO (tow τ) := by
    obtain ⟨⟨rk', q⟩, _⟩ := hI.1
    exact q.2.2.2.2.2.2.1
  have bo : s_BO (tow τ1) := by
    intro x v hv
    by_cases hxx : x < 24
    · rw [show tow τ1 x = tow (tim τ) x from srg.2.2.2 x hxx] at hv
      exact hO.2.2.2.2.2.2.1 x v hv
    · have e : tow τ1 x = tow τ x := by
        obtain ⟨p, q⟩ := h7 x (by omega)
        show (if τ1.2.2.1 1 0 x = 0 then none else some (τ1.2.2.2 2 0 x)) = if τ.2.2.1 1 0 x = 0 then none else some (τ.2.2.2 2 0 x)
        rw [p, q]
      rw [e] at hv
      exact bo0 x v hv
  have sh : tSh (tim τ) := ⟨⟨rk, hO⟩, hnb, hx⟩
  have n33 : τ1.2.2.1 33 = τ.2.2.1 33 := h3 33 (by unfold tvI; omega) (by decide) (by decide)
  have n70 : τ1.2.2.1 70 = τ.2.2.1 70 := h3 70 (tvI_no (by decide)) (by decide) (by decide)
  have n71 : τ1.2.2.1 71 = τ.2.2.1 71 := h3 71 (tvI_no (by decide)) (by decide) (by decide)
  have n73 : τ1.2.2.1 73 = τ.2.2.1 73 := h3 73 (tvI_no (by decide)) (by decide) (by decide)
  have n72 : τ1.2.2.2 72 = τ.2.2.2 72 := h4 72 (tvD_no (by decide))
  refine ⟨⟨hr.sh sh bo, fun c hc => ?_, Or.inr ⟨by rw [h1]; exact e57, sh.pe pe⟩, ?_, ?_⟩, ⟨srg, ?_, ?_⟩, srg⟩
  · have := h8 c hc
    unfold tNx at this
    unfold tNc
    rw [show tfm τ1 c = tfm (tim τ) c from srg.1 c hc]
    exact this
  · unfold tTp
    rw [h1, n33]
    exact hI.2.2.2.1
  · unfold tRo
    rw [n70, n71, n72, n73]
    exact hI.2.2.2.2
  · refine Or.inr ⟨tst (tim τ1), tst (tim τ), ?_, ?_, by rw [pe.st]; exact ⟨fun _ _ => rfl, fun _ _ => rfl, fun _ _ => rfl, fun _ _ => rfl⟩⟩
    · show (if τ1.1 57 = 0 then none else some (tst (tim τ1))) = _
      rw [h1, e57, if_neg (by decide)]
    · show (if τ.1 57 = 0 then none else some (tst (tim τ))) = _
      rw [e57, if_neg (by decide)]
  · show (ttp τ1, trw τ1) = (ttp τ, trw τ)
    unfold ttp trw
    rw [h1, n33, n70, n71, n72, n73]
theorem s_nf_rg {S S' : sSt} (h : s_rg S S') : s_nf S = s_nf S' := by
  unfold s_nf
  exact Nat.le_antisymm (s_cn_mono fun k hk q => by rw [← h.1 k hk]; exact q) (s_cn_mono fun k hk q => by rw [h.1 k hk]; exact q)
theorem to_back {K : Int32 → zHp → Nat → Prop} (hd : 200 ≤ d) (hB : zB g ≤ m0) (hI : tINV τ) (hK : ∀ τ', tINV τ' → v_rg (tVw τ') (o_back (tVw τ)).2 → K (o_back (tVw τ)).1 (tput g m0 τ' hp) nx) : zMt l g yX5_back cX5_back 2 (some .int) d 0 0 [.ref m0] (tput g m0 τ hp) nx (zQi g K) := by
  obtain ⟨d, rfl⟩ := Nat.exists_eq_add_of_le' (show 1 ≤ d by omega)
  apply met_X5_back
  unfold wp_X5_back
  simp only [tg_hasImage, tp_hasImage]
  rcases hI.2.2.1 with ⟨e57, _⟩ | ⟨e57, hT⟩
  · refine ⟨fun _ => ?_, fun h => absurd e57 h⟩
    have e : (tVw τ).2.1 = none := by show (if τ.1 57 = 0 then none else some (tst (tim τ))) = _; rw [if_pos e57]
    have eb : o_back (tVw τ) = (-3, tVw τ) := by unfold o_back; rw [e]
    rw [eb] at hK
    refine hK τ hI ⟨⟨fun _ _ => rfl, fun _ _ => rfl, fun _ _ => rfl, fun _ _ => rfl⟩, Or.inl ⟨e, e⟩, rfl⟩
  refine ⟨fun h => absurd (e57.symm.trans h) (by decide), fun _ => ?_⟩
  have e : (tVw τ).2.1 = some (tst (tim τ)) := by show (if τ.1 57 = 0 then none else some (tst (tim τ))) = _; rw [e57, if_neg (by decide)]
  have eb : o_back (tVw τ) = (nI (s_nf (tst (tim τ))), tst (tim τ), (tVw τ).2) := by unfold o_back; rw [e]
  rw [eb] at hK
  obtain ⟨⟨rk, hO⟩, hnb, hx⟩ := hT
  have hB2 : ∀ n, zB g ≤ m0 + n := fun n => by omega
  have hB3 : ∀ a b n, zB g ≤ m0 + a + b + n := fun a b n => by omega
  have c0 : (0 : Int32).toNatClampNeg = 0 := by decide
  have c24 : (24 : Int32).toNatClampNeg = 24 := by decide
  have c6 : (6 : Int32).toNatClampNeg = 6 := by decide
  have c12 : (12 : Int32).toNatClampNeg = 12 := by decide
  have c96 : (96 : Int32).toNatClampNeg = 96 := by decide
  have c8 : (8 : Int32).toNatClampNeg = 8 := by decide
  have z0 : ¬ (0 : Int32) < 0 := by decide
  have z24 : ¬ (24 : Int32) < 0 := by decide
  have z6 : ¬ (6 : Int32) < 0 := by decide
  have z12 : ¬ (12 : Int32) < 0 := by decide
  have z96 : ¬ (96 : Int32) < 0 := by decide
  have z8 : ¬ (8 : Int32) < 0 := by decide
  have fi : ∀ v : Int32, fits .int (.int v) = true := fun v => rfl
  have fd : ∀ v : UInt64, fits .double (.double v) = true := fun v => rfl
  simp only [tg_kinds, ta_kinds, tu_kinds, tg_imageKinds, ta_imageKinds, tu_imageKinds, tg_sizes, ta_sizes, tu_sizes, tg_imageSizes, ta_imageSizes, tu_imageSizes, c0, c24, z0, z24, fi, hB2, Nat.zero_add, Nat.le_refl, not_false_eq_true, true_implies, false_implies, implies_true, and_true, true_and, forall_eq]
  simp only [tg_given, ta_given, tu_given, tg_imageGiven, ta_imageGiven, tu_imageGiven, c0, c24, z0, z24, hB2, Nat.zero_add, Nat.le_refl, not_false_eq_true, true_implies, false_implies, implies_true, and_true, true_and, forall_eq]
  refine ⟨fun k hk => z_fb (hO.2.2.2.2.2.2.2.1 k hk), ?_⟩
  simp only [tg_numbers, ta_numbers, tu_numbers, tg_imageNumbers, ta_imageNumbers, tu_imageNumbers, c0, c24, z0, z24, fd, hB2, Nat.zero_add, Nat.le_refl, not_false_eq_true, true_implies, false_implies, implies_true, and_true, true_and, forall_eq]
  refine ⟨fun m i h nx' => ∃ ii τ1, ii ≤ 24 ∧ m = 24 - ii ∧ i = nI ii ∧ h = tput g m0 τ1 hp ∧ nx = nx' ∧ tCb ii (pA ii) (qA ii) τ τ1, ⟨24, 0, _, by omega, rfl, rfl, rfl, rfl, ((((tCb.z.I 0 0 24 (by unfold tvI; omega) (by omega)).I 3 0 24 (by unfold tvI; omega) (by omega)).I 1 0 24 (by unfold tvI; omega) (by omega)).D 2 0 24 (by unfold tvD; omega) (by omega)).mono (fun k i j q => by unfold pA at q; simp only [false_or]; omega) (fun k i j q => by unfold qA at q; simp only [false_or]; omega)⟩, ?_⟩
  rintro m _ _ _ ⟨ii, τ1, hii, hm, rfl, rfl, rfl, hc⟩
  refine pk_le 24 ii (fun hle => ?_) (fun hlt => ?_)
  rotate_left
  · have ci : (nI ii).toNatClampNeg = ii := nI_clamp (by omega)
    have iii : vp_in (nI ii) 24 := vp_in_nI hlt (by decide)
    simp only [tg_marks, ta_marks, tg_imageMarks, ta_imageMarks, ci, iii, tb_marks hlt, tv_marks hlt, tb_imageMarks hlt, tv_imageMarks hlt, c0, c96, z0, z96, fi, hB2, hB3, Nat.zero_add, Nat.le_refl, not_false_eq_true, true_implies, false_implies, implies_true, and_true, true_and, forall_eq]
    simp only [tg_figures, ta_figures, tg_imageFigures, ta_imageFigures, ci, iii, tb_figures hlt, tv_figures hlt, tb_imageFigures hlt, tv_imageFigures hlt, c0, c96, z0, z96, fd, hB2, hB3, Nat.zero_add, Nat.le_refl, not_false_eq_true, true_implies, false_implies, implies_true, and_true, true_and, forall_eq]
    rw [tw_zo]
    have hc3 := ((hc.I 4 ii 96 (by unfold tvI; omega) (by omega)).D 5 ii 96 (by unfold tvD; omega) (by omega)).mono (P' := pA (ii + 1)) (Q' := qA (ii + 1)) (fun k i j q => by unfold pA at q ⊢; omega) (fun k i j q => by unfold qA at q ⊢; omega)
    obtain ⟨n, hn, e3, e4, _⟩ := hO.1 ii hlt
    refine t_tellNames (s := n) (by omega) hB hlt hn ((hc3.2.2.2.2.1 3 (by unfold tvI; omega) 0 ii (by unfold pA; omega)).trans e3) (fun k hk => ?_) fun τ4 n4 N4 => ?_
    · obtain ⟨m, hm, em⟩ := e4 k hk
      exact ⟨m, hm, (hc3.2.2.2.2.1 4 (by unfold tvI; omega) ii k (by unfold pA; omega)).trans em⟩
    · exact ⟨24 - (ii + 1), by omega, ii + 1, _, by omega, rfl, nI_1 ii, rfl, rfl, hc3.nf n4 N4 (hc3.fm hn e3 e4 (by unfold pA; omega) (fun j hj => by unfold pA; omega) (fun j hj => by unfold qA; omega))⟩
  have : ii = 24 := by omega
  subst this
  have f6 : ∀ k, k < 6 → τ1.2.2.1 61 0 k = 0 ∨ τ1.2.2.1 61 0 k = 1 := fun k hk => by rw [hc.2.2.1 61 (tvI_no (by decide)) (by decide) (by decide)]; exact hO.2.2.2.2.2.2.2.2 k hk
  simp only [tg_laid, ta_laid, tu_laid, tg_imageLaid, ta_imageLaid, tu_imageLaid, c0, c6, z0, z6, hB2, Nat.zero_add, Nat.le_refl, not_false_eq_true, true_implies, false_implies, implies_true, and_true, true_and, forall_eq]
  refine ⟨fun k hk => z_fb (f6 k hk), ?_⟩
  simp only [tg_outputs, ta_outputs, tu_outputs, tg_imageOutputs, ta_imageOutputs, tu_imageOutputs, c0, c6, z0, z6, fi, hB2, Nat.zero_add, Nat.le_refl, not_false_eq_true, true_implies, false_implies, implies_true, and_true, true_and, forall_eq]
  simp only [tg_ones, ta_ones, tu_ones, tg_imageOnes, ta_imageOnes, tu_imageOnes, c0, c6, z0, z6, fi, hB2, Nat.zero_add, Nat.le_refl, not_false_eq_true, true_implies, false_implies, implies_true, and_true, true_and, forall_eq]
  simp only [tg_others, ta_others, tu_others, tg_imageOthers, ta_imageOthers, tu_imageOthers, c0, c6, z0, z6, fi, hB2, Nat.zero_add, Nat.le_refl, not_false_eq_true, true_implies, false_implies, implies_true, and_true, true_and, forall_eq]
  simp only [tg_axisSizes, ta_axisSizes, tu_axisSizes, tg_imageAxisSizes, ta_imageAxisSizes, tu_imageAxisSizes, c0, c12, z0, z12, fi, hB2, Nat.zero_add, Nat.le_refl, not_false_eq_true, true_implies, false_implies, implies_true, and_true, true_and, forall_eq]
  refine ⟨fun m i h nx' => ∃ jj τ2, jj ≤ 12 ∧ m = 12 - jj ∧ i = nI jj ∧ h = tput g m0 τ2 hp ∧ nx = nx' ∧ tCb 24 pB (qB jj) τ τ2, ⟨12, 0, _, by omega, rfl, rfl, rfl, rfl, (((((hc.I 6 0 6 (by unfold tvI; omega) (by omega)).I 7 0 6 (by unfold tvI; omega) (by omega)).I 8 0 6 (by unfold tvI; omega) (by omega)).I 9 0 6 (by unfold tvI; omega) (by omega)).I 10 0 12 (by unfold tvI; omega) (by omega)).mono (fun k i j q => by unfold pB pA at q; unfold pA; omega) (fun k i j q => by unfold qB qA at q; unfold qA; omega)⟩, ?_⟩
  rintro m _ _ _ ⟨jj, τ2, hjj, hm, rfl, rfl, rfl, hc2⟩
  refine pk_le 12 jj (fun hle => ?_) (fun hlt => ?_)
  rotate_left
  · have ci : (nI jj).toNatClampNeg = jj := nI_clamp (by omega)
    have iii : vp_in (nI jj) 12 := vp_in_nI hlt (by decide)
    simp only [tg_axes, ta_axes, tg_imageAxes, ta_imageAxes, ci, iii, tb_axes hlt, tv_axes hlt, tb_imageAxes hlt, tv_imageAxes hlt, c0, c8, z0, z8, fd, hB2, hB3, Nat.zero_add, Nat.le_refl, not_false_eq_true, true_implies, false_implies, implies_true, and_true, true_and, forall_eq]
    exact ⟨12 - (jj + 1), by omega, jj + 1, _, by omega, rfl, nI_1 jj, rfl, (hc2.D 11 jj 8 (by unfold tvD; omega) (by omega)).mono (fun k i j q => q) (fun k i j q => by unfold qB qA at q ⊢; omega)⟩
  have : jj = 12 := by omega
  subst this
  obtain ⟨r1, r2, r3⟩ := hc2.inv hI e57 ⟨⟨rk, hO⟩, hnb, hx⟩
  rw [tw_zo]
  refine t_formulas (by omega) r1.1 ?_
  rw [s_nf_rg r3]
  exact hK _ r1 r2
end IE
