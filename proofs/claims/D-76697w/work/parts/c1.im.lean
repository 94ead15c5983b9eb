set_option maxRecDepth 100000
/-! feed, count, image -/
section IM
variable {l : Launch} {g : zG} {d x0 : Nat} {P : cP} {σ σ' : cS} {hp hp' : zHp} {nx M M' : Nat} {A : sV} {S : sSt} {fm : sF} {ly : sY} {kd : Nat → Int32} {mc ms kc ks : Nat}
/-- the tape -/
theorem cINV.tp (h : cINV g x0 P hp σ A M) {tp : List Nat} (e1 : ∀ k, k ≠ 20 → σ'.1 k = σ.1 k) (e2 : σ'.2.1 = σ.2.1) (e3 : σ'.2.2.1 = σ.2.2.1) (e4 : σ'.2.2.2.1 = σ.2.2.2.1) (hA : ∀ k, k ≠ 19 → σ'.2.2.2.2.1 k = σ.2.2.2.2.1 k) (hX : σ'.2.2.2.2.2 = σ.2.2.2.2.2) (ht : cTp σ' tp) : cINV g x0 P hp σ' (A.1, A.2.1, tp, A.2.2.2) M := by
  obtain ⟨i1, i2, i3, i4, i5, ⟨j1, j2, j3, j4⟩, i7, i8, i9, i10⟩ := h
  refine ⟨i1, i2, e2.trans i3, ?_, ?_, ⟨?_, fun q hq => ?_, by rw [e4]; exact j3, by rw [e4]; exact j4⟩, ?_, ht, ?_, ?_⟩
  · unfold cBk at i4 ⊢; rw [hX]; exact i4
  · rw [hX]; exact i5
  · unfold cS0 at j1 ⊢; rw [hX]; exact j1
  · have := j2 q hq
    unfold cWg cKc cKt at this ⊢
    rw [hX, hA 13 (by decide), hA 14 (by decide), hA 15 (by decide)]
    exact this
  · unfold cIm at i7 ⊢
    rw [e1 28 (by decide), hX, hA 24 (by decide)]
    exact i7
  · unfold cRw at i9 ⊢; rw [hX]; exact i9
  · unfold cSt at i10 ⊢; rw [e3]; exact i10
theorem vp_b8 {x : Int32} : vp_nar .byte x.toInt8.toInt32 = x.toInt8.toInt32 := by
  show (x.toInt8.toInt32).toInt8.toInt32 = _
  rw [Int8.toInt8_toInt32]
theorem co_feed (hI : cINV g x0 P hp σ A M) (hd : 10 ≤ d) {n a b c e f : Int32} {K : Int32 → zHp → Nat → Prop} (hK : ∀ σ', cINV g x0 P hp σ' (o_feed A n a b c e f).2 M → K (o_feed A n a b c e f).1 (cput g x0 P σ' hp) nx) : zMt l g yX0_feed cX0_feed 8 (some .int) d 0 0 [.ref x0, .int n, .int a, .int b, .int c, .int e, .int f] (cput g x0 P σ hp) nx (zQi g K) := by
  obtain ⟨d, rfl⟩ := Nat.exists_eq_add_of_le' (show 1 ≤ d by omega)
  have hB0 := hI.1.1
  apply met_X0_feed
  unfold wp_X0_feed
  have m75 : ∀ h n', (o_feed A n a b c e f = (-2, A) ∧ h = cput g x0 P σ hp ∧ nx = n') → K (-2) h n' := by
    rintro h n' ⟨z, rfl, rfl⟩
    rw [z] at hK
    exact hK σ hI
  have no : (n < 1 ∨ 5 < n ∨ o_by a ∨ o_by b ∨ o_by c ∨ o_by e ∨ o_by f) → (o_feed A n a b c e f = (-2, A) ∧ cput g x0 P σ hp = cput g x0 P σ hp ∧ nx = nx) := fun h => ⟨by unfold o_feed; rw [s_if_p h], rfl, rfl⟩
  refine c_inn (a := 1) (b := 5) (by decide) (by decide) (by omega) (fun z => ⟨fun h n' => o_feed A n a b c e f = (-2, A) ∧ h = cput g x0 P σ hp ∧ nx = n', m75, fun _ => no (by rcases z with z | z; exact Or.inl z; exact Or.inr (Or.inl z)), fun y => absurd rfl y⟩) (fun h1 => ⟨fun h n' => o_feed A n a b c e f = (-2, A) ∧ h = cput g x0 P σ hp ∧ nx = n', m75, fun y => absurd y (by decide), fun _ => ?_⟩)
  refine c_inn (a := 0) (b := 255) (by decide) (by decide) (by omega) (fun z => ⟨fun _ => no (Or.inr (Or.inr (Or.inl z))), fun y => absurd rfl y⟩) (fun h2 => ⟨fun y => absurd y (by decide), fun _ => ?_⟩)
  refine c_inn (a := 0) (b := 255) (by decide) (by decide) (by omega) (fun z => ⟨fun _ => no (Or.inr (Or.inr (Or.inr (Or.inl z)))), fun y => absurd rfl y⟩) (fun h3 => ⟨fun y => absurd y (by decide), fun _ => ?_⟩)
  refine c_inn (a := 0) (b := 255) (by decide) (by decide) (by omega) (fun z => ⟨fun _ => no (Or.inr (Or.inr (Or.inr (Or.inr (Or.inl z))))), fun y => absurd rfl y⟩) (fun h4 => ⟨fun y => absurd y (by decide), fun _ => ?_⟩)
  refine c_inn (a := 0) (b := 255) (by decide) (by decide) (by omega) (fun z => ⟨fun _ => no (Or.inr (Or.inr (Or.inr (Or.inr (Or.inr (Or.inl z)))))), fun y => absurd rfl y⟩) (fun h5 => ⟨fun y => absurd y (by decide), fun _ => ?_⟩)
  refine c_inn (a := 0) (b := 255) (by decide) (by decide) (by omega) (fun z => ⟨fun _ => no (Or.inr (Or.inr (Or.inr (Or.inr (Or.inr (Or.inr z)))))), fun y => absurd rfl y⟩) (fun h6 => ⟨fun y => absurd y (by decide), fun _ => ?_⟩)
  clear no m75
  obtain ⟨nn, hn, rfl⟩ : ∃ k, (1 ≤ k ∧ k ≤ 5) ∧ n = nI k := by
    have h0 : ¬ (n < 0 ∨ 5 < n) := by
      rintro (q | q)
      · apply h1; left
        rw [Int32.lt_iff_toInt_lt] at q ⊢
        have e0 : (0 : Int32).toInt = 0 := by decide
        have e1 : (1 : Int32).toInt = 1 := by decide
        rw [e0] at q; rw [e1]; omega
      · exact h1 (Or.inr q)
    rcases s_x_of (x := n) (M := 5) (n := 5) (by decide) with q | ⟨k, hk, rfl⟩
    · exact absurd q h0
    · refine ⟨k, ⟨?_, by omega⟩, rfl⟩
      rcases Nat.eq_zero_or_pos k with rfl | q
      · exact absurd (Or.inl (by decide)) h1
      · exact q
  have cn : (nI nn).toNatClampNeg = nn := nI_clamp (by omega)
  have eo : o_feed A (nI nn) a b c e f = if 96 < A.2.2.1.length + nn then (-4, A) else (nI (A.2.2.1.length + nn), A.1, A.2.1, A.2.2.1 ++ (List.range nn).map (fun k => (o_xs a b c e f k).toNatClampNeg), A.2.2.2) := by
    unfold o_feed
    rw [s_if_n, cn]
    rintro (q | q | q | q | q | q | q)
    · exact h1 (Or.inl q)
    · exact h1 (Or.inr q)
    · exact h2 q
    · exact h3 q
    · exact h4 q
    · exact h5 q
    · exact h6 q
  rw [eo] at hK
  obtain ⟨t1, t2, t3⟩ := hI.2.2.2.2.2.2.2.1
  rw [cg_taped, t1, nI_add, show (96 : Int32) = nI 96 from rfl]
  refine ⟨fun z => ?_, fun z => ?_⟩
  rotate_left
  · have z' : ¬ A.2.2.1.length + nn ≤ 96 := fun y => z ((nI_leI (by omega) (by omega)).mpr y)
    rw [if_pos (by omega)] at hK
    exact hK σ hI
  have z' : A.2.2.1.length + nn ≤ 96 := (nI_leI (by omega) (by omega)).mp z
  rw [if_neg (by omega)] at hK
  obtain ⟨T, eT⟩ : ∃ T, T = A.2.2.1.length := ⟨_, rfl⟩
  rw [← eT] at t1 t2 z' hK
  /- the bytes -/
  have hx : ∀ k, ∃ b', b' < 256 ∧ o_xs a b c e f k = nI b' := by
    intro k
    unfold o_xs
    split
    · exact o_by_n h2
    · split
      · exact o_by_n h3
      · split
        · exact o_by_n h4
        · split
          · exact o_by_n h5
          · exact o_by_n h6
  refine ⟨fun m k h n' => ∃ j τ, m = 5 - j ∧ j ≤ nn ∧ k = nI j ∧ h = cput g x0 P τ hp ∧ nx = n' ∧ (∀ q, q ≠ 20 → τ.1 q = σ.1 q) ∧ τ.2.1 = σ.2.1 ∧ τ.2.2.1 = σ.2.2.1 ∧ τ.2.2.2.1 = σ.2.2.2.1 ∧ (∀ q, q ≠ 19 → τ.2.2.2.2.1 q = σ.2.2.2.2.1 q) ∧ τ.2.2.2.2.2 = σ.2.2.2.2.2 ∧ τ.1 20 = nI (T + j) ∧ (∀ i, i < T → τ.2.2.2.2.1 19 i = σ.2.2.2.2.1 19 i) ∧ ∀ i, i < j → τ.2.2.2.2.1 19 (T + i) = (o_xs a b c e f i).toInt8.toInt32, ⟨5, 0, σ, rfl, Nat.zero_le _, rfl, rfl, rfl, fun _ _ => rfl, rfl, rfl, rfl, fun _ _ => rfl, rfl, t1, fun _ _ => rfl, fun i hi => absurd hi (Nat.not_lt_zero _)⟩, ?_⟩
  rintro m k h n' ⟨j, τ, rfl, hj, rfl, rfl, rfl, a1, a2, a3, a4, a5, a6, a7, a8, a9⟩
  refine ⟨fun y => ?_, fun y => ?_⟩
  · have hjn : j = nn := by
      have := (nI_leI (by omega) (by omega)).mp y
      omega
    subst hjn
    rw [cg_taped, a7]
    refine hK τ (hI.tp a1 a2 a3 a4 a5 a6 ⟨?_, ?_, fun i b' hi => ?_⟩)
    · rw [a7, List.length_append, List.length_map, List.length_range, ← eT]
    · rw [List.length_append, List.length_map, List.length_range, ← eT]; exact z'
    · by_cases q : i < T
      · rw [List.getElem?_append_left (by rw [← eT]; exact q)] at hi
        obtain ⟨y1, y2⟩ := t3 i b' hi
        exact ⟨y1, by rw [a8 i q]; exact y2⟩
      · rw [List.getElem?_append_right (by rw [← eT]; omega), ← eT, List.getElem?_map] at hi
        by_cases q2 : i - T < j
        · rw [List.getElem?_range q2] at hi
          simp only [Option.map_some, Option.some.injEq] at hi
          obtain ⟨b2, w1, w2⟩ := hx (i - T)
          rw [w2, nI_clamp (by omega)] at hi
          subst hi
          have := a9 (i - T) q2
          rw [show T + (i - T) = i by omega, w2] at this
          exact ⟨w1, this⟩
        · rw [List.getElem?_eq_none (by rw [List.length_range]; omega)] at hi
          cases hi
  · have hjn : j < nn := by
      rcases Nat.lt_or_ge j nn with w | w
      · exact w
      · exact absurd ((nI_leI (by omega) (by omega)).mpr w) y
    rw [cg_tape, cg_taped, a7]
    refine ⟨fun k r t v h n' => k = nI j ∧ r = some (x0 + 26) ∧ t = nI (T + j) ∧ v = o_xs a b c e f j ∧ h = cput g x0 P τ hp ∧ nx = n', ?_, ?_⟩
    · rintro k r t v h n' ⟨rfl, rfl, rfl, rfl, rfl, rfl⟩
      rw [ca_tape]
      refine ⟨vp_in_nI (by omega) (by decide), by omega, ?_⟩
      rintro _ rfl
      rw [nI_clamp (show T + j < 2 ^ 31 by omega), cu_tape, cg_taped]
      rw [show (cuA τ 19 (va_up (τ.2.2.2.2.1 19) (T + j) (vp_nar .byte (o_xs a b c e f j).toInt8.toInt32))).1 20 = nI (T + j) from a7, nI_1, cp_taped]
      refine ⟨hB0, ?_⟩
      rintro _ rfl
      refine ⟨5 - (j + 1), by omega, j + 1, _, rfl, by omega, nI_1 j, rfl, rfl, fun q hq => ?_, a2, a3, a4, fun q hq => ?_, a6, ?_, fun i hi => ?_, fun i hi => ?_⟩
      · show va_up τ.1 20 _ q = _
        rw [va_o hq]; exact a1 q hq
      · show (cuA τ 19 _).2.2.2.2.1 q = _
        rw [kA_o hq]; exact a5 q hq
      · show va_up τ.1 20 _ 20 = _
        rw [va_s]; rfl
      · show (cuA τ 19 _).2.2.2.2.1 19 i = _
        rw [kA_s, va_o (by omega)]; exact a8 i hi
      · show (cuA τ 19 _).2.2.2.2.1 19 (T + i) = _
        rw [kA_s]
        by_cases q : i = j
        · subst q; rw [va_s]; exact vp_b8
        · rw [va_o (by omega)]; exact a9 i (by omega)
    · have e5 : ∀ q, q < 6 → (nI j = nI q ↔ j = q) := fun q hq => nI_eq (by omega) (by omega)
      have f0 : nI j = 0 ↔ j = 0 := e5 0 (by decide)
      have f1 : nI j = 1 ↔ j = 1 := e5 1 (by decide)
      have f2 : nI j = 2 ↔ j = 2 := e5 2 (by decide)
      have f3 : nI j = 3 ↔ j = 3 := e5 3 (by decide)
      unfold o_xs
      refine ⟨fun w => ⟨rfl, rfl, rfl, by rw [if_pos (f0.mp w)], rfl, rfl⟩, fun w0 => ⟨fun w => ⟨rfl, rfl, rfl, by rw [if_neg (fun z => w0 (f0.mpr z)), if_pos (f1.mp w)], rfl, rfl⟩, fun w1 => ⟨fun w => ⟨rfl, rfl, rfl, by rw [if_neg (fun z => w0 (f0.mpr z)), if_neg (fun z => w1 (f1.mpr z)), if_pos (f2.mp w)], rfl, rfl⟩, fun w2 => ⟨fun w => ⟨rfl, rfl, rfl, by rw [if_neg (fun z => w0 (f0.mpr z)), if_neg (fun z => w1 (f1.mpr z)), if_neg (fun z => w2 (f2.mpr z)), if_pos (f3.mp w)], rfl, rfl⟩, fun w3 => ⟨rfl, rfl, rfl, by rw [if_neg (fun z => w0 (f0.mpr z)), if_neg (fun z => w1 (f1.mpr z)), if_neg (fun z => w2 (f2.mpr z)), if_neg (fun z => w3 (f3.mpr z))], rfl, rfl⟩⟩⟩⟩⟩
/-- how many formulas -/
theorem c_formulas (hW : cW g x0 P hp) (hS : cS0 g x0 P hp σ.2.2.2.2 fm ly kd) (hd : 3 ≤ d) {K : Int32 → zHp → Nat → Prop} (hK : K (nI (s_cn (fun c => fm c ≠ []) 24)) (cput g x0 P σ hp) nx) : zMt l g yX0_formulas cX0_formulas 6 (some .int) d 0 0 [.ref x0] (cput g x0 P σ hp) nx (zQi g K) := by
  obtain ⟨d, rfl⟩ := Nat.exists_eq_add_of_le' (show 1 ≤ d by omega)
  apply met_X0_formulas
  unfold wp_X0_formulas
  rw [cg_cells, cl_cells]
  refine ⟨fun n s r len k h n' => ∃ j, n = 24 - j ∧ j ≤ 24 ∧ s = nI (s_cn (fun c => fm c ≠ []) j) ∧ r = some (x0 + 1) ∧ len = nI 24 ∧ k = nI j ∧ h = cput g x0 P σ hp ∧ nx = n', ⟨24, 0, rfl, Nat.zero_le _, rfl, rfl, rfl, rfl, rfl, rfl⟩, ?_⟩
  rintro n s r len k h n' ⟨j, rfl, hj, rfl, rfl, rfl, rfl, rfl, rfl⟩
  refine ⟨fun y => ?_, fun y => ?_⟩
  · have : j = 24 := by have := (nI_leI (by omega) (by omega)).mp y; omega
    subst this
    exact hK
  · have hj24 : j < 24 := by
      rcases Nat.lt_or_ge j 24 with w | w
      · exact w
      · exact absurd ((nI_leI (by omega) (by omega)).mpr w) y
    rw [ca_cells]
    refine ⟨vp_in_nI hj24 (by decide), ?_⟩
    intro q eq
    rw [nI_clamp (by omega), hS.1 j hj24] at eq
    subst eq
    rw [cc_o hW hj24]
    refine ⟨fun q h n => ((q = 1 ∧ fm j = []) ∨ (q = 0 ∧ fm j ≠ [])) ∧ h = cput g x0 P σ hp ∧ nx = n, ?_, c_isIn (S := (fm, ly, kd, fun _ => none)) hW hS hj24 (by omega) (fun w => ⟨Or.inl ⟨rfl, w⟩, rfl, rfl⟩) (fun w => ⟨Or.inr ⟨rfl, w⟩, rfl, rfl⟩)⟩
    rintro q h n ⟨hq, rfl, rfl⟩
    refine ⟨fun s r len k _ x y h n => r = some (x0 + 1) ∧ len = nI 24 ∧ k = nI j ∧ x = nI (s_cn (fun c => fm c ≠ []) j) ∧ y = nI (s_if (fm j ≠ []) 1 0) ∧ h = cput g x0 P σ hp ∧ nx = n, ?_, fun w => ?_, fun w => ?_⟩
    · rintro s r len k _ x y h n ⟨rfl, rfl, rfl, rfl, rfl, rfl, rfl⟩
      rintro _ rfl
      rintro _ rfl
      exact ⟨24 - (j + 1), by omega, j + 1, rfl, by omega, by rw [nI_add]; rfl, rfl, rfl, nI_1 j, rfl, rfl⟩
    · have : fm j ≠ [] := by
        rcases hq with ⟨e, -⟩ | ⟨-, e⟩
        · rw [e] at w; exact absurd w (by decide)
        · exact e
      exact ⟨rfl, rfl, rfl, rfl, by rw [s_if_p this]; rfl, rfl, rfl⟩
    · have : ¬ fm j ≠ [] := by
        rcases hq with ⟨-, e⟩ | ⟨e, -⟩
        · exact fun z => z e
        · exact absurd e w
      exact ⟨rfl, rfl, rfl, rfl, by rw [s_if_n this]; rfl, rfl, rfl⟩
/-- image -/
def cIj (σ : cS) (A : sV) (j : Nat) (τ : cS) : Prop := τ.1 = σ.1 ∧ τ.2.1 = σ.2.1 ∧ τ.2.2.1 = σ.2.2.1 ∧ τ.2.2.2.1 = σ.2.2.2.1 ∧ (∀ k, k ≠ 24 → τ.2.2.2.2.1 k = σ.2.2.2.2.1 k) ∧ (∀ k, k ≠ 26 → k ≠ 27 → τ.2.2.2.2.2.2.1 k = σ.2.2.2.2.2.2.1 k) ∧ τ.2.2.2.2.2.2.2 = σ.2.2.2.2.2.2.2 ∧ (∀ c, c < j → τ.2.2.2.2.1 24 c = A.1.2.2.1 c) ∧ (∀ c, c < j → τ.2.2.2.2.2.1 25 c = σ.2.2.2.1 c) ∧ ∀ c, c < j → τ.2.2.2.2.2.2.1 26 c = σ.2.2.2.2.2.2.2.2.2.2.1 c
theorem co_image (hI : cINV g x0 P hp σ A M) (hd : 10 ≤ d) {K : Int32 → zHp → Nat → Prop} (hK : ∀ σ', cINV g x0 P hp σ' (o_image A).2 M → K (o_image A).1 (cput g x0 P σ' hp) nx) : zMt l g yX0_image cX0_image 2 (some .int) d 0 0 [.ref x0] (cput g x0 P σ hp) nx (zQi g K) := by
  obtain ⟨d, rfl⟩ := Nat.exists_eq_add_of_le' (show 1 ≤ d by omega)
  have hI' := hI
  obtain ⟨i1, i2, i3, i4, i5, i6, i7, i8, i9, i10⟩ := hI
  have hB0 := i1.1
  have e24 : (24 : Int32) = nI 24 := rfl
  have e6 : (6 : Int32) = nI 6 := rfl
  apply met_X0_image
  unfold wp_X0_image
  rw [e24, e6]
  refine ⟨fun n k h n' => ∃ j τ, n = 24 - j ∧ j ≤ 24 ∧ k = nI j ∧ h = cput g x0 P τ hp ∧ nx = n' ∧ cIj σ A j τ, ⟨24, 0, σ, rfl, Nat.zero_le _, rfl, rfl, rfl, rfl, rfl, rfl, rfl, fun _ _ => rfl, fun _ _ _ => rfl, rfl, fun c hc => absurd hc (Nat.not_lt_zero _), fun c hc => absurd hc (Nat.not_lt_zero _), fun c hc => absurd hc (Nat.not_lt_zero _)⟩, ?_⟩
  rintro n k h n' ⟨j, τ, rfl, hj, rfl, rfl, rfl, a1, a2, a3, a4, a5, a6, a7, a8, a9, a10⟩
  refine ⟨fun y => ?_, fun y => ?_⟩
  · have : j = 24 := by have := (nI_leI (by omega) (by omega)).mp y; omega
    subst this
    refine ⟨fun n k h n' => ∃ j τ2, n = 6 - j ∧ j ≤ 6 ∧ k = nI j ∧ h = cput g x0 P τ2 hp ∧ nx = n' ∧ cIj σ A 24 τ2 ∧ ∀ t, t < j → τ2.2.2.2.2.2.2.1 27 t = σ.2.2.2.2.2.2.1 1 t, ⟨6, 0, τ, rfl, Nat.zero_le _, rfl, rfl, rfl, ⟨a1, a2, a3, a4, a5, a6, a7, a8, a9, a10⟩, fun t ht => absurd ht (Nat.not_lt_zero _)⟩, ?_⟩
    rintro n k h n' ⟨j, τ2, rfl, hj, rfl, rfl, rfl, ⟨b1, b2, b3, b4, b5, b6, b7, b8, b9, b10⟩, b11⟩
    refine ⟨fun y => ?_, fun y => ?_⟩
    · have : j = 6 := by have := (nI_leI (by omega) (by omega)).mp y; omega
      subst this
      rw [cp_isKept]
      refine ⟨hB0, ?_⟩
      rw [cz_o]
      have j1 : cS0 g x0 P hp (cuI τ2 28 1).2.2.2.2 A.1.1 A.1.2.1 A.1.2.2.1 := by
        have := i6.1
        unfold cS0 at this ⊢
        show (∀ c, c < 24 → τ2.2.2.2.2.2.2.1 0 c = _) ∧ _ ∧ (∀ c, c < 24 → cFm g x0 hp (τ2.2.2.2.2.2.2.2.2.2.2.1 c) _) ∧ ∀ t, t < 6 → cLy g hp t (τ2.2.2.2.2.2.2.1 1 t) _
        rw [b6 0 (by decide) (by decide), b6 1 (by decide) (by decide), b7]
        exact this
      refine c_formulas i1 j1 (by omega) (hK _ ⟨i1, i2, b2.trans i3, ?_, ?_, ⟨j1, fun q hq => ?_, ?_, ?_⟩, ?_, ?_, ?_, ?_⟩)
      · unfold cBk at i4 ⊢
        show ∀ b, b < 49 → ∃ p : Nat → Prop, cBs (τ2.2.2.2.2.2.2.2.1 b) p
        rw [b7]; exact i4
      · show cDw τ2.2.2.2.2.2.2.2.2.1
        rw [b7]; exact i5
      · have := i6.2.1 q hq
        unfold cWg cKc cKt at this ⊢
        show (q < 24 → (cBs (τ2.2.2.2.2.2.2.2.1 q) _ ∧ cBs (τ2.2.2.2.2.2.2.2.1 (24 + q)) _) ∧ τ2.2.2.2.2.1 14 q = _ ∧ τ2.2.2.2.2.1 13 q = _ ∧ _) ∧ (24 ≤ q → τ2.2.2.2.2.1 15 (q - 24) = _ ∧ _)
        rw [b7, b5 13 (by decide), b5 14 (by decide), b5 15 (by decide)]
        exact this
      · show cOW _ _ τ2.2.2.2.1 _
        rw [b4]; exact i6.2.2.1
      · show ∀ c, c < 24 → _ → τ2.2.2.2.1 c = _
        rw [b4]; exact i6.2.2.2
      · refine Or.inr ⟨show va_up τ2.1 28 1 28 = 1 from va_s, A.1, rfl, fun c hc => b8 c hc, fun c hc => ?_, fun t ht => ?_, ?_, fun c hc hne => ?_⟩
        · show cFm g x0 hp (τ2.2.2.2.2.2.2.1 26 c) _
          rw [b10 c hc]; exact i6.1.2.2.1 c hc
        · show cLy g hp t (τ2.2.2.2.2.2.2.1 27 t) _
          rw [b11 t ht]; exact i6.1.2.2.2 t ht
        · refine ⟨i6.2.2.1.1, fun e he hf => ?_⟩
          show (_ ∧ τ2.2.2.2.2.2.1 25 e = cNaN) ∨ ∃ v, _ ∧ τ2.2.2.2.2.2.1 25 e = _ ∧ _
          rw [b9 e he]; exact i6.2.2.1.2 e he hf
        · show τ2.2.2.2.2.2.1 25 c = _
          rw [b9 c hc]; exact i6.2.2.2 c hc hne
      · unfold cTp at i8 ⊢
        show va_up τ2.1 28 1 20 = _ ∧ _ ∧ ∀ i b, _ → _ ∧ τ2.2.2.2.2.1 19 i = _
        rw [va_o (by decide), b1, b5 19 (by decide)]
        exact i8
      · unfold cRw at i9 ⊢
        have e7 : (cuI τ2 28 1).2.2.2.2.2.2.2 = σ.2.2.2.2.2.2.2 := b7
        rw [e7]; exact i9
      · unfold cSt at i10 ⊢
        show ∀ s, s < 7 → ∃ j, j ≤ M ∧ (τ2.2.2.1 s).2.2 = nI j ∧ ∀ k, k < 24 * cWd s → ∃ i, i ≤ j ∧ (τ2.2.2.1 s).1 3 k = nI i
        rw [b3]; exact i10
    · have hj6 : j < 6 := by
        rcases Nat.lt_or_ge j 6 with w | w
        · exact w
        · exact absurd ((nI_leI (by omega) (by omega)).mpr w) y
      rw [cg_tablesKept, cg_tables, ca_tables]
      refine ⟨vp_in_nI hj6 (by decide), ?_⟩
      intro r er
      rw [nI_clamp (by omega), b6 1 (by decide) (by decide)] at er
      rw [ca_tablesKept]
      have hly := i6.1.2.2.2 j hj6
      rw [← er] at hly
      refine ⟨vp_in_nI hj6 (by decide), by omega, hly.ca i1, ?_⟩
      rintro _ rfl
      rw [nI_clamp (by omega), cu_tablesKept]
      rintro _ rfl
      refine ⟨6 - (j + 1), by omega, j + 1, _, rfl, by omega, nI_1 j, rfl, rfl, ⟨b1, b2, b3, b4, b5, fun k k1 k2 => ?_, b7, b8, b9, fun c hc => ?_⟩, fun t ht => ?_⟩
      · show va_up τ2.2.2.2.2.2.2.1 27 (va_up (τ2.2.2.2.2.2.2.1 27) j r) k = _
        rw [va_o k2]; exact b6 k k1 k2
      · show va_up τ2.2.2.2.2.2.2.1 27 (va_up (τ2.2.2.2.2.2.2.1 27) j r) 26 c = _
        rw [va_o (by decide)]; exact b10 c hc
      · show va_up τ2.2.2.2.2.2.2.1 27 (va_up (τ2.2.2.2.2.2.2.1 27) j r) 27 t = _
        rw [va_s]
        by_cases q : t = j
        · subst q; rw [va_s]; exact er
        · rw [va_o q]; exact b11 t (by omega)
  · have hj24 : j < 24 := by
      rcases Nat.lt_or_ge j 24 with w | w
      · exact w
      · exact absurd ((nI_leI (by omega) (by omega)).mpr w) y
    have cj : (nI j).toNatClampNeg = j := nI_clamp (by omega)
    have ij : vp_in (nI j) 24 := vp_in_nI hj24 (by decide)
    have cellr : ∀ {τ' : cS} {Q : Option Nat → Prop}, τ'.2.2.2.2.2.2.1 0 = σ.2.2.2.2.2.2.1 0 → Q (some (P.1 j)) → zgR (cput g x0 P τ' hp) (some x0) [0] 0 fun r => zaR (g.2.1 7) (cput g x0 P τ' hp) r fun a n f => vp_in (nI j) n ∧ ∀ q : Option Nat, q = f (nI j).toNatClampNeg → Q q := by
      intro τ' Q e hQ
      rw [cg_cells, ca_cells]
      refine ⟨ij, ?_⟩
      intro q eq
      rw [cj, e, i6.1.1 j hj24] at eq
      rw [eq]; exact hQ
    have cellk : ∀ (τ' : cS) {Q : Option Nat → Prop}, τ'.2.2.2.2.2.2.1 0 = σ.2.2.2.2.2.2.1 0 → Q (some (P.1 j)) → zgR (cput g x0 P τ' hp) (some x0) [0] 0 fun r => zaR (g.2.1 7) (cput g x0 P τ' hp) r fun a n f => vp_in (nI j) n ∧ ∀ q : Option Nat, q = f j → Q q := by
      intro τ' Q e hQ
      have h := cellr (τ' := τ') (Q := Q) e hQ
      rw [cj] at h
      exact h
    rw [cg_kindsKept]
    refine cellr (a6 0 (by decide) (by decide)) ?_
    rw [cc_o i1 hj24]
    refine ⟨fun q h n => q = A.1.2.2.1 j ∧ h = cput g x0 P τ hp ∧ nx = n, ?_, c_kd (i1.2.2.1 j hj24).2.2.2 (by omega) ⟨(i6.1.2.1 j hj24).symm, rfl, rfl⟩⟩
    rintro q h n ⟨rfl, rfl, rfl⟩
    rw [ca_kindsKept]
    refine ⟨ij, by omega, ?_⟩
    rintro _ rfl
    rw [cj, cu_kindsKept, cg_ownKept]
    refine cellk _ (a6 0 (by decide) (by decide)) ?_
    rw [cc_w i1 hj24, ca_ownKept]
    refine ⟨ij, by omega, ?_⟩
    rintro _ rfl
    rw [cu_ownKept, cg_formulasKept]
    refine cellk _ (a6 0 (by decide) (by decide)) ?_
    rw [cc_f i1 hj24, ca_formulasKept]
    have eF : τ.2.2.2.2.2.2.2.2.2.2.1 = σ.2.2.2.2.2.2.2.2.2.2.1 := by rw [a7]
    refine ⟨ij, by omega, ?_, ?_⟩
    · intro a ea
      have ea : σ.2.2.2.2.2.2.2.2.2.2.1 j = some a := by rw [← eF]; exact ea
      rcases i6.1.2.2.1 j hj24 with ⟨-, q⟩ | ⟨a', root, nb, as, n, -, q, q2, -⟩
      · rw [q] at ea; cases ea
      · rw [q] at ea; cases ea
        exact ⟨30, _, cput_h i1 q2, by decide⟩
    rintro _ rfl
    rw [cu_formulasKept]
    rintro _ rfl
    refine ⟨24 - (j + 1), by omega, j + 1, _, rfl, by omega, nI_1 j, rfl, rfl, a1, a2, a3, a4, fun k hk => ?_, fun k k1 k2 => ?_, a7, fun c hc => ?_, fun c hc => ?_, fun c hc => ?_⟩
    · show va_up τ.2.2.2.2.1 24 (va_up (τ.2.2.2.2.1 24) j (A.1.2.2.1 j)) k = _
      rw [va_o hk]; exact a5 k hk
    · show va_up τ.2.2.2.2.2.2.1 26 (va_up (τ.2.2.2.2.2.2.1 26) j (τ.2.2.2.2.2.2.2.2.2.2.1 j)) k = _
      rw [va_o k1]; exact a6 k k1 k2
    · show va_up τ.2.2.2.2.1 24 (va_up (τ.2.2.2.2.1 24) j (A.1.2.2.1 j)) 24 c = _
      rw [va_s]
      by_cases q : c = j
      · subst q; rw [va_s]
      · rw [va_o q]; exact a8 c (by omega)
    · show va_up τ.2.2.2.2.2.1 25 (va_up (τ.2.2.2.2.2.1 25) j (τ.2.2.2.1 j)) 25 c = _
      rw [va_s]
      by_cases q : c = j
      · subst q; rw [va_s]
        show τ.2.2.2.1 c = _
        rw [a4]
      · rw [va_o q]; exact a9 c (by omega)
    · show va_up τ.2.2.2.2.2.2.1 26 (va_up (τ.2.2.2.2.2.2.1 26) j (τ.2.2.2.2.2.2.2.2.2.2.1 j)) 26 c = _
      rw [va_s]
      by_cases q : c = j
      · subst q; rw [va_s]
        show τ.2.2.2.2.2.2.2.2.2.2.1 c = _
        rw [eF]
      · rw [va_o q]; exact a10 c (by omega)
/-- count -/
theorem co_count (hI : cINV g x0 P hp σ A M) (hd : 10 ≤ d) {w : Int32} {K : Int32 → zHp → Nat → Prop} (hK : K (o_count A w) (cput g x0 P σ hp) nx) : zMt l g yX0_count cX0_count 7 (some .int) d 0 0 [.ref x0, .int w] (cput g x0 P σ hp) nx (zQi g K) := by
  obtain ⟨d, rfl⟩ := Nat.exists_eq_add_of_le' (show 1 ≤ d by omega)
  obtain ⟨i1, i2, i3, i4, i5, i6, i7, i8, i9, i10⟩ := hI
  have hB0 := i1.1
  have e01 : ¬ (1 : Int32) = 0 := by decide
  have e13 : ¬ (1 : Int32) = 3 := by decide
  have e20 : ¬ (2 : Int32) = 0 := by decide
  have e21 : ¬ (2 : Int32) = 1 := by decide
  have e23 : ¬ (2 : Int32) = 3 := by decide
  have e30 : ¬ (3 : Int32) = 0 := by decide
  unfold o_count at hK
  apply met_X0_count
  unfold wp_X0_count
  refine ⟨fun e => ?_, fun e => ?_, fun e => ?_, fun e => ?_, fun e => ?_⟩
  · rw [if_pos e] at hK
    rw [cz_o]
    exact c_formulas i1 i6.1 (by omega) hK
  · subst e
    rw [if_neg e01, if_neg e13, if_pos rfl] at hK
    rw [cg_cells, cl_cells]
    let q1 : Nat → Prop := fun c => A.1.1 c = [] ∧ A.1.2.2.2 c ≠ none
    refine ⟨fun n s r len k h n' => ∃ j, n = 24 - j ∧ j ≤ 24 ∧ s = nI (s_cn q1 j) ∧ r = some (x0 + 1) ∧ len = nI 24 ∧ k = nI j ∧ h = cput g x0 P σ hp ∧ nx = n', ⟨24, 0, rfl, Nat.zero_le _, rfl, rfl, rfl, rfl, rfl, rfl⟩, ?_⟩
    rintro n s r len k h n' ⟨j, rfl, hj, rfl, rfl, rfl, rfl, rfl, rfl⟩
    refine ⟨fun y => ?_, fun y => ?_⟩
    · have : j = 24 := by have := (nI_leI (by omega) (by omega)).mp y; omega
      subst this
      exact hK
    · have hj24 : j < 24 := by
        rcases Nat.lt_or_ge j 24 with w | w
        · exact w
        · exact absurd ((nI_leI (by omega) (by omega)).mpr w) y
      rw [ca_cells]
      refine ⟨vp_in_nI hj24 (by decide), ?_⟩
      intro q eq
      rw [nI_clamp (by omega), i6.1.1 j hj24] at eq
      subst eq
      rw [cc_o i1 hj24]
      refine ⟨fun q h n => ((q = 1 ∧ A.1.1 j = []) ∨ (q = 0 ∧ A.1.1 j ≠ [])) ∧ h = cput g x0 P σ hp ∧ nx = n, ?_, c_isIn (S := A.1) i1 i6.1 hj24 (by omega) (fun w => ⟨Or.inl ⟨rfl, w⟩, rfl, rfl⟩) (fun w => ⟨Or.inr ⟨rfl, w⟩, rfl, rfl⟩)⟩
      rintro q h n ⟨hq, rfl, rfl⟩
      refine ⟨fun s r len k _ x y h n => r = some (x0 + 1) ∧ len = nI 24 ∧ k = nI j ∧ x = nI (s_cn q1 j) ∧ y = nI (s_if (q1 j) 1 0) ∧ h = cput g x0 P σ hp ∧ nx = n, ?_, ?_⟩
      · rintro s r len k _ x y h n ⟨rfl, rfl, rfl, rfl, rfl, rfl, rfl⟩
        rintro _ rfl
        rintro _ rfl
        exact ⟨24 - (j + 1), by omega, j + 1, rfl, by omega, by rw [nI_add]; rfl, rfl, rfl, nI_1 j, rfl, rfl⟩
      refine ⟨fun s r len k _ x h n => ¬ q1 j ∧ r = some (x0 + 1) ∧ len = nI 24 ∧ k = nI j ∧ x = nI (s_cn q1 j) ∧ h = cput g x0 P σ hp ∧ nx = n, ?_, fun w => ?_, fun w => ?_⟩
      · rintro s r len k _ x h n ⟨hn, rfl, rfl, rfl, rfl, rfl, rfl⟩
        exact ⟨rfl, rfl, rfl, rfl, by rw [s_if_n hn]; rfl, rfl, rfl⟩
      · refine ⟨?_, rfl, rfl, rfl, rfl, rfl, rfl⟩
        rcases hq with ⟨e, -⟩ | ⟨-, e⟩
        · rw [e] at w; exact absurd w (by decide)
        · exact fun z => e z.1
      · have he : A.1.1 j = [] := by
          rcases hq with ⟨-, e⟩ | ⟨e, -⟩
          · exact e
          · exact absurd e w
        rw [cc_o i1 hj24]
        refine ⟨fun q h n => ((q = 1 ∧ A.1.2.2.2 j = none) ∨ (q = 0 ∧ A.1.2.2.2 j ≠ none)) ∧ h = cput g x0 P σ hp ∧ nx = n, ?_, c_isEm (S := A.1) i1 i6.2.2.1 hj24 he (by omega) (fun w => ⟨Or.inl ⟨rfl, w⟩, rfl, rfl⟩) (fun w => ⟨Or.inr ⟨rfl, w⟩, rfl, rfl⟩)⟩
        rintro q h n ⟨hq2, rfl, rfl⟩
        refine ⟨fun w2 => ?_, fun w2 => ?_⟩
        · have : q1 j := by
            rcases hq2 with ⟨e, -⟩ | ⟨-, e⟩
            · rw [e] at w2; exact absurd w2 (by decide)
            · exact ⟨he, e⟩
          exact ⟨rfl, rfl, rfl, rfl, by rw [s_if_p this]; rfl, rfl, rfl⟩
        · refine ⟨?_, rfl, rfl, rfl, rfl, rfl, rfl⟩
          rcases hq2 with ⟨-, e⟩ | ⟨e, -⟩
          · exact fun z => z.2 e
          · exact absurd e w2
  · subst e
    rw [if_neg e20, if_neg e23, if_neg e21, if_pos rfl] at hK
    rw [cg_tables, cl_tables]
    let q1 : Nat → Prop := fun t => A.1.2.1 t ≠ none
    refine ⟨fun n s r len k h n' => ∃ j, n = 6 - j ∧ j ≤ 6 ∧ s = nI (s_cn q1 j) ∧ r = some (x0 + 2) ∧ len = nI 6 ∧ k = nI j ∧ h = cput g x0 P σ hp ∧ nx = n', ⟨6, 0, rfl, Nat.zero_le _, rfl, rfl, rfl, rfl, rfl, rfl⟩, ?_⟩
    rintro n s r len k h n' ⟨j, rfl, hj, rfl, rfl, rfl, rfl, rfl, rfl⟩
    refine ⟨fun y => ?_, fun y => ?_⟩
    · have : j = 6 := by have := (nI_leI (by omega) (by omega)).mp y; omega
      subst this
      exact hK
    · have hj6 : j < 6 := by
        rcases Nat.lt_or_ge j 6 with w | w
        · exact w
        · exact absurd ((nI_leI (by omega) (by omega)).mpr w) y
      rw [ca_tables]
      refine ⟨vp_in_nI hj6 (by decide), ?_⟩
      intro q eq
      rw [nI_clamp (by omega)] at eq
      have hn := i6.1.tn hj6
      refine ⟨fun s r len k _ x y h n => r = some (x0 + 2) ∧ len = nI 6 ∧ k = nI j ∧ x = nI (s_cn q1 j) ∧ y = nI (s_if (q1 j) 1 0) ∧ h = cput g x0 P σ hp ∧ nx = n, ?_, fun w => ?_, fun w => ?_⟩
      · rintro s r len k _ x y h n ⟨rfl, rfl, rfl, rfl, rfl, rfl, rfl⟩
        rintro _ rfl
        rintro _ rfl
        exact ⟨6 - (j + 1), by omega, j + 1, rfl, by omega, by rw [nI_add]; rfl, rfl, rfl, nI_1 j, rfl, rfl⟩
      · have : ¬ q1 j := fun z => z (hn.mp (by rw [← eq]; exact w))
        exact ⟨rfl, rfl, rfl, rfl, by rw [s_if_n this]; rfl, rfl, rfl⟩
      · have : q1 j := fun z => w (by rw [eq]; exact hn.mpr z)
        exact ⟨rfl, rfl, rfl, rfl, by rw [s_if_p this]; rfl, rfl, rfl⟩
  · subst e
    rw [if_neg e30, if_pos rfl] at hK
    rw [cg_taped, i8.1]
    exact hK
  · obtain ⟨e0, e1, e2, e3⟩ := e
    rw [if_neg e0, if_neg e3, if_neg e1, if_neg e2] at hK
    exact hK
end IM
