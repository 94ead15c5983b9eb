set_option maxRecDepth 100000
/-! THE REFERENCE's operations: formula (the sheet's own lemmas) -/
section PF
variable {l : Launch} {g : zG} {d m0 : Nat} {τ τ' τm τ1 τ2 : tS} {hp : zHp} {nx : Nat} {t : List Nat}
/-- the sheet is as it was, names aside -/
def tp12 (τ τ' : tS) : Prop := (∀ k, k < 12 → τ'.2.2.1 k = τ.2.2.1 k) ∧ ∀ k, k < 12 → τ'.2.2.2 k = τ.2.2.2 k
theorem tp12.fm (h : tp12 τ τ') : tfm τ' = tfm τ := by
  funext c
  unfold tfm
  rw [h.1 3 (by decide)]
  congr 1
  funext k
  unfold tmk
  rw [h.1 4 (by decide), h.2 5 (by decide)]
theorem tp12.kd (h : tp12 τ τ') : tkd τ' = tkd τ := by unfold tkd; rw [h.1 0 (by decide)]
theorem tp12.ow (h : tp12 τ τ') : tow τ' = tow τ := by unfold tow; rw [h.1 1 (by decide), h.2 2 (by decide)]
theorem tp12.ax (h : tp12 τ τ') : tax τ' = tax τ := by funext a; unfold tax; rw [h.1 10 (by decide), h.2 11 (by decide)]
theorem tp12.ly (h : tp12 τ τ') : tly τ' = tly τ := by
  funext t
  unfold tly
  rw [h.1 6 (by decide), h.1 7 (by decide), h.1 8 (by decide), h.1 9 (by decide), h.ax]
theorem tp12.st (h : tp12 τ τ') : tst τ' = tst τ := by unfold tst; rw [h.fm, h.ly, h.kd, h.ow]
theorem tSh.p12 (h : tp12 τ τ') (hS : tSh τ) : tSh τ' := by
  obtain ⟨⟨rk, h1, h2, h3, h4, h5, h6, h7, h8⟩, q2, q3⟩ := hS
  refine ⟨⟨rk, ?_, ?_, by rw [h.fm, h.ly]; exact h3, h4, by rw [h.fm]; exact h5, by rw [h.ly]; exact h6, by rw [h.ow]; exact h7, ?_⟩, ⟨by rw [h.2 2 (by decide)]; exact q2.1, by rw [h.2 11 (by decide)]; exact q2.2⟩, by rw [h.st]; exact q3⟩
  · unfold tWc
    rw [h.fm, h.1 3 (by decide), h.1 4 (by decide)]
    exact h1
  · unfold tWt
    rw [h.1 6 (by decide), h.1 7 (by decide), h.1 8 (by decide), h.1 9 (by decide), h.1 10 (by decide)]
    exact h2
  · unfold tBo
    rw [h.1 1 (by decide), h.1 6 (by decide)]
    exact h8
/-- with another formula, nothing else being changed, it's still well formed -/
theorem tOK_fm {rk : Nat → Nat} {c n : Nat} (hO : tOK rk τ) (hc : c < 24)
    (hI : ∀ k i j, k < 12 → ¬ (k = 3 ∧ i = 0 ∧ j = c) → ¬ (k = 4 ∧ i = c) → τm.2.2.1 k i j = τ.2.2.1 k i j)
    (hD : ∀ k i j, k < 12 → ¬ (k = 5 ∧ i = c) → τm.2.2.2 k i j = τ.2.2.2 k i j)
    (hn : n ≤ 96) (hs : τm.2.2.1 3 0 c = nI n) (hmk : ∀ k, k < n → ∃ m, tok m ∧ τm.2.2.1 4 c k = nI m) (hht : n ≠ 0 → s_ht (tfm τm c) 0 = some 1) (hbf : ∀ m ∈ tfm τm c, s_B m.2)
    (hrk : ∃ rk, s_rk (s_up (tfm τ) c (tfm τm c)) (tly τ) rk) : ∃ rk', tOK rk' τm ∧ tfm τm = s_up (tfm τ) c (tfm τm c) ∧ tly τm = tly τ := by
  have eI : ∀ k, k < 12 → k ≠ 3 → k ≠ 4 → τm.2.2.1 k = τ.2.2.1 k := fun k a e f => funext fun i => funext fun j => hI k i j a (fun q => e q.1) (fun q => f q.1)
  have eD : ∀ k, k < 12 → k ≠ 5 → τm.2.2.2 k = τ.2.2.2 k := fun k a e => funext fun i => funext fun j => hD k i j a (fun q => e q.1)
  have eax : tax τm = tax τ := by funext a; unfold tax; rw [eI 10 (by decide) (by decide) (by decide), eD 11 (by decide) (by decide)]
  have ely : tly τm = tly τ := by
    funext t
    unfold tly
    rw [eI 6 (by decide) (by decide) (by decide), eI 7 (by decide) (by decide) (by decide), eI 8 (by decide) (by decide) (by decide), eI 9 (by decide) (by decide) (by decide), eax]
  have eow : tow τm = tow τ := by unfold tow; rw [eI 1 (by decide) (by decide) (by decide), eD 2 (by decide) (by decide)]
  have efx : ∀ y, y ≠ c → tfm τm y = tfm τ y := by
    intro y e
    unfold tfm
    rw [hI 3 0 y (by decide) (by omega) (by omega)]
    congr 1
    funext k
    unfold tmk
    rw [hI 4 y k (by decide) (by omega) (by omega)]
    rw [show τm.2.2.2 5 y = τ.2.2.2 5 y from funext fun j => hD 5 y j (by decide) (by omega)]
  have efm : tfm τm = s_up (tfm τ) c (tfm τm c) := by
    funext y
    by_cases e : y = c
    · subst e; rw [s_up_s]
    · rw [s_up_o e, efx y e]
  have hWc : tWc τm := by
    intro y hy
    by_cases e : y = c
    · subst e; exact ⟨n, hn, hs, hmk, hht⟩
    · obtain ⟨s, a1, a2, a3, a4⟩ := hO.1 y hy
      refine ⟨s, a1, ?_, fun k hk => ?_, ?_⟩
      · rw [hI 3 0 y (by decide) (by omega) (by omega)]; exact a2
      · rw [hI 4 y k (by decide) (by omega) (by omega)]; exact a3 k hk
      · rw [efx y e]; exact a4
  have hmo := hWc.mo
  obtain ⟨rk0, hrk⟩ := hrk
  rw [← efm, ← ely] at hrk
  obtain ⟨rk', r1, r2⟩ := s_rk_small hrk hmo
  refine ⟨rk', ⟨hWc, ?_, r1, r2, ?_, ?_, ?_, ?_⟩, efm, ely⟩
  · unfold tWt
    rw [eI 6 (by decide) (by decide) (by decide), eI 7 (by decide) (by decide) (by decide), eI 8 (by decide) (by decide) (by decide), eI 9 (by decide) (by decide) (by decide), eI 10 (by decide) (by decide) (by decide)]
    exact hO.2.1
  · intro y hy m hm
    by_cases e : y = c
    · subst e; exact hbf m hm
    · rw [efx y e] at hm; exact hO.2.2.2.2.1 y hy m hm
  · rw [ely]; exact hO.2.2.2.2.2.1
  · rw [eow]; exact hO.2.2.2.2.2.2.1
  · unfold tBo
    rw [eI 1 (by decide) (by decide) (by decide), eI 6 (by decide) (by decide) (by decide)]
    exact hO.2.2.2.2.2.2.2
/-- the tape as the reader sees it -/
theorem tTp.tt (h : tTp τ) : tTt τ (ttp τ) ∧ (ttp τ).length ≤ 96 := by
  obtain ⟨n, hn, h34, hb⟩ := h
  have hl := ttp_len hn h34
  refine ⟨⟨by rw [hl]; exact h34, by omega, fun k b hk => ?_⟩, by omega⟩
  unfold ttp at hk
  rw [h34, nI_clamp (by omega), List.getElem?_map] at hk
  by_cases hkn : k < n
  · rw [List.getElem?_range hkn] at hk
    obtain ⟨y, y1, y2⟩ := hb k hkn
    have e : (τ.2.2.1 33 0 k).toNatClampNeg = b := Option.some.inj hk
    rw [y2, nI_clamp (by omega)] at e
    subst e
    exact ⟨y2, y1⟩
  · rw [List.getElem?_eq_none (by simp; omega)] at hk
    cases hk
/-- what was read is a formula -/
theorem p_read_ok {ms : List sM} (ht : t.length ≤ 96) (h : p_read t = .inr ms) : ms.length ≤ 96 ∧ (∀ m ∈ ms, p_mm 0 96 m) ∧ s_ht ms 0 = some 1 := by
  unfold p_read at h
  obtain ⟨q, h1, h2⟩ := p_bd_r h
  obtain ⟨r, h3, h4⟩ := p_bd_r h2
  have h5 : ms = r.2 := by
    split at h4
    · cases h4; rfl
    · cases h4
  subst h5
  have hnx : p_nx t (0, 0, (0, 0, none), 0, 0) = .inr (q.1, q.2.1, q.2.2, 0, 0) := by
    unfold p_nx
    show p_bd (p_next t 0) _ = _
    rw [h1]
    rfl
  obtain ⟨w1, w2, w3⟩ := p_nx_ok (st := (0, 0, (0, 0, none), 0, 0)) (Nat.zero_le _) (Nat.zero_le _) (Nat.zero_le _) hnx
  obtain ⟨g1, g2, g3, g4, g5, g6, g7, g8⟩ := p_good ht 800 5 _ r w1 (Or.inl (by omega)) h3
  have hb := g1.2.1
  have hf := g1.2.2.2
  refine ⟨by omega, fun m hm => (g7 m hm).w (Nat.le_refl _) (by omega), ?_⟩
  rw [p_hh1 (by omega)] at g8
  exact g8 0
/-- the marks that were read, put in a cell's row, are its formula -/
theorem tfm_rd {ms : List sM} {c : Nat} (hc : c < 24) (hl : ms.length ≤ 96) (hp' : ∀ m ∈ ms, p_mm 0 96 m) (hM : tMk τ ms) (h3 : τm.2.2.1 3 0 c = nI ms.length) (h4 : ∀ j, j < 96 → τm.2.2.1 4 c j = τ.2.2.1 35 0 j) (h5 : ∀ j, j < 96 → τm.2.2.2 5 c j = τ.2.2.2 36 0 j) : tfm τm c = ms := by
  rw [tfm_len h3 hl]
  apply List.ext_getElem?
  intro k
  by_cases hk : k < ms.length
  · rw [List.getElem?_map, List.getElem?_range hk, List.getElem?_eq_getElem hk]
    have hm := List.getElem?_eq_getElem hk
    obtain ⟨m, hme⟩ : ∃ m, m = ms[k] := ⟨_, rfl⟩
    rw [← hme] at hm ⊢
    obtain ⟨a1, a2⟩ := hM k m hm
    obtain ⟨b1, b2, b3, b4⟩ := hp' m (List.mem_of_getElem? hm)
    have hmb : m.1 < 1000 := by rcases b1 with h | h | h | h <;> omega
    show some (tmk τm c k) = some m
    congr 1
    unfold tmk
    rw [h4 k (by omega), a1, nI_clamp (by omega)]
    by_cases hq : 100 ≤ m.1 ∧ m.1 < 200
    · have := b3 hq.1 hq.2
      rw [if_pos hq, h5 _ (by omega), a2 hq.1 hq.2]
    · rw [if_neg hq]
      have e := b4 (by omega)
      exact Prod.ext rfl e.symm
  · rw [List.getElem?_eq_none (by simp; omega), List.getElem?_eq_none (by omega)]
/-- rings: the least closed set of what is named -/
theorem s_ring_iff {fm : sF} {ly : sY} {rk : Nat → Nat} {ms : List sM} {c : Nat} {fr S : Int32} (hr : s_rk fm ly rk) (hb : ∀ x, x < 30 → rk x < 30) (hmo : s_mo fm) (hc : c < 24) (htk : ∀ m ∈ ms, tok m.1) (hfr : ∀ k, bs fr k = true ↔ s_nn ms k) (h1 : ∀ k, bs fr k = true → bs S k = true) (h2 : s_cl fm ly (fun k => bs S k = true)) (h3 : ∀ P : Nat → Prop, s_cl fm ly P → (∀ k, bs fr k = true → P k) → ∀ k, bs S k = true → P k) : bs S c = true ↔ ¬ ∃ rk', s_rk (s_up fm c ms) ly rk' := by
  have hnm : s_nm ms (fun k => bs S k = true) := fun m hm => ⟨fun h => h1 _ ((hfr _).mpr ⟨m, hm, Or.inl ⟨h, rfl⟩⟩), fun h => h1 _ ((hfr _).mpr ⟨m, hm, Or.inr ⟨h, rfl⟩⟩)⟩
  constructor
  · rintro hS ⟨rk', hr'⟩
    refine s_ring_yes hc hr' (S := fun k => bs S k = true) (fun P hP hN x hx => h3 P hP (fun k hk => ?_) x hx) hS
    obtain ⟨m, hm, hq⟩ := (hfr k).mp hk
    rcases hq with ⟨q1, q2⟩ | ⟨q1, q2⟩
    · rw [q2]; exact (hN m hm).1 q1
    · rw [q2]; exact (hN m hm).2 q1
  · intro hno
    cases hS : bs S c with
    | true => rfl
    | false =>
      exfalso
      refine hno (s_ring_no hr hb hmo h2 hnm (fun m hm h => ?_) (by rw [hS]; decide))
      rcases htk m hm with q | q | q | q <;> omega
end PF
