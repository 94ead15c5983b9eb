set_option maxRecDepth 100000
/-! states that are alike in range (image, back) -/
section UO
variable {l : Launch} {g : zG} {d m0 : Nat} {τ τ' τm τ1 τ2 : tS} {hp : zHp} {nx : Nat}
def s_rg (S S' : sSt) : Prop := (∀ c, c < 24 → S.1 c = S'.1 c) ∧ (∀ t, t < 6 → S.2.1 t = S'.2.1 t) ∧ (∀ c, c < 24 → S.2.2.1 c = S'.2.2.1 c) ∧ ∀ c, c < 24 → S.2.2.2 c = S'.2.2.2 c
theorem s_re_rg {fm fm' : sF} (h : ∀ c, c < 24 → fm c = fm' c) : ∀ n c, c < 24 → ∀ x, s_re fm n c x ↔ s_re fm' n c x := by
  intro n
  induction n with
  | zero => intro c _ x; exact Iff.rfl
  | succ n ih =>
    intro c hc x
    show s_rs _ fm c x ↔ s_rs _ fm' c x
    unfold s_rs
    rw [h c hc]
    constructor
    · rintro (q | ⟨m, hm, h24, q⟩)
      · exact Or.inl q
      · exact Or.inr ⟨m, hm, h24, (ih m.1 h24 x).mp q⟩
    · rintro (q | ⟨m, hm, h24, q⟩)
      · exact Or.inl q
      · exact Or.inr ⟨m, hm, h24, (ih m.1 h24 x).mpr q⟩
theorem s_bu_rg {fm fm' : sF} {ly ly' : sY} (hf : ∀ c, c < 24 → fm c = fm' c) (hl : ∀ t, t < 6 → ly t = ly' t) (hmo : s_mo fm) (ho : ∀ t, t < 6 → ∀ L, ly t = some L → L.1 < 24) : ∀ n c, c < 24 → s_bu fm ly n c = s_bu fm' ly' n c := by
  intro n
  induction n with
  | zero => intro c _; rfl
  | succ n ih =>
    intro c hc
    show s_bs _ fm ly c = s_bs _ fm' ly' c
    unfold s_bs
    refine s_sm_congr fun k hk => ?_
    have e1 : s_ld (s_bu fm ly n) fm ly k = s_ld (s_bu fm' ly' n) fm' ly' k := by
      unfold s_ld
      rw [← hf k hk]
      congr 2
      refine List.map_congr_left (fun m hm => ?_)
      by_cases h3 : 300 ≤ m.1
      · simp only [if_pos h3]
        have h6 := hmo k hk m hm h3
        rw [← hl _ h6]
        cases hL : ly (m.1 % 10) with
        | none => rfl
        | some L => simp only; rw [ih L.1 (ho _ h6 L hL)]
      · simp only [if_neg h3]
    rw [e1]
    refine s_if_iff ?_
    unfold s_RE
    rw [hf k hk, s_re_rg hf 31 c hc k]
theorem s_tm_rg {fm fm' : sF} {ly ly' : sY} (hf : ∀ c, c < 24 → fm c = fm' c) (hl : ∀ t, t < 6 → ly t = ly' t) (hmo : s_mo fm) (ho : ∀ t, t < 6 → ∀ L, ly t = some L → L.1 < 24) : s_tm fm ly ↔ s_tm fm' ly' := by
  have e : ∀ c, c < 24 → s_BU fm ly c = s_BU fm' ly' c := s_bu_rg hf hl hmo ho 31
  unfold s_tm
  constructor
  · rintro (⟨c, hc, q⟩ | ⟨t, ht, L, hL, q⟩)
    · exact Or.inl ⟨c, hc, by rw [← e c hc]; exact q⟩
    · exact Or.inr ⟨t, ht, L, by rw [← hl t ht]; exact hL, by rw [← e _ (ho t ht L hL)]; exact q⟩
  · rintro (⟨c, hc, q⟩ | ⟨t, ht, L, hL, q⟩)
    · exact Or.inl ⟨c, hc, by rw [e c hc]; exact q⟩
    · rw [← hl t ht] at hL
      exact Or.inr ⟨t, ht, L, hL, by rw [e _ (ho t ht L hL)]; exact q⟩
/-- two states whose sheets' arrays are alike in range -/
def tRg (τ τm : tS) : Prop := (∀ k, (k = 0 ∨ k = 1 ∨ k = 3) → ∀ c, c < 24 → τm.2.2.1 k 0 c = τ.2.2.1 k 0 c) ∧ (∀ c, c < 24 → ∀ j, j < 96 → τm.2.2.1 4 c j = τ.2.2.1 4 c j) ∧ (∀ k, (k = 6 ∨ k = 7 ∨ k = 8 ∨ k = 9) → ∀ t, t < 6 → τm.2.2.1 k 0 t = τ.2.2.1 k 0 t) ∧ (∀ a, a < 12 → τm.2.2.1 10 0 a = τ.2.2.1 10 0 a) ∧ (∀ c, c < 24 → τm.2.2.2 2 0 c = τ.2.2.2 2 0 c) ∧ (∀ c, c < 24 → ∀ j, j < 96 → τm.2.2.2 5 c j = τ.2.2.2 5 c j) ∧ ∀ a, a < 12 → ∀ j, j < 8 → τm.2.2.2 11 a j = τ.2.2.2 11 a j
theorem tRg.st (h : tRg τ τm) (hc : tWc τ) (ht : tWt τ) : s_rg (tst τm) (tst τ) := by
  obtain ⟨r1, r2, r3, r4, r5, r6, r7⟩ := h
  have ax : ∀ a n, a < 12 → n ≤ 8 → τ.2.2.1 10 0 a = nI n → tax τm a = tax τ a := by
    intro a n ha hn e
    unfold tax
    rw [r4 a ha, e, nI_clamp (by omega)]
    exact List.map_congr_left fun k hk => r7 a ha k (by have := List.mem_range.mp hk; omega)
  refine ⟨fun c hcc => ?_, fun t htt => ?_, fun c hcc => r1 0 (by omega) c hcc, fun c hcc => ?_⟩
  · show tfm τm c = tfm τ c
    obtain ⟨n, hn, e3, e4, _⟩ := hc c hcc
    rw [tfm_len e3 hn, tfm_len (n := n) (by rw [r1 3 (by omega) c hcc]; exact e3) hn]
    refine List.map_congr_left fun k hk => ?_
    have hk := List.mem_range.mp hk
    obtain ⟨m, hm, em⟩ := e4 k hk
    unfold tmk
    rw [r2 c hcc k (by omega), em, nI_clamp (by unfold tok at hm; omega)]
    by_cases q : 100 ≤ m ∧ m < 200
    · rw [if_pos q, if_pos q, r6 c hcc (m - 100) (by unfold tok at hm; omega)]
    · rw [if_neg q, if_neg q]
  · show tly τm t = tly τ t
    unfold tly
    rw [r3 6 (by omega) t htt, r3 7 (by omega) t htt, r3 8 (by omega) t htt, r3 9 (by omega) t htt]
    by_cases q : τ.2.2.1 6 0 t = 0
    · rw [if_pos q, if_pos q]
    · obtain ⟨o, a, n, _, _, _, hn, _, _, e10, q9⟩ := ht t htt q
      rw [if_neg q, if_neg q, ax (2 * t) n (by omega) hn e10]
      rcases q9 with q9 | ⟨b, m, _, _, _, hm, e9, e11⟩
      · rw [if_pos q9, if_pos q9, if_pos q9]
      · rw [ax (2 * t + 1) m (by omega) hm e11]
  · show tow τm c = tow τ c
    unfold tow
    rw [r1 1 (by omega) c hcc, r5 c hcc]
theorem tRg.sh (h : tRg τ τm) (hS : tSh τ) (hBO : s_BO (tow τm)) : tSh τm := by
  obtain ⟨⟨rk, hO⟩, hnb, hx⟩ := hS
  obtain ⟨s1, s2, s3, s4⟩ := h.st hO.1 hO.2.1
  have s1 : ∀ c, c < 24 → tfm τm c = tfm τ c := s1
  have s2 : ∀ t, t < 6 → tly τm t = tly τ t := s2
  have s3 : ∀ c, c < 24 → tkd τm c = tkd τ c := s3
  have s4 : ∀ c, c < 24 → tow τm c = tow τ c := s4
  obtain ⟨r1, r2, r3, r4, r5, r6, r7⟩ := h
  have Wc : tWc τm := by
    intro c hc
    obtain ⟨n, hn, e3, e4, e5⟩ := hO.1 c hc
    exact ⟨n, hn, by rw [r1 3 (by omega) c hc]; exact e3, fun k hk => by rw [r2 c hc k (by omega)]; exact e4 k hk, by rw [s1 c hc]; exact e5⟩
  refine ⟨⟨rk, Wc, ?_, ?_, hO.2.2.2.1, ?_, ?_, hBO, ?_, ?_⟩, ⟨fun c hc => by rw [r5 c hc]; exact hnb.1 c hc, fun a j ha hj => by rw [r7 a ha j hj]; exact hnb.2 a j ha hj⟩, ?_⟩
  · intro t ht q
    rw [r3 6 (by omega) t ht] at q
    rw [r3 7 (by omega) t ht, r3 8 (by omega) t ht, r3 9 (by omega) t ht, r4 (2 * t) (by omega), r4 (2 * t + 1) (by omega)]
    exact hO.2.1 t ht q
  · obtain ⟨k1, k2, k3⟩ := hO.2.2.1
    exact ⟨fun c hc => by rw [s1 c hc]; exact k1 c hc, fun c hc => by rw [s1 c hc]; exact k2 c hc, fun t ht => by rw [s2 t ht]; exact k3 t ht⟩
  · intro c hc; rw [s1 c hc]; exact hO.2.2.2.2.1 c hc
  · intro t ht; rw [s2 t ht]; exact hO.2.2.2.2.2.1 t ht
  · intro c hc; rw [r1 1 (by omega) c hc]; exact hO.2.2.2.2.2.2.2.1 c hc
  · intro t ht; rw [r3 6 (by omega) t ht]; exact hO.2.2.2.2.2.2.2.2 t ht
  · obtain ⟨x1, x2, x3, x4, x5⟩ := hx
    have x1 : ∀ c, c < 24 → ∃ k, k ≤ 5 ∧ tkd τ c = nI k := x1
    have x2 : ∀ c, c < 24 → tfm τ c ≠ [] → tow τ c = none := x2
    have x3 : ∀ c, c < 24 → ∀ v, tow τ c = some v → s_kp (tkd τ c) v = v := x3
    have x4 : ∀ t, t < 6 → ∀ L, tly τ t = some L → tfm τ L.2.1 = [] ∧ ∀ b, L.2.2.1 = some b → tfm τ b = [] := x4
    have x5 : ¬ s_tm (tfm τ) (tly τ) := x5
    refine ⟨?_, ?_, ?_, ?_, ?_⟩
    · show ∀ c, c < 24 → ∃ k, k ≤ 5 ∧ tkd τm c = nI k
      intro c hc; rw [s3 c hc]; exact x1 c hc
    · show ∀ c, c < 24 → tfm τm c ≠ [] → tow τm c = none
      intro c hc; rw [s1 c hc, s4 c hc]; exact x2 c hc
    · show ∀ c, c < 24 → ∀ v, tow τm c = some v → s_kp (tkd τm c) v = v
      intro c hc; rw [s3 c hc, s4 c hc]; exact x3 c hc
    · show ∀ t, t < 6 → ∀ L, tly τm t = some L → tfm τm L.2.1 = [] ∧ ∀ b, L.2.2.1 = some b → tfm τm b = []
      intro t ht L hL
      rw [s2 t ht] at hL
      obtain ⟨_, lo, la, _, _, _, _, hot⟩ := tly_some hO.2.1 ht hL
      obtain ⟨p, q⟩ := x4 t ht L hL
      refine ⟨by rw [s1 _ la]; exact p, fun b hb => ?_⟩
      rcases hot with ⟨_, n9, _⟩ | ⟨b', hb', _, _, _, _, _, _, s9, _⟩
      · rw [n9] at hb; cases hb
      · rw [s9] at hb; cases hb; rw [s1 _ hb']; exact q _ s9
    · show ¬ s_tm (tfm τm) (tly τm)
      intro q
      exact x5 ((s_tm_rg (fun c hc => (s1 c hc).symm) (fun t ht => (s2 t ht).symm) hO.1.mo (fun t ht L hL => (hO.2.2.1.2.2 t ht L hL).1)).mpr q)
end UO
