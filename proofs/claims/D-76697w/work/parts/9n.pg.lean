set_option maxRecDepth 100000
/-! what the parser gives is well formed -/
section PG
variable {t : List Nat} {R : Nat → pS → pQ} {st : pS} {q : pS × List sM}
def p_cd (c : Nat) : Prop := c ≤ 5 ∨ (11 ≤ c ∧ c ≤ 13) ∨ (21 ≤ c ∧ c ≤ 23)
def p_hh (c : Nat) (ms : List sM) : Prop := ∀ h, if c = 2 ∨ c = 4 then s_ht ms (h + 1) = some (h + 1) else if c < 20 then s_ht ms h = some (h + (if 10 ≤ c then c - 10 else 1)) else s_ht ms h = some (h + (c - 20))
def p_mm (lo hi : Nat) (m : sM) : Prop := tok m.1 ∧ s_B m.2 ∧ (100 ≤ m.1 → m.1 < 200 → lo ≤ m.1 - 100 ∧ m.1 - 100 < hi) ∧ ((m.1 < 100 ∨ 200 ≤ m.1) → m.2 = 0)
theorem p_mm.w {lo hi lo' hi' : Nat} {m : sM} (h : p_mm lo hi m) (h1 : lo' ≤ lo) (h2 : hi ≤ hi') : p_mm lo' hi' m := ⟨h.1, h.2.1, fun a b => by have := h.2.2.1 a b; omega, h.2.2.2⟩
theorem p_mm.z {lo hi k : Nat} (h : tok k) (h2 : k < 100 ∨ 200 ≤ k) : p_mm lo hi (k, 0) := ⟨h, fk_B0, fun a b => by dsimp only at a b; omega, fun _ => rfl⟩
def p_G (t : List Nat) (c : Nat) (st : pS) (q : pS × List sM) : Prop := p_wf t q.1 ∧ q.1.2.2.2.1 = st.2.2.2.1 ∧ st.2.1 + (if c = 2 ∨ c = 4 then 0 else 1) ≤ q.1.2.1 ∧ q.2.length + st.2.1 ≤ q.1.2.1 ∧ st.2.2.2.2 ≤ q.1.2.2.2.2 ∧ q.1.2.2.2.2 + st.2.1 ≤ q.1.2.1 + st.2.2.2.2 ∧ (∀ m ∈ q.2, p_mm st.2.2.2.2 q.1.2.2.2.2 m) ∧ p_hh c q.2
theorem ht_1 {m h k : Nat} {v : UInt64} (hm : s_h1 m h = some k) : s_ht [(m, v)] h = some k := by
  simp [s_ht, hm]
theorem ht_a {a b : List sM} {h k j : Nat} (h1 : s_ht a h = some k) (h2 : s_ht b k = some j) : s_ht (a ++ b) h = some j := by
  rw [s_ht_append, h1]
  exact h2
theorem ht_c {m : sM} {b : List sM} {h k j : Nat} (h1 : s_h1 m.1 h = some k) (h2 : s_ht b k = some j) : s_ht (m :: b) h = some j := by
  have : m :: b = [m] ++ b := rfl
  rw [this]
  exact ht_a (ht_1 (v := m.2) h1) h2
theorem h1_p {m h : Nat} (hm : m < 200 ∨ 300 ≤ m) : s_h1 m h = some (h + 1) := by unfold s_h1; rw [if_pos hm]
theorem h1_n {h : Nat} : s_h1 200 (h + 1) = some (h + 1) := by unfold s_h1; rw [if_neg (by omega), if_pos rfl, if_pos (by omega)]
theorem h1_t {h : Nat} : s_h1 210 (h + 3) = some (h + 1) := by unfold s_h1; rw [if_neg (by omega), if_neg (by omega), if_pos rfl, if_pos (by omega)]; rfl
theorem h1_2 {m h : Nat} (h1 : 201 ≤ m) (h2 : m ≤ 209) : s_h1 m (h + 2) = some (h + 1) := by unfold s_h1; rw [if_neg (by omega), if_neg (by omega), if_neg (by omega), if_pos (by omega)]; rfl
theorem p_hh1 {c : Nat} {ms : List sM} (hc : c = 0 ∨ c = 1 ∨ c = 3 ∨ c = 5 ∨ c = 11 ∨ c = 21) : p_hh c ms ↔ ∀ h, s_ht ms h = some (h + 1) := by
  unfold p_hh
  rcases hc with rfl | rfl | rfl | rfl | rfl | rfl <;> rfl
theorem p_hhl {c : Nat} {ms : List sM} (hc : c = 2 ∨ c = 4) : p_hh c ms ↔ ∀ h, s_ht ms (h + 1) = some (h + 1) := by
  unfold p_hh
  simp only [if_pos hc]
theorem p_hhp {c : Nat} {ms : List sM} (h1 : 11 ≤ c) (h2 : c ≤ 13) : p_hh c ms ↔ ∀ h, s_ht ms h = some (h + (c - 10)) := by
  unfold p_hh
  rw [if_pos (show 10 ≤ c by omega)]
  simp only [if_neg (show ¬ (c = 2 ∨ c = 4) by omega), if_pos (show c < 20 by omega)]
theorem p_hhs {c : Nat} {ms : List sM} (h1 : 21 ≤ c) : p_hh c ms ↔ ∀ h, s_ht ms h = some (h + (c - 20)) := by
  unfold p_hh
  simp only [if_neg (show ¬ (c = 2 ∨ c = 4) by omega), if_neg (show ¬ c < 20 by omega)]
theorem p_wf.at (h : p_wf t st) : st.2.1 ≤ st.1 ∧ st.1 ≤ t.length ∧ (st.2.2.1.1 ≠ 0 → st.2.1 < st.1) ∧ (st.2.2.1.1 = 0 → st.1 = st.2.1 ∧ st.2.1 = t.length) ∧ st.2.2.1.1 ≤ 5 ∧ (st.2.2.1.1 = 1 → st.2.2.1.2.1 < 24) ∧ (st.2.2.1.1 = 4 → st.2.2.1.2.1 < 8) ∧ (st.2.2.1.1 = 2 → st.2.2.1.2.1 < 10000 ∧ ∀ x, st.2.2.1.2.2 = some x → x < 1000) := p_tok_ok h.2.1 h.1
theorem p_is_3 {c : Nat} (h : p_is st c = true) : st.2.2.1.1 = 3 := by
  unfold p_is at h
  simp only [Bool.and_eq_true, beq_iff_eq] at h
  exact h.1
theorem p_nx_ok {s : pS} (hat : st.1 ≤ t.length) (ho : st.2.2.2.1 ≤ 4) (hf : st.2.2.2.2 ≤ st.1) (h : p_nx t st = .inr s) : p_wf t s ∧ st.1 ≤ s.2.1 ∧ s.2.2.2 = st.2.2.2 := by
  unfold p_nx at h
  obtain ⟨r, h1, h2⟩ := p_bd_r h
  cases h2
  unfold p_next at h1
  have ge := p_run_ge (P := p_sp) (t := t) (k := st.1)
  have le := p_run_le (P := p_sp) hat
  generalize p_run p_sp t st.1 = b at h1 ge le
  cases hk : p_tok t b with
  | none => rw [hk] at h1; cases h1
  | some k =>
    rw [hk] at h1
    cases h1
    exact ⟨⟨hk, le, ho, Nat.le_trans hf ge⟩, ge, rfl⟩
/-- one more token -/
theorem p_nx_wf {s : pS} (hw : p_wf t st) (h3 : st.2.2.1.1 ≠ 0) (h : p_nx t st = .inr s) : p_wf t s ∧ st.2.1 < s.2.1 ∧ s.2.2.2 = st.2.2.2 := by
  have a := hw.at
  have b := a.2.2.1 h3
  obtain ⟨r1, r2, r3⟩ := p_nx_ok a.2.1 hw.2.2.1 (Nat.le_trans hw.2.2.2 a.1) h
  exact ⟨r1, by omega, r3⟩
theorem p_op_wf {s : pS} (hw : p_wf t st) (h3 : st.2.2.1.1 ≠ 0) (h : p_op t st = .inr s) : p_wf t s ∧ st.2.1 < s.2.1 ∧ s.2.2.2.1 = st.2.2.2.1 + 1 ∧ s.2.2.2.2 = st.2.2.2.2 ∧ st.2.2.2.1 ≠ 4 := by
  unfold p_op at h
  by_cases h4 : st.2.2.2.1 = 4
  · rw [if_pos h4] at h; cases h
  · rw [if_neg h4] at h
    have a := hw.at
    have b := a.2.2.1 h3
    have c := hw.2.2.1
    obtain ⟨r1, r2, r3⟩ := p_nx_ok (st := p_wo st (st.2.2.2.1 + 1) st.2.2.2.2) a.2.1 (by (try simp [p_wo]) <;> omega) (Nat.le_trans hw.2.2.2 a.1) h
    have r2 : st.1 ≤ s.2.1 := r2
    exact ⟨r1, by omega, by rw [r3]; rfl, by rw [r3]; rfl, h4⟩
theorem p_fig_B {w : Nat} {b : Option Nat} : s_B (p_fig w b) := by
  unfold p_fig
  cases b with
  | none => exact fb_i2d
  | some x =>
    have e : (4652007308841189376 : UInt64) = UInt64.ofNat (FP.Core.fromInt FP.Core.b64 1000) := by decide +kernel
    simp only
    rw [e]
    exact fb_divI fb_i2d (by decide) (by decide)
def p_ih (t : List Nat) (R : Nat → pS → pQ) : Prop := ∀ c st q, p_wf t st → p_cd c → R c st = .inr q → p_G t c st q
theorem p_one_ok (ht : t.length ≤ 96) (ih : p_ih t R) (hw : p_wf t st) (h : p_one R t st = .inr q) : p_G t 0 st q := by
  have a := hw.at
  have w4 := hw.2.2.2
  unfold p_one at h
  by_cases k2 : st.2.2.1.1 = 2
  · rw [if_pos k2] at h
    obtain ⟨s, h1, h2⟩ := p_bd_r h
    cases h2
    have b := a.2.2.1 (by omega)
    obtain ⟨r1, r2, r3⟩ := p_nx_ok (st := p_wo st st.2.2.2.1 (st.2.2.2.2 + 1)) a.2.1 hw.2.2.1 (by (try simp [p_wo]) <;> omega) h1
    have r2 : st.1 ≤ s.2.1 := r2
    have f : s.2.2.2.2 = st.2.2.2.2 + 1 := by rw [r3]; rfl
    refine ⟨r1, by rw [r3]; rfl, by (try simp [p_wo]) <;> omega, by (try simp [p_wo]) <;> omega, by (try simp [p_wo]) <;> omega, by (try simp [p_wo]) <;> omega, fun m hm => ?_, ?_⟩
    · rw [List.mem_singleton] at hm
      subst hm
      exact ⟨Or.inr (Or.inl ⟨by dsimp only; omega, by dsimp only; omega⟩), p_fig_B, fun _ _ => ⟨by dsimp only; omega, by dsimp only; omega⟩, fun h => by dsimp only at h; omega⟩
    · exact (p_hh1 (by omega)).mpr fun h => ht_1 (h1_p (by omega))
  rw [if_neg k2] at h
  by_cases k1 : st.2.2.1.1 = 1
  · rw [if_pos k1] at h
    obtain ⟨s, h1, h2⟩ := p_bd_r h
    cases h2
    obtain ⟨r1, r2, r3⟩ := p_nx_wf hw (by omega) h1
    have f : s.2.2.2.2 = st.2.2.2.2 := by rw [r3]
    have c24 := a.2.2.2.2.2.1 k1
    refine ⟨r1, by rw [r3], by (try simp [p_wo]) <;> omega, by (try simp [p_wo]) <;> omega, by (try simp [p_wo]) <;> omega, by (try simp [p_wo]) <;> omega, fun m hm => ?_, ?_⟩
    · rw [List.mem_singleton] at hm
      subst hm
      exact p_mm.z (Or.inl c24) (by omega)
    · exact (p_hh1 (by omega)).mpr fun h => ht_1 (h1_p (by omega))
  rw [if_neg k1] at h
  by_cases k4 : st.2.2.1.1 = 4
  · rw [if_pos k4] at h
    have c8 := a.2.2.2.2.2.2.1 k4
    by_cases w5 : st.2.2.1.2.1 < 5
    · rw [if_pos w5] at h
      obtain ⟨s, h1, h2⟩ := p_bd_r h
      obtain ⟨r1, r2, r3⟩ := p_nx_wf hw (by omega) h1
      by_cases k5 : s.2.2.1.1 = 2 ∧ s.2.2.1.2.2 = none ∧ s.2.2.1.2.1 < 6
      · rw [if_pos k5] at h2
        obtain ⟨s2, h3, h4⟩ := p_bd_r h2
        cases h4
        obtain ⟨q1, q2, q3⟩ := p_nx_wf r1 (by omega) h3
        have f : s2.2.2.2.2 = st.2.2.2.2 := by rw [q3, r3]
        refine ⟨q1, by rw [q3, r3], by (try simp [p_wo]) <;> omega, by (try simp [p_wo]) <;> omega, by (try simp [p_wo]) <;> omega, by (try simp [p_wo]) <;> omega, fun m hm => ?_, ?_⟩
        · rw [List.mem_singleton] at hm
          subst hm
          exact p_mm.z (Or.inr (Or.inr (Or.inr ⟨by omega, by omega, by omega⟩))) (by omega)
        · exact (p_hh1 (by omega)).mpr fun h => ht_1 (h1_p (by omega))
      · rw [if_neg k5] at h2; cases h2
    · rw [if_neg w5] at h
      obtain ⟨s, h1, h2⟩ := p_bd_r h
      obtain ⟨r1, r2, r3⟩ := p_nx_wf hw (by omega) h1
      obtain ⟨q0, h3, h4⟩ := p_bd_r h2
      cases h4
      have hcd : p_cd (if st.2.2.1.2.1 = 5 then 13 else 12) := by split <;> (right; left; omega)
      obtain ⟨g1, g2, g3, g4, g5, g6, g7, g8⟩ := ih _ s q0 r1 hcd h3
      have f : s.2.2.2.2 = st.2.2.2.2 := by rw [r3]
      have g3' : s.2.1 ≤ q0.1.2.1 := by omega
      refine ⟨g1, by rw [g2, r3], by (try simp [p_wo]) <;> omega, by rw [List.length_append]; (try simp [p_wo]) <;> omega, by rw [← f]; exact g5, by (try simp [p_wo]) <;> omega, fun m hm => ?_, ?_⟩
      · rw [List.mem_append, List.mem_singleton] at hm
        rcases hm with hm | hm
        · rw [← f]; exact g7 m hm
        · subst hm
          have : tok (if st.2.2.1.2.1 = 5 then 210 else if st.2.2.1.2.1 = 6 then 208 else 209) := by
            right; right; left
            split
            · omega
            · split <;> omega
          refine p_mm.z this ?_
          right
          split
          · omega
          · split <;> omega
      · rw [p_hh1 (by omega)]
        intro h
        by_cases e5 : st.2.2.1.2.1 = 5
        · rw [if_pos e5] at g8 ⊢
          rw [p_hhp (by omega) (by omega)] at g8
          exact ht_a (g8 h) (ht_1 h1_t)
        · rw [if_neg e5] at g8 ⊢
          rw [p_hhp (by omega) (by omega)] at g8
          refine ht_a (g8 h) (ht_1 (h1_2 ?_ ?_))
          · split <;> omega
          · split <;> omega
  rw [if_neg k4] at h
  by_cases km : p_is st 45 = true
  · rw [if_pos km] at h
    obtain ⟨s, h1, h2⟩ := p_bd_r h
    obtain ⟨r1, r2, r3, r4, r5⟩ := p_op_wf hw (by rw [p_is_3 km]; decide) h1
    obtain ⟨q0, h3, h4⟩ := p_bd_r h2
    cases h4
    obtain ⟨g1, g2, g3, g4, g5, g6, g7, g8⟩ := ih _ s q0 r1 (Or.inl (by omega)) h3
    have g3' : s.2.1 ≤ q0.1.2.1 := by omega
    refine ⟨⟨g1.1, g1.2.1, by have := g1.2.2.1; (try simp [p_wo]) <;> omega, g1.2.2.2⟩, by (try simp [p_wo]) <;> omega, by (try simp [p_wo]) <;> omega, by rw [List.length_append]; (try simp [p_wo]) <;> omega, by (try simp [p_wo]) <;> omega, by (try simp [p_wo]) <;> omega, fun m hm => ?_, ?_⟩
    · rw [List.mem_append, List.mem_singleton] at hm
      rcases hm with hm | hm
      · rw [← r4]; exact g7 m hm
      · subst hm
        exact p_mm.z (Or.inr (Or.inr (Or.inl ⟨by omega, by omega⟩))) (by omega)
    · rw [p_hh1 (by omega)] at g8 ⊢
      intro h
      exact ht_a (g8 h) (ht_1 h1_n)
  rw [if_neg km] at h
  by_cases ko : p_is st 40 = true
  · rw [if_pos ko] at h
    obtain ⟨g1, g2, g3, g4, g5, g6, g7, g8⟩ := ih _ st q hw (Or.inr (Or.inl ⟨by omega, by omega⟩)) h
    refine ⟨g1, g2, g3, g4, g5, g6, g7, ?_⟩
    rw [p_hh1 (by omega)] at g8 ⊢
    exact g8
  rw [if_neg ko] at h
  cases h
theorem p_chn_ok {c a b : Nat} (hc : (c = 1 ∧ a = 0 ∧ b = 2) ∨ (c = 3 ∧ a = 1 ∧ b = 4)) (ih : p_ih t R) (hw : p_wf t st) (h : p_chn R a b st = .inr q) : p_G t c st q := by
  unfold p_chn at h
  obtain ⟨q1, h1, h2⟩ := p_bd_r h
  obtain ⟨q2, h3, h4⟩ := p_bd_r h2
  cases h4
  obtain ⟨g1, g2, g3, g4, g5, g6, g7, g8⟩ := ih a st q1 hw (Or.inl (by omega)) h1
  obtain ⟨k1, k2, k3, k4, k5, k6, k7, k8⟩ := ih b q1.1 q2 g1 (Or.inl (by omega)) h3
  rw [if_neg (by omega)] at g3
  rw [if_pos (by omega)] at k3
  refine ⟨k1, k2.trans g2, by rw [if_neg (by omega)]; (try simp [p_wo]) <;> omega, by rw [List.length_append]; (try simp [p_wo]) <;> omega, by (try simp [p_wo]) <;> omega, by (try simp [p_wo]) <;> omega, fun m hm => ?_, ?_⟩
  · rw [List.mem_append] at hm
    rcases hm with hm | hm
    · exact (g7 m hm).w (Nat.le_refl _) k5
    · exact (k7 m hm).w g5 (Nat.le_refl _)
  · rw [p_hh1 (by omega)] at g8 ⊢
    rw [p_hhl (by omega)] at k8
    exact fun h => ht_a (g8 h) (k8 h)
theorem p_lnk_ok {c a : Nat} {o : Option Nat} (hc : (c = 2 ∧ a = 0) ∨ (c = 4 ∧ a = 1)) (ho : ∀ m, o = some m → 201 ≤ m ∧ m ≤ 209 ∧ st.2.2.1.1 = 3) (ih : p_ih t R) (hw : p_wf t st) (h : p_lnk R t o a c st = .inr q) : p_G t c st q := by
  unfold p_lnk at h
  cases o with
  | none =>
    cases h
    refine ⟨hw, rfl, by rw [if_pos (by omega)]; exact Nat.le_refl _, by (try simp [p_wo]) <;> omega, Nat.le_refl _, by (try simp [p_wo]) <;> omega, fun m hm => (by cases hm), ?_⟩
    exact (p_hhl (by omega)).mpr fun h => rfl
  | some m0 =>
    obtain ⟨m1, m2, m3⟩ := ho m0 rfl
    obtain ⟨s, h1, h2⟩ := p_bd_r h
    obtain ⟨r1, r2, r3⟩ := p_nx_wf hw (by omega) h1
    obtain ⟨q1, h3, h4⟩ := p_bd_r h2
    obtain ⟨q2, h5, h6⟩ := p_bd_r h4
    cases h6
    have f : s.2.2.2.2 = st.2.2.2.2 := by rw [r3]
    have fo : s.2.2.2.1 = st.2.2.2.1 := by rw [r3]
    obtain ⟨g1, g2, g3, g4, g5, g6, g7, g8⟩ := ih a s q1 r1 (Or.inl (by omega)) h3
    obtain ⟨k1, k2, k3, k4, k5, k6, k7, k8⟩ := ih c q1.1 q2 g1 (Or.inl (by omega)) h5
    rw [if_neg (by omega)] at g3
    rw [if_pos (by omega)] at k3
    refine ⟨k1, k2.trans (g2.trans fo), by rw [if_pos (by omega)]; (try simp [p_wo]) <;> omega, by rw [List.length_append, List.length_cons]; (try simp [p_wo]) <;> omega, by (try simp [p_wo]) <;> omega, by (try simp [p_wo]) <;> omega, fun m hm => ?_, ?_⟩
    · rw [List.mem_append, List.mem_cons] at hm
      rcases hm with hm | hm | hm
      · exact (g7 m hm).w (by omega) k5
      · subst hm
        exact p_mm.z (Or.inr (Or.inr (Or.inl ⟨by omega, by omega⟩))) (by omega)
      · exact (k7 m hm).w (by omega) (Nat.le_refl _)
    · rw [p_hh1 (by omega)] at g8
      rw [p_hhl (by omega)] at k8 ⊢
      exact fun h => ht_a (g8 (h + 1)) (ht_c (h1_2 m1 m2) (k8 h))
theorem p_all_ok (ih : p_ih t R) (hw : p_wf t st) (h : p_all R t st = .inr q) : p_G t 5 st q := by
  unfold p_all at h
  obtain ⟨q1, h1, h2⟩ := p_bd_r h
  obtain ⟨g1, g2, g3, g4, g5, g6, g7, g8⟩ := ih 3 st q1 hw (Or.inl (by omega)) h1
  rw [if_neg (by omega)] at g3
  rw [p_hh1 (by omega)] at g8
  cases ho : p_cm q1.1 with
  | none =>
    rw [ho] at h2
    cases h2
    exact ⟨g1, g2, by rw [if_neg (by omega)]; exact g3, g4, g5, g6, g7, (p_hh1 (by omega)).mpr g8⟩
  | some m0 =>
    rw [ho] at h2
    have hm0 : (m0 = 206 ∨ m0 = 207) ∧ q1.1.2.2.1.1 = 3 := by
      unfold p_cm at ho
      split at ho
      · next p => cases ho; exact ⟨Or.inl rfl, p_is_3 p⟩
      · split at ho
        · next p => cases ho; exact ⟨Or.inr rfl, p_is_3 p⟩
        · cases ho
    obtain ⟨s, h3, h4⟩ := p_bd_r h2
    obtain ⟨r1, r2, r3⟩ := p_nx_wf g1 (by omega) h3
    obtain ⟨q2, h5, h6⟩ := p_bd_r h4
    cases h6
    have f : s.2.2.2.2 = q1.1.2.2.2.2 := by rw [r3]
    have fo : s.2.2.2.1 = q1.1.2.2.2.1 := by rw [r3]
    obtain ⟨k1, k2, k3, k4, k5, k6, k7, k8⟩ := ih 3 s q2 r1 (Or.inl (by omega)) h5
    rw [if_neg (by omega)] at k3
    rw [p_hh1 (by omega)] at k8
    refine ⟨k1, k2.trans (fo.trans g2), by rw [if_neg (by omega)]; (try simp [p_wo]) <;> omega, by rw [List.length_append, List.length_append]; (try simp [p_wo]) <;> omega, by (try simp [p_wo]) <;> omega, by (try simp [p_wo]) <;> omega, fun m hm => ?_, ?_⟩
    · rw [List.mem_append, List.mem_append, List.mem_singleton] at hm
      rcases hm with hm | hm | hm
      · exact (g7 m hm).w (Nat.le_refl _) (by (try simp [p_wo]) <;> omega)
      · exact (k7 m hm).w (by omega) (Nat.le_refl _)
      · subst hm
        exact p_mm.z (Or.inr (Or.inr (Or.inl ⟨by omega, by omega⟩))) (by omega)
    · rw [p_hh1 (by omega)]
      exact fun h => ht_a (g8 h) (ht_a (k8 (h + 1)) (ht_1 (h1_2 (by omega) (by omega))))
theorem p_prt_ok {m : Nat} (h1 : 1 ≤ m) (h2 : m ≤ 3) (ih : p_ih t R) (hw : p_wf t st) (h : p_prt R t m st = .inr q) : p_G t (10 + m) st q := by
  unfold p_prt at h
  by_cases ko : p_is st 40 = true
  · rw [if_pos ko] at h
    obtain ⟨s, h3, h4⟩ := p_bd_r h
    obtain ⟨r1, r2, r3, r4, r5⟩ := p_op_wf hw (by rw [p_is_3 ko]; decide) h3
    obtain ⟨q0, h5, h6⟩ := p_bd_r h4
    obtain ⟨g1, g2, g3, g4, g5, g6, g7, g8⟩ := ih (20 + m) s q0 r1 (Or.inr (Or.inr ⟨by omega, by omega⟩)) h5
    rw [if_neg (by omega)] at g3
    by_cases kc : p_is q0.1 41 = true
    · rw [if_pos kc] at h6
      obtain ⟨s2, h7, h8⟩ := p_bd_r h6
      cases h8
      have a := g1.at
      have b := a.2.2.1 (by rw [p_is_3 kc]; decide)
      obtain ⟨n1, n2, n3⟩ := p_nx_ok (st := p_wo q0.1 (q0.1.2.2.2.1 - 1) q0.1.2.2.2.2) a.2.1 (by have := g1.2.2.1; (try simp [p_wo]) <;> omega) (Nat.le_trans g1.2.2.2 a.1) h7
      have n2 : q0.1.1 ≤ s2.2.1 := n2
      have f : s2.2.2.2.2 = q0.1.2.2.2.2 := by rw [n3]; rfl
      have fo : s2.2.2.2.1 = q0.1.2.2.2.1 - 1 := by rw [n3]; rfl
      refine ⟨n1, by (try simp [p_wo]) <;> omega, by rw [if_neg (by omega)]; (try simp [p_wo]) <;> omega, by (try simp [p_wo]) <;> omega, by (try simp [p_wo]) <;> omega, by (try simp [p_wo]) <;> omega, fun m hm => ?_, ?_⟩
      · exact (g7 m hm).w (by omega) (by (try simp [p_wo]) <;> omega)
      · rw [p_hhs (by omega)] at g8
        rw [p_hhp (by omega) (by omega)]
        intro h
        rw [g8 h]
        congr 1
        omega
    · rw [if_neg kc] at h6; cases h6
  · rw [if_neg ko] at h; cases h
theorem p_lst_ok {m : Nat} (h1 : 1 ≤ m) (h2 : m ≤ 3) (ih : p_ih t R) (hw : p_wf t st) (h : p_lst R t m st = .inr q) : p_G t (20 + m) st q := by
  unfold p_lst at h
  obtain ⟨q0, h3, h4⟩ := p_bd_r h
  obtain ⟨g1, g2, g3, g4, g5, g6, g7, g8⟩ := ih 5 st q0 hw (Or.inl (by omega)) h3
  rw [if_neg (by omega)] at g3
  rw [p_hh1 (by omega)] at g8
  by_cases e1 : m = 1
  · rw [if_pos e1] at h4
    cases h4
    subst e1
    exact ⟨g1, g2, g3, g4, g5, g6, g7, (p_hh1 (by omega)).mpr g8⟩
  · rw [if_neg e1] at h4
    by_cases kc : p_is q0.1 44 = true
    · rw [if_pos kc] at h4
      obtain ⟨s, h5, h6⟩ := p_bd_r h4
      obtain ⟨r1, r2, r3⟩ := p_nx_wf g1 (by rw [p_is_3 kc]; decide) h5
      obtain ⟨q2, h7, h8⟩ := p_bd_r h6
      cases h8
      have f : s.2.2.2.2 = q0.1.2.2.2.2 := by rw [r3]
      have fo : s.2.2.2.1 = q0.1.2.2.2.1 := by rw [r3]
      obtain ⟨k1, k2, k3, k4, k5, k6, k7, k8⟩ := ih (20 + (m - 1)) s q2 r1 (Or.inr (Or.inr ⟨by omega, by omega⟩)) h7
      rw [if_neg (by omega)] at k3
      refine ⟨k1, k2.trans (fo.trans g2), by rw [if_neg (by omega)]; (try simp [p_wo]) <;> omega, by rw [List.length_append]; (try simp [p_wo]) <;> omega, by (try simp [p_wo]) <;> omega, by (try simp [p_wo]) <;> omega, fun m hm => ?_, ?_⟩
      · rw [List.mem_append] at hm
        rcases hm with hm | hm
        · exact (g7 m hm).w (Nat.le_refl _) (by (try simp [p_wo]) <;> omega)
        · exact (k7 m hm).w (by omega) (Nat.le_refl _)
      · rw [p_hhs (by omega)] at k8 ⊢
        intro h
        refine (ht_a (g8 h) (k8 (h + 1))).trans ?_
        congr 1
        omega
    · rw [if_neg kc] at h4; cases h4
theorem p_mu_3 {m : Nat} (h : p_mu st = some m) : 201 ≤ m ∧ m ≤ 209 ∧ st.2.2.1.1 = 3 := by
  unfold p_mu at h
  split at h
  · next p => cases h; exact ⟨by omega, by omega, p_is_3 p⟩
  · split at h
    · next p => cases h; exact ⟨by omega, by omega, p_is_3 p⟩
    · split at h
      · next p => cases h; exact ⟨by omega, by omega, p_is_3 p⟩
      · cases h
theorem p_ad_3 {m : Nat} (h : p_ad st = some m) : 201 ≤ m ∧ m ≤ 209 ∧ st.2.2.1.1 = 3 := by
  unfold p_ad at h
  split at h
  · next p => cases h; exact ⟨by omega, by omega, p_is_3 p⟩
  · split at h
    · next p => cases h; exact ⟨by omega, by omega, p_is_3 p⟩
    · cases h
theorem p_good (ht : t.length ≤ 96) : ∀ n, p_ih t (p_P t n) := by
  intro n
  induction n with
  | zero => intro c st q _ _ h; cases h
  | succ n ih =>
    intro c st q hw hc h
    unfold p_P at h
    by_cases c0 : c = 0
    · rw [if_pos c0] at h; subst c0; exact p_one_ok ht ih hw h
    rw [if_neg c0] at h
    by_cases c1 : c = 1
    · rw [if_pos c1] at h; subst c1; exact p_chn_ok (Or.inl ⟨rfl, rfl, rfl⟩) ih hw h
    rw [if_neg c1] at h
    by_cases c2 : c = 2
    · rw [if_pos c2] at h; subst c2; exact p_lnk_ok (Or.inl ⟨rfl, rfl⟩) (fun m hm => p_mu_3 hm) ih hw h
    rw [if_neg c2] at h
    by_cases c3 : c = 3
    · rw [if_pos c3] at h; subst c3; exact p_chn_ok (Or.inr ⟨rfl, rfl, rfl⟩) ih hw h
    rw [if_neg c3] at h
    by_cases c4 : c = 4
    · rw [if_pos c4] at h; subst c4; exact p_lnk_ok (Or.inr ⟨rfl, rfl⟩) (fun m hm => p_ad_3 hm) ih hw h
    rw [if_neg c4] at h
    by_cases c5 : c = 5
    · rw [if_pos c5] at h; subst c5; exact p_all_ok ih hw h
    rw [if_neg c5] at h
    unfold p_cd at hc
    by_cases c20 : c < 20
    · rw [if_pos c20] at h
      have := p_prt_ok (m := c - 10) (by omega) (by omega) ih hw h
      rw [show 10 + (c - 10) = c by omega] at this
      exact this
    · rw [if_neg c20] at h
      have := p_lst_ok (m := c - 20) (by omega) (by omega) ih hw h
      rw [show 20 + (c - 20) = c by omega] at this
      exact this
end PG
