set_option maxRecDepth 100000
/-! what a cell tells: its error and whom it blames -/
section EC
def s_Ec (a : sT) : Prop := (a.2.1 = 0 ∧ a.2.2 = -1) ∨ ((a.2.1 = 1 ∨ a.2.1 = 2 ∨ a.2.1 = 3 ∨ a.2.1 = 4) ∧ ∃ b, b < 24 ∧ a.2.2 = nI b)
theorem s_Ec.nz {a : sT} (h : s_Ec a) (hz : a.2.1 ≠ 0) : (a.2.1 = 1 ∨ a.2.1 = 2 ∨ a.2.1 = 3 ∨ a.2.1 = 4) ∧ ∃ b, b < 24 ∧ a.2.2 = nI b := by
  rcases h with h | h
  · exact absurd h.1 hz
  · exact h
theorem s_Ec.z {a : sT} (h : s_Ec a) (hz : a.2.1 = 0) : a.2.2 = -1 := by
  rcases h with h | ⟨h, -⟩
  · exact h.2
  · rw [hz] at h; exact absurd h (by decide)
theorem s_Ec.b1 {a : sT} (h : s_Ec a) : vp_nar .byte a.2.1.toInt8.toInt32 = a.2.1 := by
  rcases h with ⟨h, -⟩ | ⟨h | h | h | h, -⟩ <;> (rw [h]; decide)
theorem s_Ec.b2 {a : sT} (h : s_Ec a) : vp_nar .byte a.2.2.toInt8.toInt32 = a.2.2 := by
  rcases h with ⟨-, h⟩ | ⟨-, b, hb, h⟩
  · rw [h]; decide
  · rw [h]; exact (show ∀ q, q < 24 → vp_nar .byte (nI q).toInt8.toInt32 = nI q by decide +kernel) b hb
theorem s_two_E {c act : Nat} {a b : sT} (hc : c < 24) (ha : s_Ec a) (hb : s_Ec b) : s_Ec (s_two c act a b) := by
  unfold s_two
  split
  · exact ha
  · split
    · exact hb
    · by_cases h1 : (act = 4 ∨ act = 5) ∧ s_eq b.1 0
      · rw [s_if_p h1]; exact Or.inr ⟨Or.inr (Or.inl rfl), c, hc, rfl⟩
      · rw [s_if_n h1]
        by_cases h2 : act ≤ 4 ∧ s_far (s_op act a.1 b.1)
        · rw [s_if_p h2]; exact Or.inr ⟨Or.inr (Or.inr (Or.inl rfl)), c, hc, rfl⟩
        · rw [s_if_n h2]; exact ha
theorem s_pick_E {x y z : sT} (hx : s_Ec x) (hy : s_Ec y) (hz : s_Ec z) : s_Ec (s_pick x y z) := by
  unfold s_pick
  split
  · exact hx
  · by_cases h : s_eq x.1 0
    · rw [s_if_p h]; exact hz
    · rw [s_if_n h]; exact hy
theorem s_tv_E {r : Nat → sT} {n f : Nat} : (s_tv r n f).2 = 0 ∨ (s_tv r n f).2 = 3 ∨ (s_tv r n f).2 = 4 := by
  have hh : ∀ p : Prop, (s_if p (3 : Int32) 0) = 0 ∨ (s_if p (3 : Int32) 0) = 3 ∨ (s_if p (3 : Int32) 0) = 4 := fun p => by
    by_cases h : p
    · rw [s_if_p h]; exact Or.inr (Or.inl rfl)
    · rw [s_if_n h]; exact Or.inl rfl
  unfold s_tv
  split
  · exact hh _
  · split
    · show (if _ then (4 : Int32) else _) = 0 ∨ (if _ then (4 : Int32) else _) = 3 ∨ (if _ then (4 : Int32) else _) = 4
      split
      · exact Or.inr (Or.inr rfl)
      · exact hh _
    · split
      · show (if _ then (4 : Int32) else 0) = 0 ∨ (if _ then (4 : Int32) else 0) = 3 ∨ (if _ then (4 : Int32) else 0) = 4
        split
        · exact Or.inr (Or.inr rfl)
        · exact Or.inl rfl
      · split
        · show (if _ then (4 : Int32) else 0) = 0 ∨ (if _ then (4 : Int32) else 0) = 3 ∨ (if _ then (4 : Int32) else 0) = 4
          split
          · exact Or.inr (Or.inr rfl)
          · exact Or.inl rfl
        · exact Or.inl rfl
theorem s_act_E {cv : Nat → sT} {tv : Nat → Nat → UInt64 × Int32} {c : Nat} {m : sM} {st : List sT} (hc : c < 24) (h1 : m.1 < 24 → s_Ec (cv m.1)) (h2 : 300 ≤ m.1 → ∀ f, (tv (m.1 % 10) f).2 = 0 ∨ (tv (m.1 % 10) f).2 = 3 ∨ (tv (m.1 % 10) f).2 = 4) (hs : ∀ a ∈ st, s_Ec a) : ∀ a ∈ s_act cv tv c m st, s_Ec a := by
  unfold s_act
  split
  · rename_i h
    intro a ha
    rcases List.mem_cons.mp ha with rfl | ha
    · have := h1 h
      rcases this with ⟨e1, e2⟩ | ⟨e1, e2⟩
      · exact Or.inl ⟨e1, by show (if (cv m.1).2.1 = 0 then _ else _) = _; rw [if_pos e1]⟩
      · refine Or.inr ⟨e1, ?_⟩
        have : (cv m.1).2.1 ≠ 0 := by rcases e1 with e | e | e | e <;> (rw [e]; decide)
        obtain ⟨b, hb, e3⟩ := e2
        exact ⟨b, hb, by show (if (cv m.1).2.1 = 0 then _ else _) = _; rw [if_neg this, e3]⟩
    · exact hs a ha
  · split
    · intro a ha
      rcases List.mem_cons.mp ha with rfl | ha
      · exact Or.inl ⟨rfl, rfl⟩
      · exact hs a ha
    · split
      · rename_i h
        intro a ha
        rcases List.mem_cons.mp ha with rfl | ha
        · have := h2 h ((m.1 - 300) / 10)
          generalize tv (m.1 % 10) ((m.1 - 300) / 10) = q at this ⊢
          rcases this with e | e | e
          · exact Or.inl ⟨e, by show (if q.2 = 0 then _ else _) = _; rw [if_pos e]⟩
          · exact Or.inr ⟨Or.inr (Or.inr (Or.inl e)), c, hc, by show (if q.2 = 0 then _ else _) = _; rw [if_neg (by rw [e]; decide)]⟩
          · exact Or.inr ⟨Or.inr (Or.inr (Or.inr e)), c, hc, by show (if q.2 = 0 then _ else _) = _; rw [if_neg (by rw [e]; decide)]⟩
        · exact hs a ha
      · split
        · cases st with
          | nil => intro a ha; cases ha
          | cons y r =>
            intro a ha
            rcases List.mem_cons.mp ha with rfl | ha
            · exact hs y (List.mem_cons_self ..)
            · exact hs a (List.mem_cons_of_mem _ ha)
        · split
          · match st with
            | [] => intro a ha; cases ha
            | [_] => intro a ha; cases ha
            | [_, _] => intro a ha; cases ha
            | z :: y :: x :: r =>
              intro a ha
              rcases List.mem_cons.mp ha with rfl | ha
              · exact s_pick_E (hs _ (by simp)) (hs _ (by simp)) (hs _ (by simp))
              · exact hs a (by simp [ha])
          · match st with
            | [] => intro a ha; cases ha
            | [_] => intro a ha; cases ha
            | y :: x :: r =>
              intro a ha
              rcases List.mem_cons.mp ha with rfl | ha
              · exact s_two_E hc (hs _ (by simp)) (hs _ (by simp))
              · exact hs a (by simp [ha])
theorem s_run_E {cv : Nat → sT} {tv : Nat → Nat → UInt64 × Int32} {c : Nat} (hc : c < 24) : ∀ {ms : List sM} {st : List sT}, (∀ m ∈ ms, m.1 < 24 → s_Ec (cv m.1)) → (∀ m ∈ ms, 300 ≤ m.1 → ∀ f, (tv (m.1 % 10) f).2 = 0 ∨ (tv (m.1 % 10) f).2 = 3 ∨ (tv (m.1 % 10) f).2 = 4) → (∀ a ∈ st, s_Ec a) → ∀ a ∈ s_run cv tv c ms st, s_Ec a := by
  intro ms
  induction ms with
  | nil => intro st _ _ h; exact h
  | cons m ms ih =>
    intro st h1 h2 h
    rw [s_run_cons]
    exact ih (fun n hn => h1 n (List.mem_cons_of_mem _ hn)) (fun n hn => h2 n (List.mem_cons_of_mem _ hn)) (s_act_E hc (h1 m (List.mem_cons_self ..)) (h2 m (List.mem_cons_self ..)) h)
/-- what tables tell to a formula -/
noncomputable def s_tvf (fm : sF) (ly : sY) (kd : Nat → Int32) (ow : sO) (t f : Nat) : UInt64 × Int32 := match ly t with | none => (0, 4) | some L => s_tv (fun k => s_EV fm ly kd (s_bi L ow (k / s_my L) (k % s_my L)) L.1) (s_nc L) f
theorem s_tvf_n {fm : sF} {ly : sY} {kd : Nat → Int32} {ow : sO} {t : Nat} (h : ly t = none) (f : Nat) : s_tvf fm ly kd ow t f = (0, 4) := by unfold s_tvf; rw [h]
theorem s_tvf_s {fm : sF} {ly : sY} {kd : Nat → Int32} {ow : sO} {t : Nat} {L : sL} (h : ly t = some L) (f : Nat) : s_tvf fm ly kd ow t f = s_tv (fun k => s_EV fm ly kd (s_bi L ow (k / s_my L) (k % s_my L)) L.1) (s_nc L) f := by unfold s_tvf; rw [h]
theorem s_EV_f {fm : sF} {ly : sY} {kd : Nat → Int32} {rk : Nat → Nat} (hr : s_rk fm ly rk) (hm : s_mo fm) (hb : ∀ x, x < 30 → rk x < 30) {c : Nat} (hc : c < 24) (hf : fm c ≠ []) (ow : sO) : s_EV fm ly kd ow c = s_fn (kd c) (s_run (s_EV fm ly kd ow) (s_tvf fm ly kd ow) c (fm c) []) := by
  rw [s_EV_st hr hm hb hc]
  unfold s_st
  rw [if_neg hf]
  rfl
theorem s_EV_E {fm : sF} {ly : sY} {kd : Nat → Int32} {rk : Nat → Nat} (hr : s_rk fm ly rk) (hm : s_mo fm) (hb : ∀ x, x < 30 → rk x < 30) : ∀ (n c : Nat), rk c < n → c < 24 → ∀ ow : sO, s_Ec (s_EV fm ly kd ow c) := by
  intro n
  induction n with
  | zero => intro c h; exact absurd h (Nat.not_lt_zero _)
  | succ n ih =>
    intro c h hc ow
    by_cases hf : fm c = []
    · rw [s_EV_st hr hm hb hc]
      unfold s_st
      rw [if_pos hf]
      unfold s_in
      cases ow c with
      | none => exact Or.inr ⟨Or.inl rfl, c, hc, rfl⟩
      | some v => exact Or.inl ⟨rfl, rfl⟩
    · rw [s_EV_f hr hm hb hc hf]
      have := @s_run_E (s_EV fm ly kd ow) (s_tvf fm ly kd ow) c hc (fm c) [] (fun m a b => ih m.1 (by have := hr.1 c hc m a b; omega) b ow) (fun m a b f => by
        cases hl : ly (m.1 % 10) with
        | none => rw [s_tvf_n hl]; exact Or.inr (Or.inr rfl)
        | some L => rw [s_tvf_s hl]; exact s_tv_E) (fun a ha => by cases ha)
      unfold s_fn
      split
      · rename_i a r e
        rw [e] at this
        exact this a (List.mem_cons_self ..)
      · exact Or.inl ⟨rfl, rfl⟩
/-- what is reached reads no more -/
theorem s_RE_RD {fm : sF} {ly : sY} {rk : Nat → Nat} (hr : s_rk fm ly rk) (hm : s_mo fm) (hb : ∀ x, x < 30 → rk x < 30) {c e : Nat} (hc : c < 24) (h : s_RE fm c e) {r : Nat} (hr2 : s_RD fm ly e r) : s_RD fm ly c r := by
  have := s_RE_ind hr hb (P := fun k => k < 24 ∧ ∀ r, s_RD fm ly k r → s_RD fm ly c r) (fun k hk hP m hm1 h24 => ⟨h24, fun r q => hP.2 r ((s_RD_st hr hm hb hk r).mpr (Or.inr (Or.inl ⟨m, hm1, h24, q⟩)))⟩) _ c (Nat.lt_succ_self _) hc ⟨hc, fun r q => q⟩ e h
  exact this.2 r hr2
end EC
