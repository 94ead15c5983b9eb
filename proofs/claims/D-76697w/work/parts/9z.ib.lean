set_option maxRecDepth 100000
/-! THE REFERENCE's constructor: the fresh object stands for the empty sheet -/
section IB
theorem i_fm : tfm iT = fun _ => [] := by
  funext c; rfl
theorem i_ly : tly iT = fun _ => none := by
  funext t; rfl
theorem i_ow : tow iT = fun _ => none := by
  funext t; rfl
theorem i_kd : tkd iT = fun _ => 0 := by
  funext t; rfl
theorem i_tm {ly : sY} (hl : ∀ t, ly t = none) : ¬ s_tm (fun _ => []) ly := by
  have h0 : ∀ c, s_BU (fun _ => []) ly c = 0 := by
    intro c
    show s_bs (s_bu (fun _ => []) ly 30) (fun _ => []) ly c = 0
    unfold s_bs
    have : (fun k => s_if (s_RE (fun _ => []) c k ∧ ((fun _ => []) k : List sM) ≠ []) (s_ld (s_bu (fun _ => []) ly 30) (fun _ => []) ly k) 0) = fun _ => 0 := by
      funext k
      exact s_if_n (fun h => h.2 rfl)
    rw [this]
    have z : ∀ n, s_sm (fun _ => 0) n = 0 := by
      intro n
      induction n with
      | zero => rfl
      | succ n ih => simp [s_sm, ih]
    exact z 24
  rintro (⟨c, _, hb⟩ | ⟨t, _, L, hL, _⟩)
  · rw [h0] at hb; omega
  · rw [hl] at hL; cases hL
theorem i_sh : tSh iT := by
  refine ⟨⟨fun _ => 0, ?_, ?_, ?_, ?_, ?_, ?_, ?_, ?_⟩, ⟨fun c _ => fk_B0, fun a j _ _ => fk_B0⟩, ?_⟩
  · exact fun c _ => ⟨0, by decide, rfl, fun k hk => absurd hk (Nat.not_lt_zero k), fun h => absurd rfl h⟩
  · exact fun t _ h => absurd rfl h
  · rw [i_fm, i_ly]
    exact ⟨fun _ _ m hm => absurd hm List.not_mem_nil, fun _ _ m hm => absurd hm List.not_mem_nil, fun _ _ L hL => by cases hL⟩
  · exact fun _ _ => Nat.zero_lt_succ 29
  · rw [i_fm]; exact fun _ _ m hm => absurd hm List.not_mem_nil
  · rw [i_ly]; exact fun _ _ L hL => by cases hL
  · rw [i_ow]; exact fun _ v hv => by cases hv
  · exact ⟨fun _ _ => Or.inl rfl, fun _ _ => Or.inl rfl⟩
  · refine ⟨fun c _ => ⟨0, by decide, rfl⟩, fun c _ h => ?_, fun c _ v hv => ?_, fun t _ L hL => ?_, ?_⟩
    · exact absurd (congrFun i_fm c) h
    · have := congrFun i_ow c; cases (this.symm.trans hv)
    · have := congrFun i_ly t; cases (this.symm.trans hL)
    · show ¬ s_tm (tfm iT) (tly iT)
      rw [i_fm]
      exact i_tm (fun t => congrFun i_ly t)
theorem i_inv : tINV iT := by
  refine ⟨i_sh, fun c _ => ⟨fun k => ?_, fun t _ => ?_⟩, Or.inl ⟨rfl, ?_⟩, ⟨0, by decide, rfl, fun k hk => absurd hk (Nat.not_lt_zero k)⟩, fun r hr => Or.inl ?_⟩
  · constructor
    · intro h
      have : bs (0 : Int32) k = false := by unfold bs; simp
      rw [show iT.2.2.1 12 0 c = 0 from rfl, this] at h; cases h
    · rintro ⟨_, m, hm, _⟩
      rw [i_fm] at hm; exact absurd hm List.not_mem_nil
  · rw [i_fm]; rfl
  · intro x v hv
    have e : tow (tim iT) x = none := rfl
    rw [e] at hv; cases hv
  · show iMk r = -1
    have : r = 0 ∨ r = 1 ∨ r = 2 ∨ r = 3 := by omega
    rcases this with rfl | rfl | rfl | rfl <;> rfl
/-- the view at the start -/
def o_new : sV := ((fun _ => [], fun _ => none, fun _ => 0, fun _ => none), none, [], trw iT)
theorem i_vw : tVw iT = o_new := by
  unfold tVw o_new tst
  rw [i_fm, i_ly, i_kd, i_ow]
  rfl
theorem i_rw : ∀ r, r < 4 → o_new.2.2.2 r = none := by
  intro r hr
  have : r = 0 ∨ r = 1 ∨ r = 2 ∨ r = 3 := by omega
  rcases this with rfl | rfl | rfl | rfl <;> rfl
end IB
