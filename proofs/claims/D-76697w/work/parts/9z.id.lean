set_option maxRecDepth 100000
/-! the inputs stay below 2^39, all through -/
section ID
variable {A : sV}
def v39 (A : sV) : Prop := s_in39 A.1 ∧ ∀ S, A.2.1 = some S → s_in39 S
theorem v39_up {A : sV} {fm : sF} {ly : sY} {kd : Nat → Int32} {c : Nat} {o : Option UInt64} {T : List Nat × (Nat → Option sRw)} (h : v39 A) (ho : ∀ v, o = some v → s_Bn 39 v) : v39 ((fm, ly, kd, s_up A.1.2.2.2 c o), A.2.1, T) := by
  refine ⟨fun y hy v hv => ?_, h.2⟩
  by_cases e : y = c
  · subst e
    have hv' : s_up A.1.2.2.2 y o y = some v := hv
    rw [s_up_s] at hv'
    exact ho v hv'
  · have hv' : s_up A.1.2.2.2 c o y = some v := hv
    rw [s_up_o e] at hv'
    exact h.1 y hy v hv'
theorem v39_set {x v : Int32} (h : v39 A) : v39 (o_set A x v).2 := by
  unfold o_set
  repeat' split
  all_goals first | exact h | exact v39_up h (fun w hw => by cases hw; exact fb_kp9 fb_8n)
theorem v39_clear {x : Int32} (h : v39 A) : v39 (o_clear A x).2 := by
  unfold o_clear
  split
  · exact h
  · exact v39_up h (fun w hw => by cases hw)
theorem s_cx_lt {x : Int32} {c : Nat} (h : s_cx x = some c) : c < 24 := by
  rcases s_cx_of x with q | ⟨k, hk, rfl⟩
  · unfold s_cx at h; rw [if_pos q] at h; cases h
  · rw [s_cx_s hk] at h; cases h; exact hk
theorem v39_kind {x k : Int32} (h : v39 A) : v39 (o_kind A x k).2 := by
  unfold o_kind
  split
  · exact h
  · rename_i c hc
    split
    · exact h
    · refine v39_up h (fun w hw => ?_)
      cases ho : A.1.2.2.2 c with
      | none => rw [ho] at hw; cases hw
      | some u =>
        rw [ho] at hw; cases hw
        exact fb_kp9 (h.1 c (s_cx_lt hc) u ho)
theorem v39_drop {x : Int32} (h : v39 A) : v39 (o_drop A x).2 := by
  unfold o_drop
  repeat' split
  all_goals exact h
theorem v39_row {x s n : Int32} (h : v39 A) : v39 (o_row A x s n).2 := by
  unfold o_row
  repeat' split
  all_goals exact h
theorem v39_put {x i v : Int32} (h : v39 A) : v39 (o_put A x i v).2 := by
  unfold o_put
  repeat' split
  all_goals exact h
theorem v39_copy {x i y j n : Int32} (h : v39 A) : v39 (o_copy A x i y j n).2 := by
  unfold o_copy
  repeat' split
  all_goals exact h
theorem v39_film {x y : Int32} (h : v39 A) : v39 (o_film A x y).2 := by
  unfold o_film
  repeat' split
  all_goals exact h
theorem v39_lay {t : Nat} {L : sL} (h : v39 A) : v39 (o_lay A t L).2 := by
  unfold o_lay s_if
  split
  all_goals exact h
theorem v39_axis {x w s st n : Int32} (h : v39 A) : v39 (o_axis A x w s st n).2 := by
  unfold o_axis
  repeat' split
  all_goals first | exact h | exact v39_lay h
theorem v39_axisBy {x w y p n : Int32} (h : v39 A) : v39 (o_axisBy A x w y p n).2 := by
  unfold o_axisBy s_if
  repeat' split
  all_goals first | exact h | exact v39_lay h
theorem v39_table {x o a b : Int32} (h : v39 A) : v39 (o_table A x o a b).2 := by
  unfold o_table s_if
  repeat' split
  all_goals first | exact h | exact v39_lay h
theorem v39_image (h : v39 A) : v39 (o_image A).2 := ⟨h.1, fun S e => by cases e; exact h.1⟩
theorem v39_feed {n a b c e f : Int32} (h : v39 A) : v39 (o_feed A n a b c e f).2 := by
  unfold o_feed s_if
  repeat' split
  all_goals exact h
theorem v39_formula {x : Int32} (h : v39 A) : v39 (o_formula A x).2 := by
  unfold o_formula s_if
  repeat' split
  all_goals first | exact h | exact v39_up h (fun w hw => by cases hw)
theorem v39_new : v39 o_new := ⟨fun _ _ v hv => (by cases hv), fun S e => (by cases e)⟩
theorem v39_rg {B : sV} (h : v39 A) (hr : v_rg A B) : v39 B := by
  have g : ∀ S S' : sSt, s_rg S S' → s_in39 S → s_in39 S' := fun S S' r q c hc v hv => q c hc v (by rw [← hv]; exact r.2.2.2 c hc)
  refine ⟨g _ _ hr.1 h.1, fun S e => ?_⟩
  rcases hr.2.1 with ⟨_, q⟩ | ⟨S1, S2, q1, q2, q3⟩
  · rw [q] at e; cases e
  · rw [q2] at e; cases e
    exact g _ _ q3 (h.2 _ q1)
theorem v39_rg' {B : sV} (h : v39 B) (hr : v_rg A B) : v39 A := by
  have g : ∀ S S' : sSt, s_rg S S' → s_in39 S' → s_in39 S := fun S S' r q c hc v hv => q c hc v (by rw [← hv]; exact (r.2.2.2 c hc).symm)
  refine ⟨g _ _ hr.1 h.1, fun S e => ?_⟩
  rcases hr.2.1 with ⟨q, _⟩ | ⟨S1, S2, q1, q2, q3⟩
  · rw [q] at e; cases e
  · rw [q1] at e; cases e
    exact g _ _ q3 (h.2 _ q2)
end ID
