set_option maxRecDepth 100000
/-! THE REFERENCE's operations: told, value, would, taken, drop, at, blame, adds -/
section TX
variable {l : Launch} {g : zG} {d m0 : Nat} {τ τ' τm τ2 : tS} {hp : zHp} {nx : Nat}
theorem tsp_vw_inv {α : Type} {a : α} {K : α → zHp → Nat → Prop} (hI : tINV τ) (hK : ∀ τ', tINV τ' → tVw τ' = tVw τ → K a (tput g m0 τ' hp) nx) (h : tsp τ τ') : K a (tput g m0 τ' hp) nx := hK τ' (h.inv hI) h.vw
theorem to_value {x : Int32} {K : Int64 → zHp → Nat → Prop} (hd : 200 ≤ d) (hB : zB g ≤ m0) (hI : tINV τ) (hK : ∀ τ', tINV τ' → tVw τ' = tVw τ → K (o_value (tVw τ) x) (tput g m0 τ' hp) nx) : zMt l g yX5_value cX5_value 4 (some .long) d 0 0 [.ref m0, .int x] (tput g m0 τ hp) nx (zQl g K) := by
  obtain ⟨d, rfl⟩ := Nat.exists_eq_add_of_le' (show 1 ≤ d by omega)
  apply met_X5_value
  unfold wp_X5_value
  unfold o_value at hK
  refine t_isCell' (by omega) ?_
  rcases s_cx_of x with hx | ⟨c, hc, rfl⟩
  · simp only [s_cx, if_pos hx] at hK ⊢
    exact ⟨fun _ => hK τ hI rfl, fun h => absurd (by trivial) h⟩
  · simp only [s_cx_s hc] at hK
    rw [if_neg (s_cx_n hc)]
    refine ⟨fun h => absurd h (by decide), fun _ => ?_⟩
    obtain ⟨⟨rk, hO⟩, hnb, hx⟩ := hI.1
    rw [tw_zo]
    refine t_valueNow (by omega) hB hO hc fun τ1 f1 ev => ?_
    rw [tw_zo]
    refine t_errorOf (by omega) hc ?_
    rw [ev.2.1]
    exact t_answer (by omega) (fun _ => (tEV_B hO hc).f) (tsp_vw_inv hI hK f1.sp)
theorem to_would {x v y : Int32} {K : Int64 → zHp → Nat → Prop} (hd : 200 ≤ d) (hB : zB g ≤ m0) (hI : tINV τ) (hK : ∀ τ', tINV τ' → tVw τ' = tVw τ → K (o_would (tVw τ) x v y) (tput g m0 τ' hp) nx) : zMt l g yX5_would cX5_would 6 (some .long) d 0 0 [.ref m0, .int x, .int v, .int y] (tput g m0 τ hp) nx (zQl g K) := by
  obtain ⟨d, rfl⟩ := Nat.exists_eq_add_of_le' (show 1 ≤ d by omega)
  apply met_X5_would
  unfold wp_X5_would
  unfold o_would at hK
  refine t_isCell' (by omega) ?_
  refine ⟨_, fun _ _ h => h, ?_⟩
  rcases s_cx_of x with hx | ⟨c, hc, rfl⟩
  · simp only [s_cx, if_pos hx] at hK ⊢
    exact ⟨fun _ => hK τ hI rfl, fun h => absurd (by trivial) h⟩
  · simp only [s_cx_s hc] at hK
    rw [if_neg (s_cx_n hc)]
    refine ⟨fun h => absurd h (by decide), fun _ => ?_⟩
    refine t_isEighths (by omega) ?_
    by_cases hv : v < -8000000 ∨ 8000000 < v
    · rw [if_pos hv] at hK ⊢
      exact ⟨fun _ => hK τ hI rfl, fun h => absurd (by trivial) h⟩
    · rw [if_neg hv] at hK ⊢
      refine ⟨fun h => absurd h (by decide), fun _ => ?_⟩
      refine t_isCell' (by omega) ?_
      rcases s_cx_of y with hy | ⟨e, he, rfl⟩
      · simp only [s_cx, if_pos hy] at hK ⊢
        exact ⟨fun _ => hK τ hI rfl, fun h => absurd (by trivial) h⟩
      · simp only [s_cx_s he] at hK
        rw [if_neg (s_cx_n he)]
        refine ⟨fun h => absurd h (by decide), fun _ => ?_⟩
        rw [tw_zo]
        refine t_isInput' (by omega) hc ?_
        by_cases h3 : τ.2.2.1 3 0 c = 0
        · have hem : tfm τ c = [] := (hI.1.fmx hc).mp h3
          have he' : ¬ (tVw τ).1.1 c ≠ [] := fun q => q hem
          rw [if_neg he'] at hK
          rw [if_pos h3]
          refine ⟨fun h => absurd h (by decide), fun _ => ?_⟩
          obtain ⟨⟨rk, hO⟩, hnb, hx⟩ := hI.1
          refine ⟨fb_nn fb_8, ?_⟩
          rw [tw_zo]
          refine t_valueBy (by omega) hB hO hc he fb_8 fun τ1 f1 ev => ?_
          rw [tw_zo]
          refine t_errorOf (by omega) he ?_
          rw [ev]
          exact t_answer (by omega) (fun _ => (s_EV_B hO.2.2.1 hO.1.mo hO.2.2.2.1 hO.2.2.2.2.1 hO.2.2.2.2.2.1 _ e (Nat.lt_succ_self _) he _ (s_up_BO hO.2.2.2.2.2.2.1 fb_8)).f) (tsp_vw_inv hI hK f1.sp)
        · have he : tfm τ c ≠ [] := fun q => h3 ((hI.1.fmx hc).mpr q)
          have he' : (tVw τ).1.1 c ≠ [] := he
          rw [if_pos he'] at hK
          rw [if_neg h3]
          exact ⟨fun _ => hK τ hI rfl, fun h => absurd (by trivial) h⟩
theorem s_mn_small {S : sSt} (hx : ¬ s_tm S.1 S.2.1) {c : Nat} (hc : c < 24) : s_mn (s_BU S.1 S.2.1 c) = s_BU S.1 S.2.1 c := by
  have : ¬ 2000 < s_BU S.1 S.2.1 c := fun h => hx (Or.inl ⟨c, hc, h⟩)
  unfold s_mn
  omega
theorem to_told {x w : Int32} {K : Int32 → zHp → Nat → Prop} (hd : 200 ≤ d) (hB : zB g ≤ m0) (hI : tINV τ) (hK : ∀ τ', tINV τ' → tVw τ' = tVw τ → K (o_told (tVw τ) x w) (tput g m0 τ' hp) nx) : zMt l g yX5_told cX5_told 3 (some .int) d 0 0 [.ref m0, .int x, .int w] (tput g m0 τ hp) nx (zQi g K) := by
  obtain ⟨d, rfl⟩ := Nat.exists_eq_add_of_le' (show 1 ≤ d by omega)
  apply met_X5_told
  unfold wp_X5_told
  unfold o_told at hK
  refine t_isCell' (by omega) ?_
  refine ⟨_, fun _ _ h => h, ?_⟩
  rcases s_cx_of x with hx | ⟨c, hc, rfl⟩
  · simp only [s_cx, if_pos hx] at hK ⊢
    exact ⟨fun _ => hK τ hI rfl, fun h => absurd (by trivial) h⟩
  · simp only [s_cx_s hc] at hK
    rw [if_neg (s_cx_n hc)]
    refine ⟨fun h => absurd h (by decide), fun _ => ?_⟩
    refine t_in' (by omega) ?_
    by_cases hv : w < 0 ∨ 7 < w
    · rw [if_pos hv] at hK ⊢
      exact ⟨fun _ => hK τ hI rfl, fun h => absurd (by trivial) h⟩
    · rw [if_neg hv] at hK ⊢
      refine ⟨fun h => absurd h (by decide), fun _ => ?_⟩
      have cc : (nI c).toNatClampNeg = c := nI_clamp (by omega)
      have ic : vp_in (nI c) 24 := vp_in_nI hc (by decide)
      have c0 : (0 : Int32).toNatClampNeg = 0 := by decide
      have i0 : vp_in (0 : Int32) 7 := vp_in_nI (n := 0) (by decide) (by decide)
      have hI0 := hI
      obtain ⟨⟨⟨rk, hO⟩, hnb, hx⟩, hN, -⟩ := hI0
      have hfx := hI.1.fmx hc
      refine ⟨fun w0 => ?_, fun w0 => ⟨fun w1 => ?_, fun w1 => ⟨fun w2 => ?_, fun w2 => ⟨fun w3 => ?_, fun w3 => ⟨fun w4 => ?_, fun w4 => ⟨fun w7 => ?_, fun w7 => ?_⟩⟩⟩⟩⟩⟩
      · rw [if_pos w0] at hK
        simp only [tg_kinds, ta_kinds, tu_kinds, cc, ic, true_implies, false_implies, implies_true, and_true, true_and, forall_eq]
        exact hK τ hI rfl
      · rw [if_neg w0, if_pos w1] at hK
        rw [tw_zo]
        refine t_isInput' (by omega) hc ?_
        refine ⟨_, fun _ _ _ h => h, ?_⟩
        by_cases h3 : τ.2.2.1 3 0 c = 0
        · have he : (tVw τ).1.1 c = [] := hfx.mp h3
          rw [if_pos he] at hK
          rw [if_pos h3]
          exact ⟨fun h => absurd h (by decide), fun _ => hK τ hI rfl⟩
        · have he : ¬ (tVw τ).1.1 c = [] := fun q => h3 (hfx.mpr q)
          rw [if_neg he] at hK
          rw [if_neg h3]
          exact ⟨fun _ => hK τ hI rfl, fun h => absurd rfl h⟩
      · rw [if_neg w0, if_neg w1, if_pos w2] at hK
        rw [tw_zo]
        refine t_reads (by omega) hB hO hN hc fun τ1 f1 => ?_
        exact tsp_vw_inv hI hK (f1.sc (by decide) (by decide)).sp
      · rw [if_neg w0, if_neg w1, if_neg w2, if_pos w3] at hK
        rw [tw_zo]
        refine t_reached (by omega) hO.2.2.1 hO.2.2.2.1 hN hc ?_
        exact hK τ hI rfl
      · rw [if_neg w0, if_neg w1, if_neg w2, if_neg w3, if_pos w4] at hK
        rw [tw_zo]
        refine t_burdenNow (by omega) hB hO hN hc fun τ1 f1 _ => ?_
        have es : s_mn (s_BU (tfm τ) (tly τ) c) = s_BU (tfm τ) (tly τ) c := s_mn_small (S := tst τ) hx.2.2.2.2 hc
        rw [es]
        exact tsp_vw_inv hI hK (f1.sc (by decide) (by decide)).sp
      · rw [if_neg w0, if_neg w1, if_neg w2, if_neg w3, if_neg w4, if_pos w7] at hK
        rw [tw_zo]
        refine t_isInput' (by omega) hc ?_
        refine ⟨_, fun _ _ _ h => h, ?_⟩
        refine ⟨_, fun _ _ h => h, ?_⟩
        by_cases h3 : τ.2.2.1 3 0 c = 0
        · have he : (tVw τ).1.1 c = [] := hfx.mp h3
          rw [if_pos h3]
          refine ⟨fun h => absurd h (by decide), fun _ => ?_⟩
          simp only [tg_given, ta_given, tu_given, cc, ic, true_implies, false_implies, implies_true, and_true, true_and, forall_eq]
          by_cases hg : τ.2.2.1 1 0 c = 0
          · have ho : (tVw τ).1.2.2.2 c = none := by show tow τ c = none; unfold tow; rw [if_pos hg]
            rw [if_pos ⟨he, ho⟩] at hK
            exact ⟨fun _ => hK τ hI rfl, fun h => absurd hg h⟩
          · have ho : ¬ (tVw τ).1.2.2.2 c = none := by show ¬ tow τ c = none; unfold tow; rw [if_neg hg]; exact fun h => by cases h
            rw [if_neg (fun q => ho q.2)] at hK
            exact ⟨fun h => absurd h hg, fun _ => hK τ hI rfl⟩
        · have he : ¬ (tVw τ).1.1 c = [] := fun q => h3 (hfx.mpr q)
          rw [if_neg (fun q => he q.1)] at hK
          rw [if_neg h3]
          exact ⟨fun _ => hK τ hI rfl, fun h => absurd rfl h⟩
      · rw [if_neg w0, if_neg w1, if_neg w2, if_neg w3, if_neg w4, if_neg w7] at hK
        rw [tw_zo]
        refine t_tellNow (by omega) hB hO hc fun τ1 f1 ev => ?_
        refine ⟨_, fun _ _ _ h => h, ?_⟩
        refine ⟨fun w5 => ?_, fun w5 => ?_⟩
        · rw [if_pos w5] at hK
          simp only [tg_errors, ta_errors, c0, i0, tb_errors (show 0 < 7 by decide), tv_errors (show 0 < 7 by decide), cc, ic, true_implies, false_implies, implies_true, and_true, true_and, forall_eq, ev.2.1]
          exact tsp_vw_inv hI hK f1.sp
        · rw [if_neg w5] at hK
          simp only [tg_blames, ta_blames, c0, i0, tb_blames (show 0 < 7 by decide), tv_blames (show 0 < 7 by decide), cc, ic, true_implies, false_implies, implies_true, and_true, true_and, forall_eq, ev.2.2]
          exact tsp_vw_inv hI hK f1.sp
noncomputable def o_taken (A : sV) (x k : Int32) : Int32 := match s_cx x with
  | none => -2
  | some c => if k < 0 ∨ 5 < k then -2 else if k = 0 ∨ k = A.1.2.2.1 c ∨ (k = 1 ∧ A.1.2.2.1 c = 3) ∨ (k = 2 ∧ A.1.2.2.1 c = 4) then A.1.2.2.1 c else -13
theorem to_taken {x k : Int32} {K : Int32 → zHp → Nat → Prop} (hd : 200 ≤ d) (hB : zB g ≤ m0) (hI : tINV τ) (hK : ∀ τ', tINV τ' → tVw τ' = tVw τ → K (o_taken (tVw τ) x k) (tput g m0 τ' hp) nx) : zMt l g yX5_taken cX5_taken 5 (some .int) d 0 0 [.ref m0, .int x, .int k] (tput g m0 τ hp) nx (zQi g K) := by
  obtain ⟨d, rfl⟩ := Nat.exists_eq_add_of_le' (show 1 ≤ d by omega)
  apply met_X5_taken
  unfold wp_X5_taken
  unfold o_taken at hK
  refine t_isCell' (by omega) ?_
  refine ⟨_, fun _ _ h => h, ?_⟩
  rcases s_cx_of x with hx | ⟨c, hc, rfl⟩
  · simp only [s_cx, if_pos hx] at hK ⊢
    exact ⟨fun _ => hK τ hI rfl, fun h => absurd (by trivial) h⟩
  · simp only [s_cx_s hc] at hK
    rw [if_neg (s_cx_n hc)]
    refine ⟨fun h => absurd h (by decide), fun _ => ?_⟩
    refine t_in' (by omega) ?_
    by_cases hv : k < 0 ∨ 5 < k
    · rw [if_pos hv] at hK ⊢
      exact ⟨fun _ => hK τ hI rfl, fun h => absurd (by trivial) h⟩
    · rw [if_neg hv] at hK ⊢
      refine ⟨fun h => absurd h (by decide), fun _ => ?_⟩
      have cc : (nI c).toNatClampNeg = c := nI_clamp (by omega)
      have ic : vp_in (nI c) 24 := vp_in_nI hc (by decide)
      have ek : (tVw τ).1.2.2.1 c = τ.2.2.1 0 0 c := rfl
      rw [ek] at hK
      simp only [tg_kinds, ta_kinds, tu_kinds, cc, ic, true_implies, false_implies, implies_true, and_true, true_and, forall_eq]
      generalize τ.2.2.1 0 0 c = z at hK ⊢
      have yes : (k = 0 ∨ k = z ∨ (k = 1 ∧ z = 3) ∨ (k = 2 ∧ z = 4)) → K z (tput g m0 τ hp) nx := fun h => by
        have := hK τ hI rfl
        rw [if_pos h] at this
        exact this
      have no : ¬ (k = 0 ∨ k = z ∨ (k = 1 ∧ z = 3) ∨ (k = 2 ∧ z = 4)) → K (-13) (tput g m0 τ hp) nx := fun h => by
        have := hK τ hI rfl
        rw [if_neg h] at this
        exact this
      refine ⟨fun a b h n => z = a ∧ h = tput g m0 τ hp ∧ nx = n ∧ ((b = 0 ∧ ¬ (k = 0 ∨ k = z ∨ (k = 1 ∧ z = 3) ∨ (k = 2 ∧ z = 4))) ∨ (b = 1 ∧ (k = 0 ∨ k = z ∨ (k = 1 ∧ z = 3) ∨ (k = 2 ∧ z = 4)))), ?_, ?_⟩
      · rintro _ b _ _ ⟨rfl, rfl, rfl, hb⟩
        refine ⟨_, fun _ _ _ _ _ h => h, ?_⟩
        rcases hb with ⟨rfl, hb⟩ | ⟨rfl, hb⟩
        · exact ⟨fun _ => no hb, fun h => absurd rfl h⟩
        · exact ⟨fun h => absurd h (by decide), fun _ => yes hb⟩
      · refine ⟨fun a h n => z = a ∧ h = tput g m0 τ hp ∧ nx = n ∧ (k = 0 ∨ k = z ∨ (k = 1 ∧ z = 3) ∨ (k = 2 ∧ z = 4)), ?_, ?_⟩
        · rintro _ _ _ ⟨rfl, rfl, rfl, hb⟩
          exact ⟨rfl, rfl, rfl, Or.inr ⟨rfl, hb⟩⟩
        · refine ⟨fun h => ⟨rfl, rfl, rfl, Or.inl h⟩, fun h0 => ⟨fun h => ⟨rfl, rfl, rfl, Or.inr (Or.inl h)⟩, fun h1 => ?_⟩⟩
          refine ⟨fun a h n => z = a ∧ h = tput g m0 τ hp ∧ nx = n ∧ ¬ (k = 1 ∧ z = 3), ?_, ?_⟩
          · rintro _ _ _ ⟨rfl, rfl, rfl, hb⟩
            refine ⟨fun a h n => z = a ∧ h = tput g m0 τ hp ∧ nx = n ∧ ¬ (k = 2 ∧ z = 4), ?_, ?_⟩
            · rintro _ _ _ ⟨rfl, rfl, rfl, hb2⟩
              exact ⟨rfl, rfl, rfl, Or.inl ⟨rfl, fun q => q.elim h0 fun q => q.elim h1 fun q => q.elim hb hb2⟩⟩
            · exact ⟨fun a => ⟨fun b => ⟨rfl, rfl, rfl, Or.inr (Or.inr (Or.inr ⟨a, b⟩))⟩, fun b => ⟨rfl, rfl, rfl, fun q => b q.2⟩⟩, fun a => ⟨rfl, rfl, rfl, fun q => a q.1⟩⟩
          · exact ⟨fun a => ⟨fun b => ⟨rfl, rfl, rfl, Or.inr (Or.inr (Or.inl ⟨a, b⟩))⟩, fun b => ⟨rfl, rfl, rfl, fun q => b q.2⟩⟩, fun a => ⟨rfl, rfl, rfl, fun q => a q.1⟩⟩
end TX
