set_option maxRecDepth 100000
/-! THE REFERENCE's operations: seek -/
section UV
variable {l : Launch} {g : zG} {d m0 : Nat} {τ τ' τm τ1 τ2 : tS} {hp : zHp} {nx : Nat}
theorem t_isWanted {x : Int32} {K : Int32 → zHp → Nat → Prop} (hd : 2 ≤ d) (hK : K (if x < -80000 ∨ 80000 < x then 0 else 1) hp nx) : zMt l g yX5_isWanted cX5_isWanted 1 (some .boolean) d 0 0 [.int x] hp nx (zQi g K) := by
  obtain ⟨d, rfl⟩ := Nat.exists_eq_add_of_le' (show 1 ≤ d by omega)
  apply met_X5_isWanted
  unfold wp_X5_isWanted
  exact t_in' (by omega) ⟨s_01, hK⟩
/-- what seek finds is finite -/
theorem s_sk_F {f : UInt64 → sT} {w : UInt64} (fB : ∀ x, s_B x → s_B (f x).1) (hw : s_B w) : ∀ (n : Nat) (a b x y : UInt64) (H : Prop) (k : Nat), s_B a → s_B b → s_B x → s_B y → (s_lt x w ↔ ¬ s_lt y w) → ∀ q, (s_sk f w n a b x y H k).1 = some q → s_B q.1 ∧ s_B q.2 := by
  have hend : ∀ a b x y : UInt64, s_B a → s_B b → s_B x → s_B y → s_B (s_end w a b x y).1 ∧ s_B (s_end w a b x y).2 := by
    intro a b x y ha hb hx hy
    unfold s_end s_if
    split
    · exact ⟨hb, hy⟩
    · exact ⟨ha, hx⟩
  intro n
  induction n with
  | zero =>
    intro a b x y H k ha hb hx hy _ q hq
    cases hq
    exact hend a b x y ha hb hx hy
  | succ n ih =>
    intro a b x y H k ha hb hx hy hxy q hq
    simp only [s_sk] at hq
    have hne := s_lt_eq hx.f hy.f hw.f hxy
    obtain ⟨v1, v2, v3, v4, v5, v6, v7, v8⟩ := s_br hw ha hb hx hy hne
    have hmn : vf_n64 (s_mid w a b x y H) := s_mid_n v3 v8
    generalize s_mid w a b x y H = mid at hq hmn
    by_cases p : s_gt mid a ∧ s_lt mid b
    · rw [s_if_p p] at hq
      have Bm : s_B mid := fo_inB hmn ha hb p.1 p.2
      have Bf := fB _ Bm
      by_cases e3 : (f mid).2.1 = 0
      · rw [if_neg (fun h => h e3)] at hq
        by_cases q1 : s_eq (f mid).1 w
        · rw [s_if_p q1] at hq
          cases hq
          exact ⟨Bm, Bf⟩
        · rw [s_if_n q1] at hq
          by_cases q5 : s_lt (f mid).1 w ↔ s_lt x w
          · rw [s_if_p q5] at hq
            exact ih _ _ _ _ _ _ Bm hb Bf hy (q5.trans hxy) q hq
          · rw [s_if_n q5] at hq
            refine ih _ _ _ _ _ _ ha Bm hx Bf ?_ q hq
            by_cases q1 : s_lt (f mid).1 w
            · exact ⟨fun q2 _ => q5 ⟨fun _ => q2, fun _ => q1⟩, fun h => absurd q1 h⟩
            · refine ⟨fun _ => q1, fun _ => ?_⟩
              by_cases q2 : s_lt x w
              · exact q2
              · exact absurd ⟨fun h => absurd h q1, fun h => absurd h q2⟩ q5
      · rw [if_pos (fun h => e3 h)] at hq
        cases hq
    · rw [s_if_n p] at hq
      cases hq
      exact hend a b x y ha hb hx hy
theorem s_seek_F {f : UInt64 → sT} {w low high : UInt64} (fB : ∀ x, s_B x → s_B (f x).1) (hw : s_B w) (hl : s_B low) (hh : s_B high) : ∀ q, (s_seek f w low high).1 = some q → s_B q.1 ∧ s_B q.2 := by
  intro q hq
  unfold s_seek at hq
  split at hq
  · cases hq
  · split at hq
    · cases hq
    · by_cases q1 : s_eq (f low).1 w
      · rw [s_if_p q1] at hq
        cases hq
        exact ⟨hl, hw⟩
      · rw [s_if_n q1] at hq
        by_cases q2 : s_eq (f high).1 w
        · rw [s_if_p q2] at hq
          cases hq
          exact ⟨hh, hw⟩
        · rw [s_if_n q2] at hq
          by_cases q3 : s_lt (f low).1 w ↔ s_lt (f high).1 w
          · rw [s_if_p q3] at hq
            cases hq
          · rw [s_if_n q3] at hq
            refine s_sk_F fB hw _ _ _ _ _ _ _ hl hh (fB _ hl) (fB _ hh) ?_ q hq
            by_cases q1 : s_lt (f low).1 w
            · exact ⟨fun _ q2 => q3 ⟨fun _ => q2, fun _ => q1⟩, fun _ => q1⟩
            · exact ⟨fun h => absurd h q1, fun q2 => absurd ⟨fun h => absurd h q1, fun h => absurd h q2⟩ q3⟩
theorem to_seek {x y low high want part : Int32} {K : Int64 → zHp → Nat → Prop} (hd : 200 ≤ d) (hB : zB g ≤ m0) (hI : tINV τ) (hK : ∀ τ', tINV τ' → tVw τ' = tVw τ → K (o_seek (tVw τ) x y low high want part) (tput g m0 τ' hp) nx) : zMt l g yX5_seek cX5_seek 8 (some .long) d 0 0 [.ref m0, .int x, .int y, .int low, .int high, .int want, .int part] (tput g m0 τ hp) nx (zQl g K) := by
  obtain ⟨d, rfl⟩ := Nat.exists_eq_add_of_le' (show 1 ≤ d by omega)
  apply met_X5_seek
  unfold wp_X5_seek
  refine t_isCell' (by omega) ?_
  refine ⟨_, fun _ _ h => h, ?_⟩
  rcases s_cx_of x with hx | ⟨i, hi, rfl⟩
  · have hK := hK τ hI rfl
    unfold o_seek at hK
    simp only [s_cx, if_pos hx] at hK ⊢
    exact ⟨fun _ => hK, fun h => absurd (by trivial) h⟩
  · rw [if_neg (s_cx_n hi)]
    refine ⟨fun h => absurd h (by decide), fun _ => ?_⟩
    refine t_isCell' (by omega) ?_
    rcases s_cx_of y with hy | ⟨c, hc, rfl⟩
    · have hK := hK τ hI rfl
      unfold o_seek at hK
      simp only [s_cx_s hi] at hK
      simp only [s_cx, if_pos hy] at hK ⊢
      exact ⟨fun _ => hK, fun h => absurd (by trivial) h⟩
    · rw [if_neg (s_cx_n hc)]
      refine ⟨fun h => absurd h (by decide), fun _ => ?_⟩
      unfold o_seek at hK
      simp only [s_cx_s hi, s_cx_s hc] at hK
      have bad : o_skb low high want part → K (-2) (tput g m0 τ hp) nx := fun q => by
        have := hK τ hI rfl
        rw [s_if_p q] at this
        exact this
      refine t_isWanted (by omega) ?_
      by_cases q1 : low < -80000 ∨ 80000 < low
      · rw [if_pos q1]
        exact ⟨fun _ => bad (by unfold o_skb; rcases q1 with q | q <;> simp [q]), fun h => absurd rfl h⟩
      rw [if_neg q1]
      refine ⟨fun h => absurd h (by decide), fun _ => ?_⟩
      refine t_isWanted (by omega) ?_
      by_cases q2 : high < -80000 ∨ 80000 < high
      · rw [if_pos q2]
        exact ⟨fun _ => bad (by unfold o_skb; rcases q2 with q | q <;> simp [q]), fun h => absurd rfl h⟩
      rw [if_neg q2]
      refine ⟨fun h => absurd h (by decide), fun _ => ?_⟩
      refine ⟨fun q => bad (by unfold o_skb; simp [q]), fun q3 => ?_⟩
      refine t_isWanted (by omega) ?_
      by_cases q4 : want < -80000 ∨ 80000 < want
      · rw [if_pos q4]
        exact ⟨fun _ => bad (by unfold o_skb; rcases q4 with q | q <;> simp [q]), fun h => absurd rfl h⟩
      rw [if_neg q4]
      refine ⟨fun h => absurd h (by decide), fun _ => ?_⟩
      refine t_in' (by omega) ?_
      by_cases q5 : part < 0 ∨ 2 < part
      · rw [if_pos q5]
        exact ⟨fun _ => bad (by unfold o_skb; rcases q5 with q | q <;> simp [q]), fun h => absurd rfl h⟩
      rw [if_neg q5]
      refine ⟨fun h => absurd h (by decide), fun _ => ?_⟩
      have hno : ¬ o_skb low high want part := by
        rintro (q | q | q | q | q | q | q | q | q)
        · exact q1 (Or.inl q)
        · exact q1 (Or.inr q)
        · exact q2 (Or.inl q)
        · exact q2 (Or.inr q)
        · exact q3 q
        · exact q4 (Or.inl q)
        · exact q4 (Or.inr q)
        · exact q5 (Or.inl q)
        · exact q5 (Or.inr q)
      rw [s_if_n hno] at hK
      rw [tw_zo]
      refine t_isInput' (by omega) hi ?_
      by_cases h3 : τ.2.2.1 3 0 i = 0
      · have hem : tfm τ i = [] := (hI.1.fmx hi).mp h3
        have he' : ¬ (tVw τ).1.1 i ≠ [] := fun q => q hem
        rw [if_neg he'] at hK
        rw [if_pos h3]
        refine ⟨fun h => absurd h (by decide), fun _ => ?_⟩
        obtain ⟨⟨rk, hO⟩, hnb, hx⟩ := hI.1
        simp only [tg_fMany, tp_fMany, tg_fFails, tp_fFails, hB, true_and, tw_zo]
        refine ⟨fb_nn fb_8, fb_nn fb_8, fb_nn fb_8, ?_⟩
        have sp : tsp τ (tsI (tsI τ 51 0) 52 0) := (tsp.rf.sI (by decide) (by decide)).sI (by decide) (by decide)
        refine t_seeks (rk := rk) (by omega) hB (hO.pe sp.pe) hi hc fb_8 fb_8 fb_8 (by rw [tq2 (by decide), tq1]) tq1 fun τ1 s1 r1 => ?_
        rw [sp.pe.st] at r1 ⊢
        have hF := s_seek_F (f := s_vb (tst τ) i c) (w := o_8 want) (low := o_8 low) (high := o_8 high) (fun x hx => s_vb_B hO hc hx) fb_8 fb_8 fb_8
        have hK : K (if part = 2 then (nI (s_seek (s_vb (tst τ) i c) (o_8 want) (o_8 low) (o_8 high)).2).toInt64
          else match (s_seek (s_vb (tst τ) i c) (o_8 want) (o_8 low) (o_8 high)).1 with
            | none => -1
            | some q => (if part = 0 then q.1 else q.2).toInt64) (tput g m0 τ1 hp) nx := hK τ1 ((sp.tr s1).inv hI) (sp.tr s1).vw
        have r1 : s_fd τ1 (s_seek (s_vb (tst τ) i c) (o_8 want) (o_8 low) (o_8 high)) := r1
        show (part = 2 → _) ∧ _
        generalize hrr : s_seek (s_vb (tst τ) i c) (o_8 want) (o_8 low) (o_8 high) = r at r1 hK hF
        have hrr' : s_seek (s_vb (tst τ) i c) (FP.ddiv (FP.i2d want) 4620693217682128896) (FP.ddiv (FP.i2d low) 4620693217682128896) (FP.ddiv (FP.i2d high) 4620693217682128896) = r := hrr
        simp only [tg_fMany, tp_fMany, tg_found, tp_found, tg_foundF, tp_foundF, hrr']
        refine ⟨fun p2 => ?_, fun p2 => ?_⟩
        · rw [if_pos p2] at hK
          rw [r1.1]
          exact hK
        · rw [if_neg p2] at hK
          cases hr1 : r.1 with
          | none =>
            rw [hr1] at hK
            exact ⟨fun _ => hK, fun h => absurd (by simp) h⟩
          | some q =>
            rw [hr1] at hK
            have hK : K (if part = 0 then q.1 else q.2).toInt64 (tput g m0 τ1 hp) nx := hK
            obtain ⟨v1, v2⟩ := r1.2 q hr1
            obtain ⟨f1, f2⟩ := hF q hr1
            refine ⟨fun h => absurd h (by simp), fun _ => ?_⟩
            refine ⟨_, fun _ _ _ _ h => h, ?_⟩
            refine ⟨fun p0 => ?_, fun p0 => ?_⟩
            · rw [if_pos p0] at hK
              rw [v1]
              exact t_bits (by omega) f1.f hK
            · rw [if_neg p0] at hK
              rw [v2]
              exact t_bits (by omega) f2.f hK
      · have he : tfm τ i ≠ [] := fun q => h3 ((hI.1.fmx hi).mpr q)
        have he' : (tVw τ).1.1 i ≠ [] := he
        rw [if_pos he'] at hK
        rw [if_neg h3]
        exact ⟨fun _ => hK τ hI rfl, fun h => absurd (by trivial) h⟩
end UV
