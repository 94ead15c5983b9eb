set_option maxRecDepth 100000
/-! THE REFERENCE's operations: seek -/
section UT
variable {l : Launch} {g : zG} {d m0 : Nat} {τ τ' τm τ1 τ2 : tS} {hp : zHp} {nx : Nat}
/-- what seeks leaves -/
def s_fd (τ' : tS) (r : Option (UInt64 × UInt64) × Nat) : Prop := τ'.1 51 = nI r.2 ∧ ∀ q, r.1 = some q → τ'.2.1 53 = q.1 ∧ τ'.2.1 54 = q.2
theorem s_lt_eq {a b w : UInt64} (ha : s_F a) (hb : s_F b) (hw : s_F w) (h : s_lt a w ↔ ¬ s_lt b w) : ¬ s_eq b a := by
  rw [fo_lt ha hw, fo_lt hb hw] at h
  rw [fo_eq hb ha]
  omega
theorem s_ifif {p q : Prop} : (s_if p (1 : Int32) 0 = s_if q 1 0) ↔ (p ↔ q) := by
  by_cases h1 : p
  · by_cases h2 : q
    · rw [s_if_p h1, s_if_p h2]; exact ⟨fun _ => ⟨fun _ => h2, fun _ => h1⟩, fun _ => rfl⟩
    · rw [s_if_p h1, s_if_n h2]; exact ⟨fun h => absurd h (by decide), fun h => absurd (h.mp h1) h2⟩
  · by_cases h2 : q
    · rw [s_if_n h1, s_if_p h2]; exact ⟨fun h => absurd h (by decide), fun h => absurd (h.mpr h2) h1⟩
    · rw [s_if_n h1, s_if_n h2]; exact ⟨fun _ => ⟨fun h => absurd h h1, fun h => absurd h h2⟩, fun _ => rfl⟩
set_option maxHeartbeats 1000000 in
theorem t_seeks {rk : Nat → Nat} {i c : Nat} {low high w : UInt64} {K : Int32 → zHp → Nat → Prop} (hd : 134 ≤ d) (hB : zB g ≤ m0) (hO : tOK rk τ) (hi : i < 24) (hc : c < 24) (hlow : s_B low) (hhigh : s_B high) (hw : s_B w) (h51 : τ.1 51 = 0) (h52 : τ.1 52 = 0) (hK : ∀ τ', tsp τ τ' → s_fd τ' (s_seek (s_vb (tst τ) i c) w low high) → K (if (s_seek (s_vb (tst τ) i c) w low high).1 = none then 0 else 1) (tput g m0 τ' hp) nx) : zMt l g yX5_seeks cX5_seeks 25 (some .boolean) d 0 0 [.ref m0, .int (nI i), .int (nI c), .double low, .double high, .double w] (tput g m0 τ hp) nx (zQi g K) := by
  obtain ⟨d, rfl⟩ := Nat.exists_eq_add_of_le' (show 1 ≤ d by omega)
  apply met_X5_seeks
  unfold wp_X5_seeks
  have h51' : τ.1 51 = nI 0 := by rw [h51, nI_0]
  obtain ⟨f, hf⟩ : ∃ f, f = s_vb (tst τ) i c := ⟨_, rfl⟩
  have fB : ∀ x, s_B x → s_B (f x).1 := fun x hx => by rw [hf]; exact s_vb_B hO hc hx
  obtain ⟨r, hr⟩ : ∃ r, r = s_seek (s_vb (tst τ) i c) w low high := ⟨_, rfl⟩
  rw [← hr] at hK
  rw [← hf] at hr
  -- one more telling, from any state with the same view
  have call : ∀ (τ0 : tS) (k : Nat) (x : UInt64) (K : UInt64 → zHp → Nat → Prop), tsp τ τ0 → τ0.1 51 = nI k → τ0.1 52 = 0 → s_B x → (∀ τ', tsp τ τ' → τ'.1 51 = nI (k + 1) → τ'.1 52 = (if (f x).2.1 = 0 then 0 else 1) → K (f x).1 (tput g m0 τ' hp) nx) → zMt l g yX5_f cX5_f 7 (some .double) d 0 0 [.ref m0, .int (nI i), .int (nI c), .double x] (tput g m0 τ0 hp) nx (zQd g K) := by
    intro τ0 k x K s0 e51 e52 hx hK
    refine t_f (by omega) hB (hO.pe s0.pe) hi hc hx e51 e52 fun τ' s1 q1 q2 => ?_
    rw [s0.pe.st, ← hf] at q2 ⊢
    exact hK τ' (s0.tr s1) q1 q2
  rw [tw_zo]
  refine call τ 0 low _ tsp.rf h51' h52 hlow fun τ1 s1 a1 a2 => ?_
  simp only [tg_fFails, tp_fFails]
  rw [a2]
  by_cases e1 : (f low).2.1 = 0
  · rw [if_pos e1]
    refine ⟨fun _ => ?_, fun h => absurd rfl h⟩
    rw [if_pos e1] at a2
    rw [tw_zo]
    refine call τ1 1 high _ s1 a1 a2 hhigh fun τ2 s2 b1 b2 => ?_
    simp only [tg_fFails, tp_fFails]
    rw [b2]
    by_cases e2 : (f high).2.1 = 0
    · rw [if_pos e2]
      refine ⟨fun _ => ?_, fun h => absurd rfl h⟩
      rw [if_pos e2] at b2
      unfold s_seek at hr
      rw [if_neg (fun h => h e1), if_neg (fun h => h e2)] at hr
      refine ⟨fun a b x y h n => low = a ∧ high = b ∧ x = (f low).1 ∧ y = (f high).1 ∧ h = tput g m0 τ2 hp ∧ nx = n ∧ (s_eq (f low).1 w ∨ s_eq (f high).1 w), ?_, ?_⟩
      · rintro _ _ _ _ _ _ ⟨rfl, rfl, rfl, rfl, rfl, rfl, hq⟩
        refine ⟨_, fun _ _ _ _ _ _ _ _ h => h, ?_⟩
        rw [fc_l0]
        refine ⟨fun q => ?_, fun q => ?_⟩
        · rw [s_if_p q] at hr
          rw [tw_zo]
          refine t_finds (by omega) hB fun τ3 s3 c1 c2 c3 => ?_
          have := hK τ3 (s2.tr s3) ⟨by rw [c1, b1, hr], by rw [hr]; intro q hq; cases hq; exact ⟨c2, c3⟩⟩
          rw [hr] at this
          exact this
        · rw [s_if_n q, s_if_p (hq.resolve_left q)] at hr
          rw [tw_zo]
          refine t_finds (by omega) hB fun τ3 s3 c1 c2 c3 => ?_
          have := hK τ3 (s2.tr s3) ⟨by rw [c1, b1, hr], by rw [hr]; intro q hq; cases hq; exact ⟨c2, c3⟩⟩
          rw [hr] at this
          exact this
      · rw [fc_l0, fc_l0]
        refine ⟨fun q => ⟨rfl, rfl, rfl, rfl, rfl, rfl, Or.inl q⟩, fun n1 => ⟨fun q => ⟨rfl, rfl, rfl, rfl, rfl, rfl, Or.inr q⟩, fun n2 => ?_⟩⟩
        rw [s_if_n n1, s_if_n n2] at hr
        refine ⟨fun a b x y z h n => low = a ∧ high = b ∧ x = (f low).1 ∧ y = (f high).1 ∧ z = s_if (s_lt (f low).1 w) 1 0 ∧ h = tput g m0 τ2 hp ∧ nx = n, ?_, ?_⟩
        · rintro _ _ _ _ _ _ _ ⟨rfl, rfl, rfl, rfl, rfl, rfl, rfl⟩
          refine ⟨fun a b x y z u h n => low = a ∧ high = b ∧ x = (f low).1 ∧ y = (f high).1 ∧ z = s_if (s_lt (f low).1 w) 1 0 ∧ u = s_if (s_lt (f high).1 w) 1 0 ∧ h = tput g m0 τ2 hp ∧ nx = n, ?_, ?_⟩
          · rintro _ _ _ _ _ _ _ _ ⟨rfl, rfl, rfl, rfl, rfl, rfl, rfl, rfl⟩
            have hz : (s_if (s_lt (f low).1 w) (1 : Int32) 0 = s_if (s_lt (f high).1 w) 1 0) ↔ (s_lt (f low).1 w ↔ s_lt (f high).1 w) := s_ifif
            rw [hz]
            refine ⟨fun q => ?_, fun q => ?_⟩
            · rw [s_if_p q] at hr
              have := hK τ2 s2 ⟨by rw [b1, hr], by rw [hr]; intro q hq; cases hq⟩
              rw [hr] at this
              exact this
            · rw [s_if_n q] at hr
              refine ⟨fun m a b x y z u h n => ∃ j k τ3 H, j ≤ 40 ∧ m = 40 - j ∧ u = nI j ∧ z = s_if H 1 0 ∧ h = tput g m0 τ3 hp ∧ nx = n ∧ tsp τ τ3 ∧ τ3.1 51 = nI k ∧ τ3.1 52 = 0 ∧ s_B a ∧ s_B b ∧ s_B x ∧ s_B y ∧ (s_lt x w ↔ ¬ s_lt y w) ∧ r = s_sk f w (40 - j) a b x y H k, ⟨40, 0, 2, τ2, False, by omega, rfl, rfl, by rw [s_if_n (fun h => h)], rfl, rfl, s2, b1, b2, hlow, hhigh, fB _ hlow, fB _ hhigh, ?_, hr⟩, ?_⟩
              · by_cases q1 : s_lt (f low).1 w
                · exact ⟨fun _ q2 => q ⟨fun _ => q2, fun _ => q1⟩, fun _ => q1⟩
                · refine ⟨fun h => absurd h q1, fun q2 => absurd ⟨fun h => absurd h q1, fun h => absurd h q2⟩ q⟩
              rintro m a b x y _ _ _ _ ⟨j, k, τ3, H, hj, hm, rfl, rfl, rfl, rfl, s3, k51, k52, Ba, Bb, Bx, By, hxy, hr⟩
              clear hz q n1 n2
              have hne := s_lt_eq Bx.f By.f hw.f hxy
              obtain ⟨v1, v2, v3, v4, v5, v6, v7, v8⟩ := s_br hw Ba Bb Bx By hne
              refine ⟨fun a' b' x' y' z' u' h n => a = a' ∧ b = b' ∧ x = x' ∧ y = y' ∧ h = tput g m0 τ3 hp ∧ nx = n ∧ r = (some (s_end w a b x y), k), ?_, ?_⟩
              · rintro _ _ _ _ _ _ _ _ ⟨rfl, rfl, rfl, rfl, rfl, rfl, hr⟩
                have w1 : s_Bn 41 (FP.dsub x w) := fb_subn (M := 40) (by decide) Bx hw
                have w2 : s_Bn 41 (FP.dsub y w) := fb_subn (M := 40) (by decide) By hw
                refine ⟨fb_Fn w1.f, t_abs (fb_Fn w1.f) ⟨fb_Fn w2.f, t_abs (fb_Fn w2.f) ?_⟩⟩
                have gg := fc_gg (s_ab_F w1.f) (s_ab_F w2.f)
                unfold s_ab at gg
                rw [gg]
                have ee : (s_gt (FP.dsub x w &&& 0x7fffffffffffffff) (FP.dsub y w &&& 0x7fffffffffffffff)) ↔ s_gt (s_ab (FP.dsub x w)) (s_ab (FP.dsub y w)) := Iff.rfl
                rw [ee]
                refine ⟨_, fun _ _ _ _ _ _ _ _ _ h => h, ?_⟩
                refine ⟨fun q => ?_, fun q => ?_⟩
                · refine ⟨_, fun _ _ _ _ _ _ _ _ _ _ h => h, fun _ => ?_, fun h => absurd rfl h⟩
                  refine ⟨_, fun _ _ _ _ _ _ _ _ _ _ _ h => h, fun _ => ?_, fun h => absurd rfl h⟩
                  rw [tw_zo]
                  refine t_finds (by omega) hB fun τ4 s4 c1 c2 c3 => ?_
                  have he : s_end w a b x y = (b, y) := s_if_p q
                  have := hK τ4 (s3.tr s4) ⟨by rw [c1, k51, hr], by rw [hr, he]; intro q hq; cases hq; exact ⟨c2, c3⟩⟩
                  rw [hr] at this
                  exact this
                · refine ⟨_, fun _ _ _ _ _ _ _ _ _ _ h => h, fun h => absurd h (by decide), fun _ => ?_⟩
                  refine ⟨_, fun _ _ _ _ _ _ _ _ _ _ _ h => h, fun h => absurd h (by decide), fun _ => ?_⟩
                  rw [tw_zo]
                  refine t_finds (by omega) hB fun τ4 s4 c1 c2 c3 => ?_
                  have he : s_end w a b x y = (a, x) := s_if_n q
                  have := hK τ4 (s3.tr s4) ⟨by rw [c1, k51, hr], by rw [hr, he]; intro q hq; cases hq; exact ⟨c2, c3⟩⟩
                  rw [hr] at this
                  exact this
              · refine pk_le 40 j (fun hle => ?_) (fun hlt => ?_)
                · have : j = 40 := by omega
                  subst this
                  exact ⟨rfl, rfl, rfl, rfl, rfl, rfl, hr⟩
                · obtain ⟨n, hn⟩ : ∃ n, 40 - j = n + 1 := ⟨39 - j, by omega⟩
                  rw [hn] at hr
                  simp only [s_sk] at hr
                  obtain ⟨mid, hmid⟩ : ∃ mid, mid = s_mid w a b x y H := ⟨_, rfl⟩
                  rw [← hmid] at hr
                  refine ⟨v1, fun wide hwide => ?_⟩
                  subst hwide
                  refine ⟨v2, v3, fun hv hhv => ?_⟩
                  have hhv : hv = s_hv a b := hhv
                  subst hhv
                  refine ⟨fun a' b' x' y' z' u' wd mm h n => a = a' ∧ b = b' ∧ x = x' ∧ y = y' ∧ u' = nI j ∧ wd = FP.dsub b a ∧ mid = mm ∧ h = tput g m0 τ3 hp ∧ nx = n, ?_, ?_⟩
                  · rintro _ _ _ _ z' _ _ _ _ _ ⟨rfl, rfl, rfl, rfl, rfl, rfl, rfl, rfl, rfl⟩
                    have hmn : vf_n64 mid := by rw [hmid]; exact s_mid_n v3 v8
                    rw [fc_lle, fc_glt]
                    by_cases p1 : s_gt mid a
                    · refine ⟨fun h => absurd p1 h, fun _ => ?_⟩
                      by_cases p2 : s_lt mid b
                      · refine ⟨fun _ => ?_, fun h => absurd p2 h⟩
                        rw [s_if_p ⟨p1, p2⟩] at hr
                        have Bm : s_B mid := fo_inB hmn Ba Bb p1 p2
                        rw [tw_zo]
                        refine call τ3 k mid _ s3 k51 k52 Bm fun τ4 s4 c1 c2 => ?_
                        simp only [tg_fFails, tp_fFails]
                        rw [c2]
                        by_cases e3 : (f mid).2.1 = 0
                        · rw [if_pos e3]
                          rw [if_pos e3] at c2
                          rw [if_neg (fun h => h e3)] at hr
                          refine ⟨fun _ => ?_, fun h => absurd rfl h⟩
                          rw [fc_l0]
                          refine ⟨fun q => ?_, fun q => ?_⟩
                          · rw [s_if_p q] at hr
                            rw [tw_zo]
                            refine t_finds (by omega) hB fun τ5 s5 d1 d2 d3 => ?_
                            have := hK τ5 (s4.tr s5) ⟨by rw [d1, c1, hr], by rw [hr]; intro q hq; cases hq; exact ⟨d2, d3⟩⟩
                            rw [hr] at this
                            exact this
                          · rw [s_if_n q] at hr
                            have Bf := fB _ Bm
                            obtain ⟨fm, hfm⟩ : ∃ fm, fm = (f mid).1 := ⟨_, rfl⟩
                            rw [← hfm] at hr q Bf ⊢
                            refine ⟨fun a' b' x' y' z2 u' wd mm v z3 h n => a = a' ∧ b = b' ∧ x = x' ∧ y = y' ∧ u' = nI j ∧ wd = FP.dsub b a ∧ mid = mm ∧ fm = v ∧ z3 = s_if (s_lt fm w) 1 0 ∧ h = tput g m0 τ4 hp ∧ nx = n, ?_, ?_⟩
                            · rintro _ _ _ _ z2 _ _ _ _ _ _ _ ⟨rfl, rfl, rfl, rfl, rfl, rfl, rfl, rfl, rfl, rfl, rfl⟩
                              refine ⟨fun a' b' x' y' z2 u' wd mm v z3 z4 h n => a = a' ∧ b = b' ∧ x = x' ∧ y = y' ∧ u' = nI j ∧ wd = FP.dsub b a ∧ mid = mm ∧ fm = v ∧ z3 = s_if (s_lt fm w) 1 0 ∧ z4 = s_if (s_lt x w) 1 0 ∧ h = tput g m0 τ4 hp ∧ nx = n, ?_, ?_⟩
                              · rintro _ _ _ _ z2 _ _ _ _ _ _ _ _ ⟨rfl, rfl, rfl, rfl, rfl, rfl, rfl, rfl, rfl, rfl, rfl, rfl⟩
                                have hz : (s_if (s_lt fm w) (1 : Int32) 0 = s_if (s_lt x w) 1 0) ↔ (s_lt fm w ↔ s_lt x w) := s_ifif
                                rw [hz]
                                refine ⟨fun a' b' x' y' z2 u' wd mm v h n => s_B a' ∧ s_B b' ∧ s_B x' ∧ s_B y' ∧ (s_lt x' w ↔ ¬ s_lt y' w) ∧ u' = nI j ∧ wd = FP.dsub b a ∧ r = s_sk f w (40 - (j + 1)) a' b' x' y' (s_hw a' b' (FP.dsub b a)) (k + 1) ∧ h = tput g m0 τ4 hp ∧ nx = n, ?_, fun q5 => ?_, fun q5 => ?_⟩
                                · rintro a' b' x' y' z2 _ _ mm v _ _ ⟨Ba', Bb', Bx', By', hxy', rfl, rfl, hr', rfl, rfl⟩
                                  have w1 : s_Bn 41 (FP.dsub b' a') := fb_subn (M := 40) (by decide) Bb' Ba'
                                  have w0 : s_Bn 41 (FP.dsub b a) := fb_subn (M := 40) (by decide) Bb Ba
                                  have w2 := fb_half (M := 41) (by decide) w0
                                  refine ⟨fb_Fn w1.f, fb_Fn w2.f, ?_⟩
                                  refine ⟨_, fun _ _ _ _ _ _ _ _ _ _ _ _ h => h, ?_⟩
                                  rw [fc_gg w1.f w2.f]
                                  refine ⟨fun q6 => ?_, fun q6 => ?_⟩
                                  · intro z hz6
                                    subst hz6
                                    exact ⟨40 - (j + 1), by omega, j + 1, k + 1, τ4, s_hw a' b' (FP.dsub b a), by omega, rfl, nI_1 j, (s_if_n (fun h => h q6)).symm, rfl, rfl, s4, c1, c2, Ba', Bb', Bx', By', hxy', hr'⟩
                                  · intro z hz6
                                    subst hz6
                                    exact ⟨40 - (j + 1), by omega, j + 1, k + 1, τ4, s_hw a' b' (FP.dsub b a), by omega, rfl, nI_1 j, (s_if_p q6).symm, rfl, rfl, s4, c1, c2, Ba', Bb', Bx', By', hxy', hr'⟩
                                · rw [s_if_p q5] at hr
                                  refine ⟨Bm, Bb, Bf, By, q5.trans hxy, rfl, rfl, ?_, rfl, rfl⟩
                                  rw [hr, show 40 - (j + 1) = n by omega]
                                · rw [s_if_n q5] at hr
                                  refine ⟨Ba, Bm, Bx, Bf, ?_, rfl, rfl, ?_, rfl, rfl⟩
                                  · by_cases q1 : s_lt fm w
                                    · exact ⟨fun q2 _ => q5 ⟨fun _ => q2, fun _ => q1⟩, fun h => absurd q1 h⟩
                                    · refine ⟨fun _ => q1, fun _ => ?_⟩
                                      by_cases q2 : s_lt x w
                                      · exact q2
                                      · exact absurd ⟨fun h => absurd h q1, fun h => absurd h q2⟩ q5
                                  · rw [hr, show 40 - (j + 1) = n by omega]
                              · rw [fc_gle]
                                by_cases q1 : s_lt x w
                                · exact ⟨fun h => absurd q1 h, fun _ => ⟨rfl, rfl, rfl, rfl, rfl, rfl, rfl, rfl, rfl, by rw [s_if_p q1], rfl, rfl⟩⟩
                                · exact ⟨fun _ => ⟨rfl, rfl, rfl, rfl, rfl, rfl, rfl, rfl, rfl, by rw [s_if_n q1], rfl, rfl⟩, fun h => absurd q1 h⟩
                            · rw [fc_gle]
                              by_cases q1 : s_lt fm w
                              · exact ⟨fun h => absurd q1 h, fun _ => ⟨rfl, rfl, rfl, rfl, rfl, rfl, rfl, rfl, by rw [s_if_p q1], rfl, rfl⟩⟩
                              · exact ⟨fun _ => ⟨rfl, rfl, rfl, rfl, rfl, rfl, rfl, rfl, by rw [s_if_n q1], rfl, rfl⟩, fun h => absurd q1 h⟩
                        · rw [if_neg e3]
                          rw [if_pos (fun h => e3 h)] at hr
                          refine ⟨fun h => absurd h (by decide), fun _ => ?_⟩
                          have := hK τ4 s4 ⟨by rw [c1, hr], by rw [hr]; intro q hq; cases hq⟩
                          rw [hr] at this
                          exact this
                      · rw [s_if_n (fun h => p2 h.2)] at hr
                        exact ⟨fun h => absurd h p2, fun _ => ⟨rfl, rfl, rfl, rfl, rfl, rfl, hr⟩⟩
                    · rw [s_if_n (fun h => p1 h.1)] at hr
                      exact ⟨fun _ => ⟨rfl, rfl, rfl, rfl, rfl, rfl, hr⟩, fun h => absurd p1 h⟩
                  · by_cases hH : H
                    · rw [s_if_p hH]
                      refine ⟨fun h => absurd h (by decide), fun _ => ⟨v4, v5, v6, v7, v8, fun ct hct => ?_⟩⟩
                      have hct : ct = s_cut w a b x y := hct
                      subst hct
                      rw [fc_lle, fc_gle]
                      by_cases p1 : s_gt (s_cut w a b x y) a
                      · refine ⟨fun h => absurd p1 h, fun _ => ?_⟩
                        by_cases p2 : s_lt (s_cut w a b x y) b
                        · refine ⟨fun h => absurd p2 h, fun _ => ⟨rfl, rfl, rfl, rfl, rfl, rfl, ?_, rfl, rfl⟩⟩
                          rw [hmid]
                          exact s_if_p ⟨hH, p1, p2⟩
                        · refine ⟨fun _ => ⟨rfl, rfl, rfl, rfl, rfl, rfl, ?_, rfl, rfl⟩, fun h => absurd p2 h⟩
                          rw [hmid]
                          exact s_if_n (fun h => p2 h.2.2)
                      · refine ⟨fun _ => ⟨rfl, rfl, rfl, rfl, rfl, rfl, ?_, rfl, rfl⟩, fun h => absurd p1 h⟩
                        rw [hmid]
                        exact s_if_n (fun h => p1 h.2.1)
                    · rw [s_if_n hH]
                      refine ⟨fun _ => ⟨rfl, rfl, rfl, rfl, rfl, rfl, ?_, rfl, rfl⟩, fun h => absurd rfl h⟩
                      rw [hmid]
                      exact s_if_n (fun h => hH h.1)
          · rw [fc_gle]
            by_cases q1 : s_lt (f high).1 w
            · exact ⟨fun h => absurd q1 h, fun _ => ⟨rfl, rfl, rfl, rfl, rfl, by rw [s_if_p q1], rfl, rfl⟩⟩
            · exact ⟨fun _ => ⟨rfl, rfl, rfl, rfl, rfl, by rw [s_if_n q1], rfl, rfl⟩, fun h => absurd q1 h⟩
        · rw [fc_gle]
          by_cases q1 : s_lt (f low).1 w
          · exact ⟨fun h => absurd q1 h, fun _ => ⟨rfl, rfl, rfl, rfl, by rw [s_if_p q1], rfl, rfl⟩⟩
          · exact ⟨fun _ => ⟨rfl, rfl, rfl, rfl, by rw [s_if_n q1], rfl, rfl⟩, fun h => absurd q1 h⟩
    · rw [if_neg e2]
      refine ⟨fun h => absurd h (by decide), fun _ => ?_⟩
      have hr : r = (none, 2) := by
        rw [hr]
        unfold s_seek
        rw [if_neg (fun h => h e1), if_pos (fun h => e2 h)]
      have := hK τ2 s2 ⟨by rw [b1, hr], by rw [hr]; intro q hq; cases hq⟩
      rw [hr] at this
      exact this
  · rw [if_neg e1]
    refine ⟨fun h => absurd h (by decide), fun _ => ?_⟩
    have hr : r = (none, 1) := by
      rw [hr]
      unfold s_seek
      rw [if_pos (fun h => e1 h)]
    have := hK τ1 s1 ⟨by rw [a1, hr], by rw [hr]; intro q hq; cases hq⟩
    rw [hr] at this
    exact this
end UT
