set_option maxRecDepth 100000
/-! THE REFERENCE's operations: swing -/
section UW
variable {l : Launch} {g : zG} {d m0 : Nat} {τ τ' τm τ1 τ2 : tS} {hp : zHp} {nx : Nat}
theorem fb_8n {x : Int32} : s_Bn 39 (FP.ddiv (FP.i2d x) 4620693217682128896) := by
  have e : (4620693217682128896 : UInt64) = UInt64.ofNat (FP.Core.fromInt FP.Core.b64 8) := by decide +kernel
  rw [e]
  refine fb_divIn (by decide) ?_ (by decide) (by decide)
  have h1 : x.toInt.natAbs ≤ 2 ^ 31 := by
    have a := x.toInt_le
    have b := x.le_toInt
    have e1 : Int32.maxValue.toInt = 2147483647 := by decide
    rw [e1] at a
    omega
  have e2 : FP.i2d x = UInt64.ofNat (FP.Core.fromInt FP.Core.b64 x.toInt) := rfl
  rw [e2]
  by_cases hz : x.toInt = 0
  · rw [hz]
    exact ⟨false, 0, -1074, by unfold fv; decide +kernel, by rw [Nat.zero_mul]; exact Nat.zero_le _⟩
  · obtain ⟨c, q, q1, q2, q3, q4, q5⟩ := fk_ofI (n := x.toInt) (by omega) hz
    refine ⟨_, c, q, q1, ?_⟩
    rw [q4, Nat.mul_assoc, ← Nat.pow_add, show (0 - q).toNat + (q + 1074).toNat = 1074 by omega, Nat.pow_add, Nat.mul_comm]
    exact Nat.mul_le_mul_left _ (Nat.le_trans h1 (by decide))
/-- the input that swings the cell most, so far -/
noncomputable def s_sw (S : sSt) (cell : Nat) (e : UInt64) : Nat → Option Nat × UInt64
  | 0 => (none, 0)
  | c + 1 => match S.2.2.2 c with
    | none => s_sw S cell e c
    | some v => s_if (s_RD S.1 S.2.1 cell c ∧ (s_vb S c cell (FP.dadd v e)).2.1 = 0 ∧ (s_vb S c cell (FP.dsub v e)).2.1 = 0 ∧ ((s_sw S cell e c).1 = none ∨ s_gt (s_ab (FP.dsub (s_vb S c cell (FP.dadd v e)).1 (s_vb S c cell (FP.dsub v e)).1)) (s_sw S cell e c).2))
        (some c, s_ab (FP.dsub (s_vb S c cell (FP.dadd v e)).1 (s_vb S c cell (FP.dsub v e)).1)) (s_sw S cell e c)
noncomputable def o_swing (A : sV) (x e part : Int32) : Int64 := match s_cx x with
  | none => -2
  | some c => s_if (e < 1 ∨ 80000 < e ∨ part < 0 ∨ 1 < part) (-2) (if part = 0 then (s_io (s_sw A.1 c (o_8 e) 24).1).toInt64 else match (s_sw A.1 c (o_8 e) 24).1 with
    | none => -1
    | some _ => (s_sw A.1 c (o_8 e) 24).2.toInt64)
/-- the inputs' numbers are far from the bound -/
def s_in39 (S : sSt) : Prop := ∀ c, c < 24 → ∀ v, S.2.2.2 c = some v → s_Bn 39 v
theorem s_io_e {o : Option Nat} (h : ∀ k, o = some k → k < 24) : s_io o = -1 ↔ o = none := s_io_1 fun k hk => by have := h k hk; omega
theorem s_sw_lt {S : sSt} {cell : Nat} {e : UInt64} : ∀ n k, (s_sw S cell e n).1 = some k → k < n := by
  intro n
  induction n with
  | zero => intro k h; cases h
  | succ n ih =>
    intro k h
    unfold s_sw at h
    split at h
    · have := ih k h; omega
    · unfold s_if at h
      split at h
      · cases h; omega
      · have := ih k h; omega
theorem s_sw_F {S : sSt} {cell : Nat} {e : UInt64} (hv : ∀ c v, c < 24 → S.2.2.2 c = some v → s_B (s_vb S c cell (FP.dadd v e)).1 ∧ s_B (s_vb S c cell (FP.dsub v e)).1) : ∀ n, n ≤ 24 → s_F (s_sw S cell e n).2 := by
  intro n
  induction n with
  | zero => intro _; exact fk_B0.f
  | succ n ih =>
    intro hn
    unfold s_sw
    cases ho : S.2.2.2 n with
    | none => exact ih (by omega)
    | some v =>
      simp only
      unfold s_if
      split
      · obtain ⟨a, b⟩ := hv n v (by omega) ho
        have w : s_Bn 41 (FP.dsub (s_vb S n cell (FP.dadd v e)).1 (s_vb S n cell (FP.dsub v e)).1) := fb_subn (M := 40) (by decide) a b
        exact s_ab_F w.f
      · exact ih (by omega)
set_option maxHeartbeats 1000000 in
theorem to_swing {x e part : Int32} {K : Int64 → zHp → Nat → Prop} (hd : 200 ≤ d) (hB : zB g ≤ m0) (hI : tINV τ) (h39 : s_in39 (tst τ)) (hK : ∀ τ', tINV τ' → tVw τ' = tVw τ → K (o_swing (tVw τ) x e part) (tput g m0 τ' hp) nx) : zMt l g yX5_swing cX5_swing 16 (some .long) d 0 0 [.ref m0, .int x, .int e, .int part] (tput g m0 τ hp) nx (zQl g K) := by
  obtain ⟨d, rfl⟩ := Nat.exists_eq_add_of_le' (show 1 ≤ d by omega)
  apply met_X5_swing
  unfold wp_X5_swing
  have h8 : FP.ddiv (FP.i2d e) (4620693217682128896 : UInt64) = o_8 e := rfl
  simp only [h8]
  refine t_isCell' (by omega) ?_
  refine ⟨_, fun _ _ h => h, ?_⟩
  rcases s_cx_of x with hx | ⟨c, hc, rfl⟩
  · have hK := hK τ hI rfl
    unfold o_swing at hK
    simp only [s_cx, if_pos hx] at hK ⊢
    exact ⟨fun _ => hK, fun h => absurd (by trivial) h⟩
  · rw [if_neg (s_cx_n hc)]
    refine ⟨fun h => absurd h (by decide), fun _ => ?_⟩
    unfold o_swing at hK
    simp only [s_cx_s hc] at hK
    have bad : (e < 1 ∨ 80000 < e ∨ part < 0 ∨ 1 < part) → K (-2) (tput g m0 τ hp) nx := fun q => by
      have := hK τ hI rfl
      rw [s_if_p q] at this
      exact this
    refine t_in' (by omega) ?_
    by_cases q1 : e < 1 ∨ 80000 < e
    · rw [if_pos q1]
      exact ⟨fun _ => bad (by rcases q1 with q | q <;> simp [q]), fun h => absurd rfl h⟩
    rw [if_neg q1]
    refine ⟨fun h => absurd h (by decide), fun _ => ?_⟩
    refine t_in' (by omega) ?_
    by_cases q2 : part < 0 ∨ 1 < part
    · rw [if_pos q2]
      exact ⟨fun _ => bad (by rcases q2 with q | q <;> simp [q]), fun h => absurd rfl h⟩
    rw [if_neg q2]
    refine ⟨fun h => absurd h (by decide), fun _ => ?_⟩
    rw [s_if_n (by
      rintro (q | q | q | q)
      · exact q1 (Or.inl q)
      · exact q1 (Or.inr q)
      · exact q2 (Or.inl q)
      · exact q2 (Or.inr q))] at hK
    obtain ⟨⟨⟨rk, hO⟩, hnb, hx⟩, hN, -⟩ := id hI
    intro z0 hz0
    have hz0 : z0 = 0 := hz0
    subst hz0
    rw [tw_zo]
    refine t_reads (by omega) hB hO hN hc fun τ0 f0 => ?_
    have sp0 : tsp τ τ0 := (f0.sc (by decide) (by decide)).sp
    have hvv : ∀ y v, y < 24 → (tst τ).2.2.2 y = some v → s_B (FP.dadd v (o_8 e)) ∧ s_B (FP.dsub v (o_8 e)) := fun y v hy hv => ⟨fb_addn (M := 39) (by decide) (h39 y hy v hv) fb_8n, fb_subn (M := 39) (by decide) (h39 y hy v hv) fb_8n⟩
    have hvB : ∀ y v, y < 24 → (tst τ).2.2.2 y = some v → s_B (s_vb (tst τ) y c (FP.dadd v (o_8 e))).1 ∧ s_B (s_vb (tst τ) y c (FP.dsub v (o_8 e))).1 := fun y v hy hv => ⟨s_vb_B hO hc (hvv y v hy hv).1, s_vb_B hO hc (hvv y v hy hv).2⟩
    have hK : ∀ τ', tsp τ τ' → K (if part = 0 then (s_io (s_sw (tst τ) c (o_8 e) 24).1).toInt64 else match (s_sw (tst τ) c (o_8 e) 24).1 with
      | none => -1
      | some _ => (s_sw (tst τ) c (o_8 e) 24).2.toInt64) (tput g m0 τ' hp) nx := fun τ' s => hK τ' (s.inv hI) s.vw
    refine ⟨fun n best most set y h n' => ∃ yy τ1, yy ≤ 24 ∧ n = 24 - yy ∧ y = nI yy ∧ set = s_ms (s_RD (tfm τ) (tly τ) c) 24 ∧ best = s_io (s_sw (tst τ) c (o_8 e) yy).1 ∧ most = (s_sw (tst τ) c (o_8 e) yy).2 ∧ h = tput g m0 τ1 hp ∧ nx = n' ∧ tsp τ τ1, ⟨24, 0, τ0, by omega, rfl, rfl, rfl, rfl, rfl, rfl, rfl, sp0⟩, ?_⟩
    rintro n _ _ _ _ _ _ ⟨y, τ1, hy, hn, rfl, rfl, rfl, rfl, rfl, rfl, s1⟩
    refine pk_le 24 y (fun hle => ?_) (fun hlt => ?_)
    · have : y = 24 := by omega
      subst this
      have hK := hK τ1 s1
      have hio := s_io_e (o := (s_sw (tst τ) c (o_8 e) 24).1) (s_sw_lt 24)
      refine ⟨_, fun _ _ _ _ _ _ _ h => h, ?_⟩
      refine ⟨_, fun _ _ _ _ _ _ h => h, ?_⟩
      refine ⟨fun p0 => ?_, fun p0 => ⟨fun p1 => ?_, fun p1 => ?_⟩⟩
      · rw [if_pos p0] at hK
        exact hK
      · rw [if_neg p0, hio.mp p1] at hK
        rw [p1]
        exact hK
      · rw [if_neg p0] at hK
        refine t_bits (by omega) (s_sw_F hvB 24 (by omega)) ?_
        cases ho : (s_sw (tst τ) c (o_8 e) 24).1 with
        | none => exact absurd (hio.mpr ho) p1
        | some k =>
          rw [ho] at hK
          exact hK
    · have cy : (nI y).toNatClampNeg = y := nI_clamp (by omega)
      have iy : vp_in (nI y) 24 := vp_in_nI hlt (by decide)
      have hb := b_t0 (x := s_ms (s_RD (tfm τ) (tly τ) c) 24) (c := y) (by omega)
      have hms := s_ms_b (P := s_RD (tfm τ) (tly τ) c) (n := 24) (k := y) (by omega)
      have I1 : τ1.2.2.1 1 = τ.2.2.1 1 := s1.2.2.1 1 (by omega)
      have D2 : τ1.2.2.2 2 = τ.2.2.2 2 := s1.2.2.2 2 (by omega)
      refine ⟨fun best most set y' h n' => y' = nI y ∧ set = s_ms (s_RD (tfm τ) (tly τ) c) 24 ∧ best = s_io (s_sw (tst τ) c (o_8 e) (y + 1)).1 ∧ most = (s_sw (tst τ) c (o_8 e) (y + 1)).2 ∧ ∃ τ2, h = tput g m0 τ2 hp ∧ nx = n' ∧ tsp τ τ2, ?_, ?_⟩
      · rintro _ _ _ _ _ _ ⟨rfl, rfl, rfl, rfl, τ2, rfl, rfl, s2⟩
        intro z hz
        subst hz
        exact ⟨24 - (y + 1), by omega, y + 1, τ2, by omega, rfl, nI_1 y, rfl, rfl, rfl, rfl, rfl, s2⟩
      · rw [hb]
        by_cases hR : s_RD (tfm τ) (tly τ) c y
        · have hbt : bs (s_ms (s_RD (tfm τ) (tly τ) c) 24) y = true := hms.mpr ⟨hlt, hR⟩
          refine ⟨fun h => absurd hbt h, fun _ => ?_⟩
          simp only [tg_given, ta_given, tu_given, tg_numbers, ta_numbers, tu_numbers, cy, iy, true_implies, false_implies, implies_true, and_true, true_and, forall_eq, I1, D2]
          refine ⟨fun g0 => ?_, fun g0 => ?_⟩
          · have ho : (tst τ).2.2.2 y = none := by show tow τ y = none; unfold tow; rw [if_pos g0]
            have es : s_sw (tst τ) c (o_8 e) (y + 1) = s_sw (tst τ) c (o_8 e) y := by
              rw [s_sw]; simp only [ho]
            exact ⟨by rw [es], by rw [es], τ1, rfl, s1⟩
          · have ho : (tst τ).2.2.2 y = some (τ.2.2.2 2 0 y) := by show tow τ y = some _; unfold tow; rw [if_neg g0]
            obtain ⟨b1, b2⟩ := hvv y _ hlt ho
            obtain ⟨B1, B2⟩ := hvB y _ hlt ho
            generalize τ.2.2.2 2 0 y = v at ho b1 b2 B1 B2 ⊢
            refine ⟨fb_nn fb_8, fb_nn b1, ?_⟩
            rw [tw_zo]
            refine t_valueBy (by omega) hB (hO.pe s1.pe) hlt hc b1 fun τ2 f2 ev2 => ?_
            rw [s1.pe.fm, s1.pe.ly, s1.pe.kd, s1.pe.ow] at ev2 ⊢
            have s2 := s1.tr f2.sp
            rw [tw_zo]
            refine t_errorOf (by omega) hc ?_
            rw [ev2]
            have en : ∀ u : UInt64, s_EV (tfm τ) (tly τ) (tkd τ) (s_up (tow τ) y (some u)) c = s_vb (tst τ) y c u := fun u => rfl
            rw [en]
            obtain ⟨up, hup⟩ : ∃ up, up = s_vb (tst τ) y c (FP.dadd v (o_8 e)) := ⟨_, rfl⟩
            rw [← hup] at B1 ⊢
            refine ⟨fun best most set y' u er h n' => y' = nI y ∧ set = s_ms (s_RD (tfm τ) (tly τ) c) 24 ∧ best = s_io (s_sw (tst τ) c (o_8 e) y).1 ∧ most = (s_sw (tst τ) c (o_8 e) y).2 ∧ u = up.1 ∧ er = (if up.2.1 = 0 then 0 else 1) ∧ h = tput g m0 τ2 hp ∧ nx = n', ?_, ?_⟩
            · rintro _ _ _ _ _ _ _ _ ⟨rfl, rfl, rfl, rfl, rfl, rfl, rfl, rfl⟩
              have D22 : τ2.2.2.2 2 = τ.2.2.2 2 := s2.2.2.2 2 (by omega)
              have hv2 : τ.2.2.2 2 0 y = v := by
                have : tow τ y = some v := ho
                unfold tow at this
                rw [if_neg g0] at this
                exact Option.some.inj this
              simp only [tg_numbers, ta_numbers, tu_numbers, cy, iy, true_implies, false_implies, implies_true, and_true, true_and, forall_eq, D22, hv2]
              refine ⟨fb_nn fb_8, fb_nn b2, ?_⟩
              rw [tw_zo]
              refine t_valueBy (by omega) hB (hO.pe s2.pe) hlt hc b2 fun τ3 f3 ev3 => ?_
              rw [s2.pe.fm, s2.pe.ly, s2.pe.kd, s2.pe.ow] at ev3 ⊢
              have s3 := s2.tr f3.sp
              rw [tw_zo]
              refine t_errorOf (by omega) hc ?_
              rw [ev3]
              rw [en]
              obtain ⟨dn, hdn⟩ : ∃ dn, dn = s_vb (tst τ) y c (FP.dsub v (o_8 e)) := ⟨_, rfl⟩
              rw [← hdn] at B2 ⊢
              have es : s_sw (tst τ) c (o_8 e) (y + 1) = s_if (s_RD (tfm τ) (tly τ) c y ∧ up.2.1 = 0 ∧ dn.2.1 = 0 ∧ ((s_sw (tst τ) c (o_8 e) y).1 = none ∨ s_gt (s_ab (FP.dsub up.1 dn.1)) (s_sw (tst τ) c (o_8 e) y).2)) (some y, s_ab (FP.dsub up.1 dn.1)) (s_sw (tst τ) c (o_8 e) y) := by
                rw [s_sw]
                simp only [ho]
                rw [← hup, ← hdn]
                rfl
              refine ⟨fun best most set y' u er u2 er2 er3 h n' => y' = nI y ∧ set = s_ms (s_RD (tfm τ) (tly τ) c) 24 ∧ best = s_io (s_sw (tst τ) c (o_8 e) y).1 ∧ most = (s_sw (tst τ) c (o_8 e) y).2 ∧ u = up.1 ∧ u2 = dn.1 ∧ er2 = (if up.2.1 = 0 then 0 else 1) ∧ er3 = (if dn.2.1 = 0 then 0 else 1) ∧ h = tput g m0 τ3 hp ∧ nx = n', ?_, ?_⟩
              · rintro _ _ _ _ _ er _ _ _ _ _ ⟨rfl, rfl, rfl, rfl, rfl, rfl, rfl, rfl, rfl, rfl⟩
                have hz0 : (((if up.2.1 = 0 then (0 : Int32) else 1) ||| if dn.2.1 = 0 then 0 else 1) = 0) ↔ up.2.1 = 0 ∧ dn.2.1 = 0 := by
                  by_cases a : up.2.1 = 0
                  · by_cases b : dn.2.1 = 0
                    · simp [a, b]
                    · simp [a, b]
                  · by_cases b : dn.2.1 = 0
                    · simp [a, b]
                    · simp [a, b]
                have w : s_Bn 41 (FP.dsub up.1 dn.1) := fb_subn (M := 40) (by decide) B1 B2
                refine ⟨fb_Fn w.f, t_abs (fb_Fn w.f) ?_⟩
                have eab : (FP.dsub up.1 dn.1 &&& 0x7fffffffffffffff) = s_ab (FP.dsub up.1 dn.1) := rfl
                rw [eab, hz0, s_io_e (fun k hk => by have := s_sw_lt y k hk; omega), fc_gg (s_ab_F w.f) (s_sw_F hvB y (by omega))]
                refine ⟨fun q => ?_, fun q => ?_⟩
                · refine ⟨_, fun _ _ _ _ _ _ _ _ _ _ h => h, ?_⟩
                  refine ⟨fun q3 => ?_, fun q3 => ⟨fun q4 => ?_, fun q4 => ?_⟩⟩
                  · rw [s_if_p ⟨hR, q.1, q.2, Or.inl q3⟩] at es
                    exact ⟨rfl, rfl, by rw [es]; rfl, by rw [es], τ3, rfl, rfl, s3⟩
                  · rw [s_if_p ⟨hR, q.1, q.2, Or.inr q4⟩] at es
                    exact ⟨rfl, rfl, by rw [es]; rfl, by rw [es], τ3, rfl, rfl, s3⟩
                  · rw [s_if_n (fun h => h.2.2.2.elim q3 q4)] at es
                    exact ⟨rfl, rfl, by rw [es], by rw [es], τ3, rfl, rfl, s3⟩
                · rw [s_if_n (fun h => q ⟨h.2.1, h.2.2.1⟩)] at es
                  exact ⟨rfl, rfl, by rw [es], by rw [es], τ3, rfl, rfl, s3⟩
              · exact ⟨fun q => ⟨rfl, rfl, rfl, rfl, rfl, rfl, rfl, by rw [if_pos q], rfl, rfl⟩, fun q => ⟨rfl, rfl, rfl, rfl, rfl, rfl, rfl, by rw [if_neg q], rfl, rfl⟩⟩
            · exact ⟨fun q => ⟨rfl, rfl, rfl, rfl, rfl, by rw [if_pos q], rfl, rfl⟩, fun q => ⟨rfl, rfl, rfl, rfl, rfl, by rw [if_neg q], rfl, rfl⟩⟩
        · have hbt : ¬ bs (s_ms (s_RD (tfm τ) (tly τ) c) 24) y = true := fun h => hR (hms.mp h).2
          refine ⟨fun _ => ?_, fun h => absurd hbt h⟩
          have es : s_sw (tst τ) c (o_8 e) (y + 1) = s_sw (tst τ) c (o_8 e) y := by
            rw [s_sw]
            cases ho : (tst τ).2.2.2 y with
            | none => rfl
            | some v =>
              simp only
              exact s_if_n (fun h => hR h.1)
          exact ⟨rfl, rfl, by rw [es], by rw [es], τ1, rfl, rfl, s1⟩
end UW
