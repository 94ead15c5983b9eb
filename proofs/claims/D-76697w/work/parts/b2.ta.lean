set_option maxRecDepth 100000
/-! table -/
section TA
variable {l : Launch} {g : zG} {d x0 : Nat} {P : cP} {σ σ' : cS} {hp hp' : zHp} {nx M M' : Nat} {A : sV} {S : sSt} {fm : sF} {ly : sY} {kd : Nat → Int32} {mc ms kc ks : Nat}
theorem s_bb_n {b : Int32} {bb : Option Nat} (h : s_bb b bb) (hb : b = -1) : bb = none := by
  rcases h with ⟨-, q⟩ | ⟨y, -, -, q, -⟩
  · exact q
  · exact absurd hb q
theorem s_bb_y {b : Int32} {bb : Option Nat} (h : s_bb b bb) (hb : b ≠ -1) : ∃ y, bb = some y ∧ y < 24 ∧ b = nI y := by
  rcases h with ⟨q, -⟩ | ⟨y, q1, q2, -, q3⟩
  · exact absurd q hb
  · exact ⟨y, q3, q1, q2⟩
theorem s_bb_s {b : Int32} {y : Nat} (h : s_bb b (some y)) : y < 24 ∧ b = nI y ∧ b ≠ -1 := by
  rcases h with ⟨-, q⟩ | ⟨y', q1, q2, q3, q4⟩
  · cases q
  · cases q4; exact ⟨q1, q2, q3⟩
/-- an axis of one number 0, new -/
theorem c_ax1 (hW : cW g x0 P hp) {q c : Nat} (h1 : hp q = some (.inr (32, [.int (nI c), va_rf (some (q + 1))]))) (h2 : hp (q + 1) = some (.inl (g.2.1 1, 1, .inr (.inr (.inr (.inl (fun _ => 0))))))) (hz : cZn g (q + 1)) : cAx g hp q c [0] :=
  ⟨q + 1, fun _ => 0, h1, h2, fun j hj => by
    have : j = 0 := by
      have : j < 1 := hj
      omega
    subst this; rfl, hz⟩
theorem co_table (hV : sOK A.1) (hI : cINV g x0 P hp σ A M) (hz9 : g.2.2.2.2 999 + 257 ≤ nx) (hd : 40 ≤ d) (hmc : 249 ≤ mc) (hms : 1478 ≤ ms) {x o a b : Int32} {K : Int32 → zHp → Nat → Prop} (hK : ∀ σ' hp' nx', cINV g x0 P hp' σ' (o_table A x o a b).2 M → hLe hp hp' → nx ≤ nx' → K (o_table A x o a b).1 (cput g x0 P σ' hp') nx') : zMt l g yX0_table cX0_table 5 (some .int) d mc ms [.ref x0, .int x, .int o, .int a, .int b] (cput g x0 P σ hp) nx (zQi g K) := by
  obtain ⟨d, rfl⟩ := Nat.exists_eq_add_of_le' (show 1 ≤ d by omega)
  have hI' := hI
  obtain ⟨i1, i2, i3, i4, i5, i6, i7⟩ := hI
  have bad : o_table A x o a b = (-2, A) → K (-2) (cput g x0 P σ hp) nx := fun e => by
    have h0 := hK σ hp nx
    rw [e] at h0
    exact h0 hI' hLe.rf (Nat.le_refl _)
  apply met_X0_table
  unfold wp_X0_table
  refine ⟨Nat.zero_le _, Nat.zero_le _, ?_⟩
  have m41 : ∀ h n kc ks, (o_table A x o a b = (-2, A) ∧ h = cput g x0 P σ hp ∧ nx = n ∧ kc = 0 ∧ ks = 0) → kc ≤ mc ∧ ks ≤ ms ∧ K (-2) h n := by
    rintro h n kc ks ⟨e, rfl, rfl, rfl, rfl⟩
    exact ⟨Nat.zero_le _, Nat.zero_le _, bad e⟩
  refine c_isTable (by omega) (fun e => ?_) (fun t ht ex e => ?_)
  · exact ⟨fun h n kc ks => o_table A x o a b = (-2, A) ∧ h = cput g x0 P σ hp ∧ nx = n ∧ kc = 0 ∧ ks = 0, m41, fun _ => ⟨by unfold o_table; rw [e], rfl, rfl, rfl, rfl⟩, fun z => absurd rfl z⟩
  refine ⟨fun h n kc ks => o_table A x o a b = (-2, A) ∧ h = cput g x0 P σ hp ∧ nx = n ∧ kc = 0 ∧ ks = 0, m41, fun z => absurd z (by decide), fun _ => ⟨Nat.zero_le _, Nat.zero_le _, ?_⟩⟩
  subst ex
  refine c_isCell (by omega) (fun e2 => ?_) (fun oo ho exo e2 => ?_)
  · exact ⟨fun _ => ⟨by unfold o_table; rw [e]; simp only [e2], rfl, rfl, rfl, rfl⟩, fun z => absurd rfl z⟩
  refine ⟨fun z => absurd z (by decide), fun _ => ⟨Nat.zero_le _, Nat.zero_le _, ?_⟩⟩
  subst exo
  refine c_isCell (by omega) (fun e3 => ?_) (fun aa ha exa e3 => ?_)
  · exact ⟨fun _ => ⟨by unfold o_table; rw [e]; simp only [e2, e3], rfl, rfl, rfl, rfl⟩, fun z => absurd rfl z⟩
  refine ⟨fun z => absurd z (by decide), fun _ => ?_⟩
  subst exa
  have eo : ∀ bb, s_bx b = some bb → o_table A (nI t) (nI oo) (nI aa) b = (if bb = some aa then (-2, A) else s_if (A.1.1 aa = [] ∧ ∀ y, bb = some y → A.1.1 y = []) (s_if (∃ rk, s_rk A.1.1 (s_up A.1.2.1 t (some (s_nt oo aa bb 0 0))) rk) (o_lay A t (s_nt oo aa bb 0 0)) (-5, A)) (-3, A)) := by
    intro bb eb
    unfold o_table
    rw [e]
    simp only [e2, e3, eb]
  refine ⟨fun h n kc ks => (∃ bb, s_bx b = some bb ∧ s_bb b bb) ∧ h = cput g x0 P σ hp ∧ nx = n ∧ kc = 0 ∧ ks = 0, ?_, fun eb => ?_, fun eb => ?_⟩
  rotate_left
  · refine ⟨⟨none, ?_, ?_⟩, rfl, rfl, rfl, rfl⟩
    · unfold s_bx; rw [if_pos eb]
    · rcases s_bx_of b with ⟨-, q, -⟩ | ⟨bb, q1, q2⟩
      · exact absurd eb q
      · unfold s_bx at q1; rw [if_pos eb] at q1; cases q1; exact q2
  · refine ⟨Nat.zero_le _, Nat.zero_le _, ?_⟩
    refine c_isCell (by omega) (fun e4 => ?_) (fun bb hb exb e4 => ?_)
    · exact ⟨fun _ => ⟨by unfold o_table s_bx; rw [e]; simp only [e2, e3, if_neg eb, e4]; rfl, rfl, rfl, rfl, rfl⟩, fun z => absurd rfl z⟩
    · refine ⟨fun z => absurd z (by decide), fun _ => ⟨?_, rfl, rfl, rfl, rfl⟩⟩
      rcases s_bx_of b with ⟨q, -⟩ | q
      · unfold s_bx at q; rw [if_neg eb, e4] at q; cases q
      · exact q
  rintro h n kc ks ⟨⟨bb, hbx, hbb⟩, rfl, rfl, rfl, rfl⟩
  have eo := eo bb hbx
  have haa : nI aa = b ↔ bb = some aa := by
    refine ⟨fun z => ?_, fun z => ?_⟩
    · rcases hbb with ⟨q1, -⟩ | ⟨y, q1, q2, -, q3⟩
      · rw [q1] at z
        exact absurd z (nI_ne_m1 (by omega))
      · rw [q2] at z
        rw [q3, (nI_eq (by omega) (by omega)).mp z]
    · rw [z] at hbb
      exact (s_bb_s hbb).2.1.symm
  refine ⟨fun z => ⟨by rw [eo, if_pos (haa.mp z)], rfl, rfl, rfl, rfl⟩, fun z => ?_⟩
  have hbn : bb ≠ some aa := fun q => z (haa.mpr q)
  rw [if_neg hbn] at eo
  rw [eo] at hK
  refine cRC (S := A.1) i6.1 ha ?_
  refine ⟨Nat.zero_le _, Nat.zero_le _, ?_⟩
  rw [cc_o i1 ha]
  refine ⟨fun q hp1 nx1 => ((q = 1 ∧ A.1.1 aa = []) ∨ (q = 0 ∧ A.1.1 aa ≠ [])) ∧ hp1 = cput g x0 P σ hp ∧ nx = nx1, ?_, c_isIn (S := A.1) i1 i6.1 ha (by omega) (fun w => ⟨Or.inl ⟨rfl, w⟩, rfl, rfl⟩) (fun w => ⟨Or.inr ⟨rfl, w⟩, rfl, rfl⟩)⟩
  rintro q hp1 nx1 ⟨hq, rfl, rfl⟩
  refine ⟨fun h n kc ks => ¬ (A.1.1 aa = [] ∧ ∀ y, bb = some y → A.1.1 y = []) ∧ h = cput g x0 P σ hp ∧ nx = n ∧ kc = 0 ∧ ks = 0, ?_, fun w => ?_, fun w => ?_⟩
  · rintro h n kc ks ⟨hn, rfl, rfl, rfl, rfl⟩
    rw [s_if_n hn] at hK
    exact ⟨Nat.zero_le _, Nat.zero_le _, hK σ hp nx hI' hLe.rf (Nat.le_refl _)⟩
  · rcases hq with ⟨q1, -⟩ | ⟨-, q2⟩
    · rw [q1] at w; exact absurd w (by decide)
    · exact ⟨fun y => q2 y.1, rfl, rfl, rfl, rfl⟩
  have hfa : A.1.1 aa = [] := by
    rcases hq with ⟨-, q2⟩ | ⟨q1, -⟩
    · exact q2
    · exact absurd q1 w
  refine ⟨fun h n kc ks => (A.1.1 aa = [] ∧ ∀ y, bb = some y → A.1.1 y = []) ∧ h = cput g x0 P σ hp ∧ nx = n ∧ kc = 0 ∧ ks = 0, ?_, fun eb => ?_, fun eb => ?_⟩
  rotate_left
  · refine ⟨⟨hfa, fun y hy => ?_⟩, rfl, rfl, rfl, rfl⟩
    subst hy
    exact absurd eb (s_bb_s hbb).2.2
  · obtain ⟨y, hy, hyl, eyb⟩ : ∃ y, bb = some y ∧ y < 24 ∧ b = nI y := s_bb_y hbb eb
    rw [eyb]
    refine cRC (S := A.1) i6.1 hyl ?_
    refine ⟨Nat.zero_le _, Nat.zero_le _, ?_⟩
    rw [cc_o i1 hyl]
    refine ⟨fun q hp1 nx1 => ((q = 1 ∧ A.1.1 y = []) ∨ (q = 0 ∧ A.1.1 y ≠ [])) ∧ hp1 = cput g x0 P σ hp ∧ nx = nx1, ?_, c_isIn (S := A.1) i1 i6.1 hyl (by omega) (fun w => ⟨Or.inl ⟨rfl, w⟩, rfl, rfl⟩) (fun w => ⟨Or.inr ⟨rfl, w⟩, rfl, rfl⟩)⟩
    rintro q hp1 nx1 ⟨hq, rfl, rfl⟩
    refine ⟨fun w => ?_, fun w => ?_⟩
    · rcases hq with ⟨q1, -⟩ | ⟨-, q2⟩
      · rw [q1] at w; exact absurd w (by decide)
      · exact ⟨fun z => q2 (z.2 y hy), rfl, rfl, rfl, rfl⟩
    · rcases hq with ⟨-, q2⟩ | ⟨q1, -⟩
      · exact ⟨⟨hfa, fun z hz => by rw [hy] at hz; cases hz; exact q2⟩, rfl, rfl, rfl, rfl⟩
      · exact absurd q1 w
  rintro h n kc ks ⟨hin, rfl, rfl, rfl, rfl⟩
  rw [s_if_p hin] at hK
  /- the table, its first axis -/
  refine c_nw i1 (by omega) (by rw [zNn_31]; omega) (fun u1 u2 u3 u4 => ?_)
  obtain ⟨hp1, e1⟩ : ∃ hp1, hp1 = va_up hp nx (some (.inr (31, zNf 31))) := ⟨_, rfl⟩
  rw [← e1]
  have l1 : hLe hp hp1 := by rw [e1]; exact hLe.up u2
  have w1 : cW g x0 P hp1 := by rw [e1]; exact cW_hq u1 i1
  have n1 : hp1 nx = some (.inr (31, [.int 0, .int 0, va_rf none, va_rf none])) := by rw [e1, va_s, zNf_31]
  rintro _ _ _ rfl rfl rfl
  have bk : ∀ {hpx : zHp} {q : Nat}, hLe hp hpx → hpx q = none → hp q = none := fun {hpx q} lx hx => by
    cases hq : hp q with
    | none => rfl
    | some e => rw [lx _ _ hq] at hx; cases hx
  refine c_nw w1 (by omega) (by rw [zNn_31, zNn_32]; omega) (fun v1 v2 v3 v4 => ?_)
  obtain ⟨hp2, e2'⟩ : ∃ hp2, hp2 = va_up hp1 (nx + 1) (some (.inr (32, zNf 32))) := ⟨_, rfl⟩
  rw [← e2']
  have l2 : hLe hp hp2 := by rw [e2']; exact l1.up2 (bk l1 v2)
  have w2 : cW g x0 P hp2 := by rw [e2']; exact cW_hq v1 w1
  have n2 : hp2 nx = some (.inr (31, [.int 0, .int 0, va_rf none, va_rf none])) := by rw [e2', va_o (by omega), n1]
  have m2 : hp2 (nx + 1) = some (.inr (32, [.int 0, va_rf none])) := by rw [e2', va_s, zNf_32]
  rintro _ _ _ rfl rfl rfl
  refine c_nar (n := 1) w2 (by omega) (by omega) (by rw [zNn_31, zNn_32]; omega) (fun s1 s2 s3 s4 => ?_)
  obtain ⟨hp3, e3'⟩ : ∃ hp3, hp3 = va_up hp2 (nx + 1 + 1) (some (.inl (g.2.1 1, 1, .inr (.inr (.inr (.inl (fun _ => 0))))))) := ⟨_, rfl⟩
  rw [← e3']
  have l3 : hLe hp hp3 := by rw [e3']; exact l2.up2 (bk l2 s2)
  have w3 : cW g x0 P hp3 := by rw [e3']; exact cW_hq s1 w2
  have n3 : hp3 nx = some (.inr (31, [.int 0, .int 0, va_rf none, va_rf none])) := by rw [e3', va_o (by omega), n2]
  have m3 : hp3 (nx + 1) = some (.inr (32, [.int 0, va_rf none])) := by rw [e3', va_o (by omega), m2]
  have k3 : hp3 (nx + 1 + 1) = some (.inl (g.2.1 1, 1, .inr (.inr (.inr (.inl (fun _ => 0)))))) := by rw [e3', va_s]
  have c1 : (1 : Int32).toNatClampNeg = 1 := by decide
  rintro _ _ _ rfl rfl rfl
  rw [zNn_31, zNn_32, c1]
  refine ⟨by omega, by omega, c_x32 w3 v1 m3 v3 (by omega) ?_⟩
  obtain ⟨hp4, e4⟩ : ∃ hp4, hp4 = va_up hp3 (nx + 1) (some (.inr (32, [.int (nI aa), va_rf (some (nx + 1 + 1))]))) := ⟨_, rfl⟩
  rw [← e4]
  have l4 : hLe hp hp4 := by rw [e4]; exact l3.up2 (bk l1 v2)
  have w4 : cW g x0 P hp4 := by rw [e4]; exact cW_hq v1 w3
  have n4 : hp4 nx = some (.inr (31, [.int 0, .int 0, va_rf none, va_rf none])) := by rw [e4, va_o (by omega), n3]
  have x4 : cAx g hp4 (nx + 1) aa [0] := c_ax1 w4 (by rw [e4, va_s]) (by rw [e4, va_o (by omega), k3]) (Or.inr (by omega))
  /- the second axis -/
  refine ⟨fun r51 x52 r53 r54 x55 x56 r57 r58 h59 nx60 kc61 ks62 => r51 = some x0 ∧ x52 = nI t ∧ r53 = some nx ∧ r54 = some nx ∧ x55 = nI t ∧ x56 = nI oo ∧ r57 = some (nx + 1) ∧ ∃ hp5, h59 = cput g x0 P σ hp5 ∧ hLe hp hp5 ∧ cW g x0 P hp5 ∧ nx + 3 ≤ nx60 ∧ kc61 ≤ 5 ∧ ks62 ≤ 10 ∧ hp5 nx = some (.inr (31, [.int 0, .int 0, va_rf none, va_rf none])) ∧ cAx g hp5 (nx + 1) aa [0] ∧ ((bb = none ∧ r58 = none) ∨ ∃ y a2, bb = some y ∧ r58 = some a2 ∧ cAx g hp5 a2 y [0]), ?_, fun eb => ?_, fun eb => ?_⟩
  rotate_left
  · refine ⟨rfl, rfl, rfl, rfl, rfl, rfl, rfl, hp4, rfl, l4, w4, by omega, by omega, by omega, n4, x4, Or.inl ⟨s_bb_n hbb eb, rfl⟩⟩
  · obtain ⟨y, hy, hyl, eyb⟩ : ∃ y, bb = some y ∧ y < 24 ∧ b = nI y := s_bb_y hbb eb
    refine c_nw w4 (by omega) (by rw [zNn_32]; omega) (fun p1 p2 p3 p4 => ?_)
    obtain ⟨hp5, e5⟩ : ∃ hp5, hp5 = va_up hp4 (nx + 1 + 1 + 1) (some (.inr (32, zNf 32))) := ⟨_, rfl⟩
    rw [← e5]
    have l5 : hLe hp hp5 := by rw [e5]; exact l4.up2 (bk l4 p2)
    have w5 : cW g x0 P hp5 := by rw [e5]; exact cW_hq p1 w4
    have n5 : hp5 nx = some (.inr (31, [.int 0, .int 0, va_rf none, va_rf none])) := by rw [e5, va_o (by omega), n4]
    have x5 : cAx g hp5 (nx + 1) aa [0] := x4.mo (by rw [e5]; exact hLe.up p2)
    have m5 : hp5 (nx + 1 + 1 + 1) = some (.inr (32, [.int 0, va_rf none])) := by rw [e5, va_s, zNf_32]
    rintro _ _ _ rfl rfl rfl
    refine c_nar (n := 1) w5 (by omega) (by omega) (by omega) (fun q1 q2 q3 q4 => ?_)
    obtain ⟨hp6, e6⟩ : ∃ hp6, hp6 = va_up hp5 (nx + 1 + 1 + 1 + 1) (some (.inl (g.2.1 1, 1, .inr (.inr (.inr (.inl (fun _ => 0))))))) := ⟨_, rfl⟩
    rw [← e6]
    have l6 : hLe hp hp6 := by rw [e6]; exact l5.up2 (bk l5 q2)
    have w6 : cW g x0 P hp6 := by rw [e6]; exact cW_hq q1 w5
    have n6 : hp6 nx = some (.inr (31, [.int 0, .int 0, va_rf none, va_rf none])) := by rw [e6, va_o (by omega), n5]
    have m6 : hp6 (nx + 1 + 1 + 1) = some (.inr (32, [.int 0, va_rf none])) := by rw [e6, va_o (by omega), m5]
    have k6 : hp6 (nx + 1 + 1 + 1 + 1) = some (.inl (g.2.1 1, 1, .inr (.inr (.inr (.inl (fun _ => 0)))))) := by rw [e6, va_s]
    have x6 : cAx g hp6 (nx + 1) aa [0] := x5.mo (by rw [e6]; exact hLe.up q2)
    rintro _ _ _ rfl rfl rfl
    rw [eyb]
    refine ⟨by omega, by omega, c_x32 w6 p1 m6 p3 (by omega) ?_⟩
    have h46 : ∀ q, q ≠ nx + 1 + 1 + 1 → q ≠ nx + 1 + 1 + 1 + 1 → hp6 q = hp4 q := fun q z1 z2 => by rw [e6, va_o z2, e5, va_o z1]
    obtain ⟨hp7, e7⟩ : ∃ hp7, hp7 = va_up hp6 (nx + 1 + 1 + 1) (some (.inr (32, [.int (nI y), va_rf (some (nx + 1 + 1 + 1 + 1))]))) := ⟨_, rfl⟩
    rw [← e7]
    refine ⟨rfl, rfl, rfl, rfl, rfl, rfl, rfl, hp7, rfl, by rw [e7]; exact l6.up2 (bk l4 p2), by rw [e7]; exact cW_hq p1 w6, by omega, by omega, by omega, by rw [e7, va_o (by omega), n6], ?_, Or.inr ⟨y, _, hy, rfl, c_ax1 (by rw [e7]; exact cW_hq p1 w6) (by rw [e7, va_s]) (by rw [e7, va_o (by omega), k6]) (Or.inr (by omega))⟩⟩
    refine x4.mo (fun q e hq => ?_)
    by_cases z1 : q = nx + 1 + 1 + 1
    · rw [z1] at hq; rw [hq] at p2; cases p2
    · rw [e7, va_o z1]
      by_cases z2 : q = nx + 1 + 1 + 1 + 1
      · have : hp5 q = none := by rw [z2]; exact q2
        rw [e5, va_o z1] at this
        rw [this] at hq; cases hq
      · rw [h46 q z1 z2]; exact hq
  rintro r51 x52 r53 r54 x55 x56 r57 r58 h59 nx60 kc61 ks62 ⟨rfl, rfl, rfl, rfl, rfl, rfl, rfl, hp5, rfl, l5, w5, b1, b2, b3, n5, x5, y5⟩
  refine ⟨by omega, by omega, c_x31 w5 u1 n5 u3 (by omega) ?_⟩
  obtain ⟨hp6, e6⟩ : ∃ hp6, hp6 = va_up hp5 nx (some (.inr (31, [.int (nI t), .int (nI oo), va_rf (some (nx + 1)), va_rf r58]))) := ⟨_, rfl⟩
  rw [← e6]
  have l6 : hLe hp hp6 := by rw [e6]; exact l5.up2 u2
  have w6 : cW g x0 P hp6 := by rw [e6]; exact cW_hq u1 w5
  have am : ∀ {q c : Nat} {ns : List UInt64}, cAx g hp5 q c ns → cAx g hp6 q c ns := by
    rintro q c ns ⟨b', f', p1, p2, p3⟩
    have z1 : q ≠ nx := fun z => by rw [z, n5] at p1; cases p1
    have z2 : b' ≠ nx := fun z => by rw [z, n5] at p2; cases p2
    exact ⟨b', f', by rw [e6, va_o z1]; exact p1, by rw [e6, va_o z2]; exact p2, p3⟩
  have hLy : cLy g hp6 t (some nx) (some (s_nt oo aa bb 0 0)) := by
    refine Or.inr ⟨nx, _, rfl, rfl, ⟨nx + 1, r58, by rw [e6, va_s]; rfl, am x5, ?_⟩, ho, ha, by show 1 ≤ [(0 : UInt64)].length; decide, by show [(0 : UInt64)].length ≤ 8; decide, ?_⟩
    · rcases y5 with q | ⟨y, a2, q1, q2, q3⟩
      · exact Or.inl q
      · refine Or.inr ⟨y, a2, q1, q2, ?_⟩
        have : (s_nt oo aa bb 0 0).2.2.2.2 = [0] := by
          unfold s_nt
          simp only [q1]
          rfl
        rw [this]
        exact am q3
    · intro y hy
      have hy : bb = some y := hy
      have hyl := (s_bb_s (y := y) (by rw [← hy]; exact hbb)).1
      have : (s_nt oo aa bb 0 0).2.2.2.2 = [0] := by
        unfold s_nt
        simp only [hy]
        rfl
      rw [this]
      refine ⟨hyl, fun z => hbn (by rw [hy, z]; rfl), by decide, by decide⟩
  refine ⟨244, 1468, by omega, by omega, ?_⟩
  rw [cz_o]
  refine c_lays hV (hI'.mo l6 w6) ht hLy (by omega) (by omega) (by omega) (fun x A' σ' hp' nx' z1 z2 z3 z4 => ⟨by omega, by omega, ?_⟩)
  rcases z4 with ⟨rfl, rfl, y1, y2⟩ | ⟨rfl, rfl, y1⟩ | ⟨rfl, rfl, y1, y2⟩
  · rw [s_if_p y1] at hK
    unfold o_lay at hK
    rw [s_if_n y2, s_nt_nc] at hK
    exact hK σ' hp' nx' z1 (l6.tr z2) (by omega)
  · rw [s_if_n y1] at hK
    exact hK σ' hp' nx' z1 (l6.tr z2) (by omega)
  · rw [s_if_p y1] at hK
    unfold o_lay at hK
    rw [s_if_p y2] at hK
    exact hK σ' hp' nx' z1 (l6.tr z2) (by omega)
end TA
