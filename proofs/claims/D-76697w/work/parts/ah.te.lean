set_option maxRecDepth 100000
/-! tell -/
section TE
variable {l : Launch} {g : zG} {d x0 : Nat} {P : cP} {σ σ' σ1 σ2 τ : cS} {hp : zHp} {nx : Nat} {fm : sF} {ly : sY} {kd : Nat → Int32} {rk : Nat → Nat} {X : cX} {c s N x M D : Nat} {pl : Nat → Nat → Nat} {ows : Nat → sO}
theorem cPo.i23 {R : Nat} {new : Nat → Prop} (h : cPo fm ly kd rk R s N pl ows new σ σ' M) (u v : Int32) : cPo fm ly kd rk R s N pl ows new σ (cuI (cuI σ' 2 u) 3 v) M := by
  obtain ⟨h1, h2, h3, n, M', h4, h5, h6, h7⟩ := h
  exact ⟨⟨h1.1, h1.2.1, fun k a b e => by rw [cI_o b, cI_o a]; exact h1.2.2.1 k a b e, h1.2.2.2⟩, h2, h3, n, M', by rw [cI_o (by decide), cI_o (by decide)]; exact h4, h5, h6, h7⟩
theorem cPo.rf {R : Nat} {new : Nat → Prop} (h1 : cMem fm ly kd s N pl ows (σ.2.2.1 s)) (h2 : cSt σ M) (h : ∀ k, new k → cFl s (σ.2.2.1 s) k) : cPo fm ly kd rk R s N pl ows new σ σ M :=
  ⟨cFr.rf, h1, fun k => ⟨Or.inl, fun z => z.elim id (h k)⟩, 0, M, by rw [nI_0, Int32.add_zero], by omega, h2, Nat.le_refl _⟩
theorem c_tell (hW : cW g x0 P hp) (hS : cSH g x0 P hp X fm ly kd) (hST : sST fm ly rk) (hc : c < 24) (hT : ∀ m ∈ fm c, m.1 < 24 → cTl l g x0 P hp nx X fm ly kd rk D m.1) (hR : ∀ m ∈ fm c, 300 ≤ m.1 → cRn l g x0 P hp nx X fm ly kd rk D (m.1 % 10)) : cTl l g x0 P hp nx X fm ly kd rk (D + 45) c := by
  intro d s N x M pl ows σ K hd hP hs hB hK
  obtain ⟨d, rfl⟩ := Nat.exists_eq_add_of_le' (show 1 ≤ d by omega)
  have hP' := hP
  obtain ⟨hx, hC, hWh, hOW, hX, hMem, hSt⟩ := hP
  have hs7 : s < 7 := hC.1
  have hpl := hC.2.1 x hx c hc
  have hw64 : cWd s ≤ 64 := by unfold cWd; split <;> omega
  have hk31 : pl x c < 2 ^ 31 := by omega
  have ck : (nI (pl x c)).toNatClampNeg = pl x c := nI_clamp hk31
  have ik : vp_in (nI (pl x c)) (24 * cWd s) := vp_in_nI hpl.1 (by omega)
  have cc : (nI c).toNatClampNeg = c := nI_clamp (by omega)
  have ic : vp_in (nI c) 24 := vp_in_nI hc (by decide)
  have hB0 := hW.1
  have cl : σ.2.2.2.2.2.2.1 0 c = some (P.1 c) := by rw [hX]; exact hS.1 c hc
  have hF : (fm c = [] ∧ σ.2.2.2.2.2.2.2.2.2.2.1 c = none) ∨ (fm c ≠ [] ∧ σ.2.2.2.2.2.2.2.2.2.2.1 c ≠ none) := by
    rw [hX]
    rcases hS.2.2.1 c hc with ⟨q1, q2⟩ | ⟨a, root, nb, as, n, q1, q2, -⟩
    · exact Or.inl ⟨q1, q2⟩
    · exact Or.inr ⟨q1, by rw [q2]; exact fun z => by cases z⟩
  have hEB : s_B (s_EV fm ly kd (ows x) c).1 := s_EV_B hST.1 hST.2.1 hST.2.2.1 hST.2.2.2.1 hST.2.2.2.2.1 _ c (Nat.lt_succ_self _) hc (ows x) hOW.1
  apply met_X0_tell
  unfold wp_X0_tell
  rw [cg_cells, ca_cells]
  refine ⟨ic, ?_⟩
  intro r8 e8
  rw [cc, cl] at e8
  subst e8
  rw [cc_o hW hc]
  refine ⟨fun y hp1 nx1 => ((y = 1 ∧ fm c = []) ∨ (y = 0 ∧ fm c ≠ [])) ∧ hp1 = cput g x0 P σ hp ∧ nx = nx1, ?_, c_isInput (by omega) hW hc (fun z => ⟨Or.inl ⟨rfl, ?_⟩, rfl, rfl⟩) (fun z => ⟨Or.inr ⟨rfl, ?_⟩, rfl, rfl⟩)⟩
  rotate_left
  · rcases hF with q | q
    · exact q.1
    · exact absurd z q.2
  · rcases hF with q | q
    · exact absurd q.2 z
    · exact q.1
  rintro y hp1 nx1 ⟨hy, rfl, rfl⟩
  refine ⟨fun z => ?_, fun z => ?_⟩
  · have hfc : fm c ≠ [] := by
      rcases hy with hy | hy
      · rw [hy.1] at z; exact absurd z (by decide)
      · exact hy.2
    rw [cg_now]
    refine ⟨fun r1 r2 hp1 nx1 => r1 = some (P.1 c) ∧ r2 = some (x0 + cSA s) ∧ hp1 = cput g x0 P σ hp ∧ nx = nx1, ?_, fun z => ?_, fun z => ?_⟩
    · rintro r1 r2 hp1 nx1 ⟨rfl, rfl, rfl, rfl⟩
      rw [cz_o]
      refine c_place (by omega) hW (by rw [hX]; exact hS) hWh hc ?_
      rw [cs_stamps hs7, csa_stamps hs7]
      refine ⟨ik, ?_⟩
      intro x30 e30
      rw [ck] at e30
      rw [cs_stamp hs7]
      refine ⟨fun r1 r2 k' hp1 nx1 => r1 = some (P.1 c) ∧ r2 = some (x0 + cSA s) ∧ k' = nI (pl x c) ∧ ∃ σ1, cPo fm ly kd rk (rk c) s N pl ows (cNw fm (pl x) c) σ σ1 M ∧ cRt (σ1.2.2.1 s) (pl x c) (s_EV fm ly kd (ows x) c) ∧ σ1.1 2 = σ.1 2 ∧ σ1.1 3 = σ.1 3 ∧ hp1 = cput g x0 P σ1 hp ∧ nx = nx1, ?_, fun z => ?_, fun z => ?_⟩
      · rintro _ _ _ _ _ ⟨rfl, rfl, rfl, σ1, p1, p2, p3, p4, rfl, rfl⟩
        rw [cs_faults hs7, csa_faults hs7]
        refine ⟨ik, ?_⟩
        intro x47 e47
        rw [ck, p2.1] at e47
        subst e47
        refine ⟨fun z => ?_, fun z => ?_⟩
        · rw [cs_values hs7, csa_values hs7]
          refine ⟨ik, ?_⟩
          intro x88 e88
          rw [ck, p2.2.1 z] at e88
          subst e88
          exact hK _ σ1 p1 ⟨hEB, fun q => ⟨p3, p4⟩, fun q => ⟨fun _ => ⟨rfl, p3.trans q, p4⟩, fun y => absurd z y⟩⟩
        · rw [cg_fault, p3]
          refine ⟨fun r1 r2 k' hp1 nx1 => ∃ σ2, cPo fm ly kd rk (rk c) s N pl ows (cNw fm (pl x) c) σ σ2 M ∧ (σ.1 2 ≠ 0 → σ2.1 2 = σ.1 2 ∧ σ2.1 3 = σ.1 3) ∧ (σ.1 2 = 0 → σ2.1 2 = (s_EV fm ly kd (ows x) c).2.1 ∧ σ2.1 3 = (s_EV fm ly kd (ows x) c).2.2) ∧ hp1 = cput g x0 P σ2 hp ∧ nx = nx1, ?_, fun z2 => ?_, fun z2 => ?_⟩
          · rintro _ _ _ _ _ ⟨σ2, w1, w2, w3, rfl, rfl⟩
            exact hK _ σ2 w1 ⟨fk_B0, w2, fun q => ⟨fun y => absurd y z, fun _ => w3 q⟩⟩
          · rw [cs_faults hs7, csa_faults hs7]
            refine ⟨ik, ?_⟩
            intro x64 e64
            rw [ck, p2.1] at e64
            subst e64
            rw [cp_fault]
            refine ⟨hB0, ?_⟩
            rw [cs_blames hs7, csa_blames hs7]
            refine ⟨ik, ?_⟩
            intro x76 e76
            have e76 : x76 = (s_EV fm ly kd (ows x) c).2.2 := by rw [ck] at e76; rw [e76]; exact p2.2.2 z
            subst e76
            rw [cp_blamed]
            refine ⟨hB0, _, p1.i23 _ _, fun y => absurd z2 y, fun _ => ⟨by rw [cI_o (by decide), cI_s], by rw [cI_s]⟩, rfl, rfl⟩
          · exact ⟨σ1, p1, fun _ => ⟨p3, p4⟩, fun y => absurd y z2, rfl, rfl⟩
      · have hfl : cFl s (σ.2.2.1 s) (pl x c) := ⟨hpl.1, e30.symm.trans z⟩
        obtain ⟨y, e, y1, y2, y3, y4, y5, y6⟩ := hMem _ hfl
        have he : e = c := by
          have d1 := (hC.2.1 y y1 e y2).2
          rw [y4, hpl.2] at d1
          exact d1.symm
        subst he
        obtain ⟨k1, k2⟩ := hC.2.2 y x y1 hx e hc y4
        have hEV : s_EV fm ly kd (ows y) e = s_EV fm ly kd (ows x) e := s_EV_reads hST.1 hST.2.1 hST.2.2.1 _ e (Nat.lt_succ_self _) hc _ _ k1
        rw [hEV] at y5
        refine ⟨rfl, rfl, rfl, σ, cPo.rf hMem hSt (fun k hk => ?_), y5, rfl, rfl, rfl, rfl⟩
        obtain ⟨q, q1, q2, q3⟩ := hk
        rw [q3, ← k2 q q1]
        exact y6 q q1 q2
      · have hfl : ¬ cFl s (σ.2.2.1 s) (pl x c) := fun y => z (e30.trans y.2)
        rw [cz_o]
        exact c_fills hW hS hST hc hfc hT hR hP' hfl hs hB (by omega) (fun σ' q1 q2 q3 q4 => ⟨rfl, rfl, rfl, σ', q1, q2, q3, q4, rfl, rfl⟩)
    · rw [cg_plain]
      rcases hWh with ⟨h1, h2, h3⟩ | ⟨a, L, i, j, fi, fj, h1, h2, h3⟩
      · rw [h1]; exact ⟨rfl, rfl, rfl, rfl⟩
      · rw [h2] at z; cases z
    · rcases hWh with ⟨h1, h2, h3⟩ | ⟨a, L, i, j, fi, fj, h1, h2, h3, -⟩
      · exact absurd h2 z
      · obtain ⟨a1, r2, t1, -, -⟩ := h3
        have cs : (nI s).toNatClampNeg = s := nI_clamp (by omega)
        rw [cg_sights, cg_now, h2, ch_I hW t1 (k := 0) (x := nI s) rfl (by decide), ca_sights]
        refine ⟨vp_in_nI h1 (by decide), ?_⟩
        intro r e
        rw [cs] at e
        subst e
        exact ⟨rfl, rfl, rfl, rfl⟩
  · have hfc : fm c = [] := by
      rcases hy with hy | hy
      · exact hy.2
      · exact absurd hy.1 z
    have hnew : ∀ k, cNw fm (pl x) c k → cFl s (σ.2.2.1 s) k := by
      rintro k ⟨e, h1, h2, h3⟩
      rcases (s_RE_st hST.1 hST.2.2.1 hc e).mp h1 with rfl | ⟨m, a, -⟩
      · exact absurd hfc h2
      · rw [hfc] at a; cases a
    have hPo := cPo.rf (fm := fm) (ly := ly) (kd := kd) (rk := rk) (R := rk c) hMem hSt hnew
    have hEV : s_EV fm ly kd (ows x) c = s_in (kd c) (ows x c) c := by
      rw [s_EV_st hST.1 hST.2.1 hST.2.2.1 hc]
      unfold s_st
      rw [if_pos hfc]
    have hem := hOW.em hc hfc
    rw [cc_o hW hc]
    refine ⟨fun y hp1 nx1 => ((y = 1 ∧ ows x c = none) ∨ (y = 0 ∧ ows x c ≠ none)) ∧ hp1 = cput g x0 P σ hp ∧ nx = nx1, ?_, c_isEmpty (by omega) hW hc (fun z => ⟨Or.inl ⟨rfl, hem.mpr z⟩, rfl, rfl⟩) (fun z => ⟨Or.inr ⟨rfl, fun y => hem.mp y z⟩, rfl, rfl⟩)⟩
    rintro y hp1 nx1 ⟨hy, rfl, rfl⟩
    refine ⟨fun z => ?_, fun z => ?_⟩
    · have ho : ows x c ≠ none := by
        rcases hy with hy | hy
        · rw [hy.1] at z; exact absurd z (by decide)
        · exact hy.2
      rw [cc_w hW hc]
      rcases hOW.2 c hc hfc with ⟨q, -⟩ | ⟨v, q1, q2, q3⟩
      · exact absurd q ho
      · refine hK _ σ hPo ⟨by rw [q2]; exact fb_kp q3, fun _ => ⟨rfl, rfl⟩, fun q => ⟨fun _ => ⟨?_, q, rfl⟩, fun y => ?_⟩⟩
        · rw [hEV, q1, q2]; rfl
        · rw [hEV, q1] at y; exact absurd rfl y
    · have ho : ows x c = none := by
        rcases hy with hy | hy
        · exact hy.2
        · exact absurd hy.1 z
      have hEV : s_EV fm ly kd (ows x) c = (0, 1, nI c) := by rw [hEV, ho]; rfl
      rw [cg_fault]
      refine ⟨fun r1 hp1 nx1 => ∃ σ2, cPo fm ly kd rk (rk c) s N pl ows (cNw fm (pl x) c) σ σ2 M ∧ (σ.1 2 ≠ 0 → σ2.1 2 = σ.1 2 ∧ σ2.1 3 = σ.1 3) ∧ (σ.1 2 = 0 → σ2.1 2 = 1 ∧ σ2.1 3 = nI c) ∧ hp1 = cput g x0 P σ2 hp ∧ nx = nx1, ?_, fun z2 => ?_, fun z2 => ?_⟩
      · rintro _ _ _ ⟨σ2, w1, w2, w3, rfl, rfl⟩
        refine hK _ σ2 w1 ⟨fk_B0, w2, fun q => ⟨fun y => ?_, fun _ => ?_⟩⟩
        · rw [hEV] at y; exact absurd y (by show ¬ (1 : Int32) = 0; decide)
        · rw [hEV]; exact w3 q
      · rw [cp_fault]
        refine ⟨hB0, ?_⟩
        rw [cp_blamed]
        exact ⟨hB0, _, hPo.i23 _ _, fun y => absurd z2 y, fun _ => ⟨by rw [cI_o (by decide), cI_s], by rw [cI_s]⟩, rfl, rfl⟩
      · exact ⟨σ, hPo, fun _ => ⟨rfl, rfl⟩, fun y => absurd y z2, rfl, rfl⟩
end TE
