set_option maxRecDepth 100000
/-! fills, tell -/
section FI
variable {l : Launch} {g : zG} {d x0 : Nat} {P : cP} {σ σ' σ1 σ2 τ : cS} {hp : zHp} {nx : Nat} {fm : sF} {ly : sY} {kd : Nat → Int32} {rk : Nat → Nat} {X : cX} {c s N x M D : Nat} {pl : Nat → Nat → Nat} {ows : Nat → sO}
/-- one place of a sight is filled -/
def cFil (s k : Nat) (r : sT) (σ2 σ3 : cS) : Prop := σ3.2.2.2 = σ2.2.2.2 ∧ σ3.2.1 = σ2.2.1 ∧ (∀ q, q ≠ 2 → q ≠ 3 → q ≠ 4 → σ3.1 q = σ2.1 q) ∧ (∀ q, q ≠ s → σ3.2.2.1 q = σ2.2.2.1 q) ∧ (∀ q, q ≠ 3 → q ≠ 4 → q ≠ 5 → (σ3.2.2.1 s).1 q = (σ2.2.2.1 s).1 q) ∧ (∀ q, q ≠ 1 → (σ3.2.2.1 s).2.1 q = (σ2.2.2.1 s).2.1 q) ∧ (σ3.2.2.1 s).2.2 = (σ2.2.2.1 s).2.2 ∧ (σ3.2.2.1 s).1 3 = va_up ((σ2.2.2.1 s).1 3) k (σ2.2.2.1 s).2.2 ∧ (σ3.2.2.1 s).1 4 = va_up ((σ2.2.2.1 s).1 4) k r.2.1 ∧ (σ3.2.2.1 s).1 5 = va_up ((σ2.2.2.1 s).1 5) k r.2.2 ∧ (σ3.2.2.1 s).2.1 1 = va_up ((σ2.2.2.1 s).2.1 1) k r.1
theorem cFil.fl {k : Nat} {r : sT} {σ3 : cS} (h : cFil s k r σ2 σ3) (hk : k < 24 * cWd s) (q : Nat) : cFl s (σ3.2.2.1 s) q ↔ cFl s (σ2.2.2.1 s) q ∨ q = k := by
  unfold cFl
  rw [h.2.2.2.2.2.2.1, h.2.2.2.2.2.2.2.1]
  by_cases e : q = k
  · subst e
    rw [va_s]
    exact ⟨fun _ => Or.inr rfl, fun _ => ⟨hk, rfl⟩⟩
  · rw [va_o e]
    exact ⟨fun z => Or.inl z, fun z => z.resolve_right e⟩
theorem cFil.rt {k : Nat} {r : sT} {σ3 : cS} (h : cFil s k r σ2 σ3) : cRt (σ3.2.2.1 s) k r := by
  obtain ⟨-, -, -, -, -, -, -, -, h1, h2, h3⟩ := h
  exact ⟨by rw [h1, va_s], fun _ => by rw [h3, va_s], fun _ => by rw [h2, va_s]⟩
theorem cFil.ro {k q : Nat} {r r' : sT} {σ3 : cS} (h : cFil s k r σ2 σ3) (e : q ≠ k) (hq : cRt (σ2.2.2.1 s) q r') : cRt (σ3.2.2.1 s) q r' := by
  obtain ⟨-, -, -, -, -, -, -, -, h1, h2, h3⟩ := h
  unfold cRt
  rw [h1, h2, h3, va_o e, va_o e, va_o e]
  exact hq
/-- behind the formula's worth -/
theorem c_filled {σ3 : cS} (hST : sST fm ly rk) (hc : c < 24) (hfc : fm c ≠ []) (hx : x < N) (hC : cCx fm ly kd s N pl ows) (hk : ¬ cFl s (σ.2.2.1 s) (pl x c)) (e1 : σ1.2 = σ.2) (e10 : σ1.1 10 = σ.1 10 + 1) (eo : ∀ q, q ≠ 2 → q ≠ 3 → q ≠ 4 → q ≠ 10 → σ1.1 q = σ.1 q) (hJ : cJ fm ly kd rk (rk c) s N pl ows x σ1 M (fm c) (cNo σ2)) (h3 : cFil s (pl x c) (s_EV fm ly kd (ows x) c) σ2 σ3) (h4 : σ3.1 4 = σ.1 4) : cPo fm ly kd rk (rk c) s N pl ows (cNw fm (pl x) c) σ σ3 M := by
  have hlen := hST.2.2.2.2.2 c hc
  have hpl := hC.2.1 x hx c hc
  obtain ⟨j1, j2, j3, n, M', j4, j5, j6, j7⟩ := hJ
  have j1 := j1.no
  have j2 : cMem fm ly kd s N pl ows (σ2.2.2.1 s) := j2
  have j3 : ∀ k, cFl s (σ2.2.2.1 s) k ↔ cFl s (σ.2.2.1 s) k ∨ ∃ m ∈ fm c, m.1 < 24 ∧ cNw fm (pl x) m.1 k := by rw [← e1]; exact j3
  have j4 : σ2.1 10 = σ1.1 10 + nI n := by rw [cNo_1 (by decide) (by decide)] at j4; exact j4
  have j5 : n + cSW fm ly kd s (cFl s (σ.2.2.1 s)) = cSW fm ly kd s (cFl s (σ2.2.2.1 s)) + s_ak fm ly kd (fm c) := by rw [← e1]; exact j5
  have j6 : cSt σ2 M' := j6
  have j7 : M' + 96 * cSW fm ly kd s (cFl s (σ.2.2.1 s)) ≤ M + 96 * cSW fm ly kd s (cFl s (σ2.2.2.1 s)) + 96 * s_ak fm ly kd (fm c) + (fm c).length := by rw [← e1]; exact j7
  have hno : ¬ cFl s (σ2.2.2.1 s) (pl x c) := by
    intro z
    rcases (j3 _).mp z with y | ⟨m, m1, m2, m3⟩
    · exact hk y
    · exact cNw_no hST hC hx hc m1 m2 m3
  have hfl := h3.fl hpl.1
  have hW := @cSW_one fm ly kd s (cFl s (σ2.2.2.1 s)) (cFl s (σ3.2.2.1 s)) (pl x c) hpl.1 hno (fun k _ => hfl k)
  rw [hpl.2] at hW
  unfold s_wt at hW
  refine ⟨⟨?_, ?_, ?_, ?_, ?_, ?_, ?_⟩, ?_, fun k => ?_, n + 1, M', ?_, ?_, ?_, ?_⟩
  · rw [h3.1, j1.1, e1]
  · rw [h3.2.1, j1.2.1, e1]
  · intro q a b e
    by_cases q4 : q = 4
    · rw [q4]; exact h4
    · rw [h3.2.2.1 q a b q4, j1.2.2.1 q a b e, eo q a b q4 e]
  · intro q a b e
    rw [h3.2.2.2.1 q b, j1.2.2.2.1 q a b e, e1]
  · intro q a b e
    rw [h3.2.2.2.2.1 q a b e, j1.2.2.2.2.1 q a b e, e1]
  · intro q a
    rw [h3.2.2.2.2.2.1 q a, j1.2.2.2.2.2.1 q a, e1]
  · rw [h3.2.2.2.2.2.2.1, j1.2.2.2.2.2.2, e1]
  · intro k hk3
    by_cases e : k = pl x c
    · subst e
      refine ⟨x, c, hx, hc, hfc, rfl, h3.rt, fun q h1 h2 => (hfl _).mpr ?_⟩
      rcases (s_RE_st hST.1 hST.2.2.1 hc q).mp h1 with rfl | ⟨m, a, b, e⟩
      · exact Or.inr rfl
      · exact Or.inl ((j3 _).mpr (Or.inr ⟨m, a, b, q, e, h2, rfl⟩))
    · obtain ⟨y, e', y1, y2, y3, y4, y5, y6⟩ := j2 k (((hfl k).mp hk3).resolve_right e)
      exact ⟨y, e', y1, y2, y3, y4, h3.ro e y5, fun q h1 h2 => (hfl _).mpr (Or.inl (y6 q h1 h2))⟩
  · rw [hfl k, j3 k, cNw_st hST hc hfc k]
    constructor
    · rintro ((z | z) | z)
      · exact Or.inl z
      · exact Or.inr (Or.inr z)
      · exact Or.inr (Or.inl z)
    · rintro (z | z | z)
      · exact Or.inl (Or.inl z)
      · exact Or.inr z
      · exact Or.inl (Or.inr z)
  · rw [h3.2.2.1 10 (by decide) (by decide) (by decide), j4, e10, Int32.add_assoc, Int32.add_comm 1, nI_1]
  · omega
  · intro q hq
    by_cases e : q = s
    · subst e
      obtain ⟨j, a1, a2, a3⟩ := j6 q hq
      refine ⟨j, a1, by rw [h3.2.2.2.2.2.2.1]; exact a2, fun k hk2 => ?_⟩
      rw [h3.2.2.2.2.2.2.2.1]
      by_cases ek : k = pl x c
      · rw [ek, va_s]; exact ⟨j, Nat.le_refl _, a2⟩
      · rw [va_o ek]; exact a3 k hk2
    · rw [h3.2.2.2.1 q e]; exact j6 q hq
  · omega
theorem c_fills (hW : cW g x0 P hp) (hS : cSH g x0 P hp X fm ly kd) (hST : sST fm ly rk) (hc : c < 24) (hfc : fm c ≠ []) (hT : ∀ m ∈ fm c, m.1 < 24 → cTl l g x0 P hp nx X fm ly kd rk D m.1) (hR : ∀ m ∈ fm c, 300 ≤ m.1 → cRn l g x0 P hp nx X fm ly kd rk D (m.1 % 10))
    (hP : cPr g hp X fm ly kd s N pl ows x σ M) (hk : ¬ cFl s (σ.2.2.1 s) (pl x c)) (hs : s = 6 ∨ rk c ≤ rk (24 + s)) (hB : cBg fm ly kd s (cNw fm (pl x) c) σ M) (hd : D + 44 ≤ d) {K : zHp → Nat → Prop}
    (hK : ∀ σ', cPo fm ly kd rk (rk c) s N pl ows (cNw fm (pl x) c) σ σ' M → cRt (σ'.2.2.1 s) (pl x c) (s_EV fm ly kd (ows x) c) → σ'.1 2 = σ.1 2 → σ'.1 3 = σ.1 3 → K (cput g x0 P σ' hp) nx) : zMtW l g yX0_fills cX0_fills 10 none [(18, 113, 134, 0), (134, 136, 134, 0)] d 0 0 [.ref x0, va_rf (some (P.1 c)), va_rf (some (x0 + cSA s)), .int (nI (pl x c))] (cput g x0 P σ hp) nx (zQv g K) := by
  obtain ⟨d, rfl⟩ := Nat.exists_eq_add_of_le' (show 1 ≤ d by omega)
  obtain ⟨hx, hC, hWh, hOW, hX, hMem, hSt⟩ := hP
  have hs7 : s < 7 := hC.1
  have hpl := hC.2.1 x hx c hc
  have hw64 : cWd s ≤ 64 := by unfold cWd; split <;> omega
  have hk31 : pl x c < 2 ^ 31 := by omega
  have ck : (nI (pl x c)).toNatClampNeg = pl x c := nI_clamp hk31
  have ik : vp_in (nI (pl x c)) (24 * cWd s) := vp_in_nI hpl.1 (by omega)
  have hB0 := hW.1
  have zA : ∀ q, zB g ≤ x0 + q := fun q => by omega
  have hF := hS.2.2.1 c hc
  rcases hF with ⟨q, -⟩ | ⟨a, root, nb, as, n, -, hFa, ha, hn, hNd, -⟩
  · exact absurd q hfc
  obtain ⟨σ1, e1⟩ : ∃ σ1, σ1 = cuI (cuI (cuI (cuI σ 2 0) 3 (-1)) 4 (nI c)) 10 (σ.1 10 + 1) := ⟨_, rfl⟩
  have hσ : σ1.2 = σ.2 := by rw [e1]; rfl
  have t10 : (cuI (cuI (cuI σ 2 0) 3 (-1)) 4 (nI c)).1 10 = σ.1 10 := by rw [cI_o (by decide), cI_o (by decide), cI_o (by decide)]
  have hFa' : σ1.2.2.2.2.2.2.2.2.2.2.1 c = some a := by rw [hσ, hX]; exact hFa
  have i4 : σ1.1 4 = nI c := by rw [e1, cI_o (by decide), cI_s]
  have i2 : σ1.1 2 = 0 := by rw [e1, cI_o (by decide), cI_o (by decide), cI_o (by decide), cI_s]
  have i3 : σ1.1 3 = -1 := by rw [e1, cI_o (by decide), cI_o (by decide), cI_s]
  have i10 : σ1.1 10 = σ.1 10 + 1 := by rw [e1, cI_s]
  have io : ∀ q, q ≠ 2 → q ≠ 3 → q ≠ 4 → q ≠ 10 → σ1.1 q = σ.1 q := fun q a b e f => by rw [e1, cI_o f, cI_o e, cI_o b, cI_o a]
  have hWh1 : cWh g hp fm ly s (pl x) σ1 := hWh.cg (by rw [hσ]) (io 8 (by decide) (by decide) (by decide) (by decide)) (io 9 (by decide) (by decide) (by decide) (by decide)) (by rw [hσ]) (by rw [hσ])
  have hH := c_hy (l := l) (nx := nx) (D := D) hW hS hST hc hfc hT hR hx hC hWh1 (by rw [hσ]; exact hOW) (by rw [hσ]; exact hX) i4 (by rw [hσ]; exact hk) hs (M := M) (by unfold cBg; rw [hσ]; exact hB)
  have hJ0 : cJ fm ly kd rk (rk c) s N pl ows x σ1 M [] (cNo σ1) := by
    refine ⟨cFr.rf.on, ?_, fun k => ?_, 0, M, ?_, ?_, ?_, ?_⟩
    · show cMem fm ly kd s N pl ows (σ1.2.2.1 s)
      rw [hσ]; exact hMem
    · show cFl s (σ1.2.2.1 s) k ↔ _
      simp
    · rw [cNo_1 (by decide) (by decide), nI_0, Int32.add_zero]
    · show 0 + _ = cSW fm ly kd s (cFl s (σ1.2.2.1 s)) + 0
      omega
    · show cSt σ1 M
      unfold cSt
      rw [hσ]; exact hSt
    · show _ ≤ M + 96 * cSW fm ly kd s (cFl s (σ1.2.2.1 s)) + 96 * 0 + 0
      omega
  obtain ⟨ci1, fs1, g1, g2, g3⟩ := c_worth hW hH n d root (fm c) hNd (by omega) [] [] σ1 (by simp) hJ0
  have hEV : ∀ r : sT, (∀ st, s_run (s_EV fm ly kd (ows x)) (s_tvf fm ly kd (ows x)) c (fm c) st = r :: st) → s_EV fm ly kd (ows x) c = (if r.2.1 = 0 then s_kp (kd c) r.1 else 0, r.2) := by
    intro r hr
    rw [s_EV_f hST.1 hST.2.1 hST.2.2.1 hc hfc, hr []]
    rfl
  apply met_X0_fills
  unfold wp_X0_fills
  simp only [cg_fault, cg_blamed, cg_teller, cp_fault, cp_blamed, cp_teller, cg_told, cp_told, cc_n hW hc, cc_f hW hc, hB0, true_and, t10]
  rw [← e1, hFa', ch_R hW ha (r := some root) rfl (by decide), ch_o hW g1 g2]
  refine ⟨_, ?_, g3⟩
  rintro v hp1 nx1 ⟨r, σ2, hrun, hJ, hr, rfl, rfl⟩
  rw [List.nil_append] at hJ
  have hEV := hEV r hrun
  have hE : s_Ec (s_EV fm ly kd (ows x) c) := s_EV_E hST.1 hST.2.1 hST.2.2.1 _ c (Nat.lt_succ_self _) hc (ows x)
  have e23 : σ2.1 2 = r.2.1 ∧ σ2.1 3 = r.2.2 ∧ (r.2.1 = 0 → v = r.1) := by
    by_cases z : r.2.1 = 0
    · obtain ⟨y1, y2, y3⟩ := (hr.2.2 i2).1 z
      refine ⟨y2.trans z.symm, ?_, fun _ => y1⟩
      rw [y3, i3]
      have := hE.z (by rw [hEV]; exact z)
      rw [hEV] at this
      exact this.symm
    · exact ⟨((hr.2.2 i2).2 z).1, ((hr.2.2 i2).2 z).2, fun y => absurd y z⟩
  have hb1 : vp_nar .byte (σ2.1 2).toInt8.toInt32 = r.2.1 := by have := hE.b1; rw [hEV] at this; rw [e23.1]; exact this
  have hb2 : vp_nar .byte (σ2.1 3).toInt8.toInt32 = r.2.2 := by have := hE.b2; rw [hEV] at this; rw [e23.2.1]; exact this
  rw [cs_values hs7, cg_fault]
  refine ⟨fun a1 a2 a3 a4 r5 x6 v7 hp1 nx1 => a1 = σ.1 2 ∧ a2 = σ.1 3 ∧ a3 = σ.1 4 ∧ r5 = some (x0 + (cSA s + 5)) ∧ x6 = nI (pl x c) ∧ v7 = (s_EV fm ly kd (ows x) c).1 ∧ hp1 = cput g x0 P σ2 hp ∧ nx = nx1, ?_, fun z => ?_, fun z => ?_⟩
  · rintro a1 a2 a3 a4 r5 x6 v7 hp1 nx1 ⟨rfl, rfl, rfl, rfl, rfl, rfl, rfl, rfl⟩
    simp only [csa_values hs7, ck, ik, zA, true_and, forall_eq, csu_values hs7, cs_faults hs7, csa_faults hs7, csu_faults hs7, cs_blames hs7, csa_blames hs7, csu_blames hs7, cs_stamps hs7, csa_stamps hs7, csu_stamps hs7, cs_stamp hs7, cg_fault, cg_blamed, cp_fault, cp_blamed, cp_teller, hB0, kGI1, kGD1, hb1, hb2]
    have hfil : ∀ {τ : cS}, τ = cuI (cuI (cuI (cuGI (cuGI (cuGI (cuGD σ2 s 1 (va_up ((σ2.2.2.1 s).2.1 1) (pl x c) (s_EV fm ly kd (ows x) c).1)) s 4 (va_up (((cuGD σ2 s 1 (va_up ((σ2.2.2.1 s).2.1 1) (pl x c) (s_EV fm ly kd (ows x) c).1)).2.2.1 s).1 4) (pl x c) r.2.1)) s 5 (va_up (((cuGI (cuGD σ2 s 1 (va_up ((σ2.2.2.1 s).2.1 1) (pl x c) (s_EV fm ly kd (ows x) c).1)) s 4 (va_up (((cuGD σ2 s 1 (va_up ((σ2.2.2.1 s).2.1 1) (pl x c) (s_EV fm ly kd (ows x) c).1)).2.2.1 s).1 4) (pl x c) r.2.1)).2.2.1 s).1 5) (pl x c) r.2.2)) s 3 (va_up ((σ2.2.2.1 s).1 3) (pl x c) (σ2.2.2.1 s).2.2)) 2 (σ.1 2)) 3 (σ.1 3)) 4 (σ.1 4) → cFil s (pl x c) (s_EV fm ly kd (ows x) c) σ2 τ := by
      rintro τ rfl
      have e2 : (s_EV fm ly kd (ows x) c).2 = r.2 := by rw [hEV]
      refine ⟨rfl, rfl, fun q a b e => ?_, fun q a => ?_, fun q a b e => ?_, fun q a => ?_, ?_, ?_, ?_, ?_, ?_⟩
      · rw [cI_o e, cI_o b, cI_o a]; rfl
      · simp only [kI2, cGI_o a, cGD_o a]
      · simp only [kI2, kGIj a, kGIj b, kGIj e, cGD_1]
      · simp only [kI2, cGI_2, kGDj a]
      · simp only [kI2, cGI_2, cGD_3]
      · simp only [kI2, cGI_s]
      · simp only [kI2, kGIj (show 4 ≠ 3 by decide), kGIj (show 4 ≠ 5 by decide), cGI_s, cGD_1, e2]
      · simp only [kI2, kGIj (show 5 ≠ 3 by decide), kGIj (show 5 ≠ 4 by decide), cGI_s, cGD_1, e2]
      · simp only [kI2, cGI_2, cGD_s]
    have gen : ∀ τ : cS, cFil s (pl x c) (s_EV fm ly kd (ows x) c) σ2 τ → τ.1 2 = σ.1 2 → τ.1 3 = σ.1 3 → τ.1 4 = σ.1 4 → K (cput g x0 P τ hp) nx := fun τ z1 z2 z3 z4 => hK τ (c_filled hST hc hfc hx hC hk hσ i10 io hJ z1 z4) z1.rt z2 z3
    refine gen _ (hfil ?_) ?_ ?_ ?_
    · simp only [cGI_2, cGD_1, cGD_3, kGIj (show 3 ≠ 5 by decide), kGIj (show 3 ≠ 4 by decide)]
    · rw [cI_o (by decide), cI_o (by decide), cI_s]
    · rw [cI_o (by decide), cI_s]
    · rw [cI_s]
  · rw [cc_o hW hc]
    have z : r.2.1 = 0 := e23.1.symm.trans z
    refine ⟨fun y hp1 nx1 => y = (s_EV fm ly kd (ows x) c).1 ∧ hp1 = cput g x0 P σ2 hp ∧ nx = nx1, ?_, ?_⟩
    · rintro y hp1 nx1 ⟨rfl, rfl, rfl⟩
      exact ⟨rfl, rfl, rfl, rfl, rfl, rfl, rfl, rfl⟩
    · refine c_kept (cput_c hW hc) (hW.2.2.1 c hc).2.2.2 (by omega) hr.1 ⟨?_, rfl, rfl⟩
      rw [hEV, if_pos z, ← hS.2.1 c hc, e23.2.2 z]
  · have z : r.2.1 ≠ 0 := fun y => z (e23.1.trans y)
    refine ⟨rfl, rfl, rfl, rfl, rfl, ?_, rfl, rfl⟩
    rw [hEV, if_neg z]
    rfl
end FI
