set_option maxRecDepth 100000
/-! a cell is told: its formula's worth, kept by what it reads -/
section TL
variable {l : Launch} {g : zG} {d x0 : Nat} {P : cP} {σ σ' σ1 σ2 τ : cS} {hp : zHp} {nx : Nat} {fm : sF} {ly : sY} {kd : Nat → Int32} {rk : Nat → Nat} {X : cX}
theorem kI2 {k : Nat} {v : Int32} : (cuI σ k v).2 = σ.2 := rfl
theorem kGI1 {s k : Nat} {f : Nat → Int32} : (cuGI σ s k f).1 = σ.1 := rfl
theorem kGI2 {s k : Nat} {f : Nat → Int32} : (cuGI σ s k f).2.1 = σ.2.1 := rfl
theorem kGI4 {s k : Nat} {f : Nat → Int32} : (cuGI σ s k f).2.2.2 = σ.2.2.2 := rfl
theorem kGD1 {s k : Nat} {f : Nat → UInt64} : (cuGD σ s k f).1 = σ.1 := rfl
theorem kGD2 {s k : Nat} {f : Nat → UInt64} : (cuGD σ s k f).2.1 = σ.2.1 := rfl
theorem kGD4 {s k : Nat} {f : Nat → UInt64} : (cuGD σ s k f).2.2.2 = σ.2.2.2 := rfl
theorem kGIj {s k j : Nat} {f : Nat → Int32} (h : j ≠ k) : ((cuGI σ s k f).2.2.1 s).1 j = (σ.2.2.1 s).1 j := cGI_1 (fun z => h z.2)
theorem kGDj {s k j : Nat} {f : Nat → UInt64} (h : j ≠ k) : ((cuGD σ s k f).2.2.1 s).2.1 j = (σ.2.2.1 s).2.1 j := cGD_2 (fun z => h z.2)
/-- what is told anew -/
def cNw (fm : sF) (p : Nat → Nat) (c k : Nat) : Prop := ∃ e, s_RE fm c e ∧ fm e ≠ [] ∧ k = p e
/-- ahead of telling -/
def cPr (g : zG) (hp : zHp) (X : cX) (fm : sF) (ly : sY) (kd : Nat → Int32) (s N : Nat) (pl : Nat → Nat → Nat) (ows : Nat → sO) (x : Nat) (σ : cS) (M : Nat) : Prop := x < N ∧ cCx fm ly kd s N pl ows ∧ cWh g hp fm ly s (pl x) σ ∧ cOW fm kd σ.2.2.2.1 (ows x) ∧ σ.2.2.2.2 = X ∧ cMem fm ly kd s N pl ows (σ.2.2.1 s) ∧ cSt σ M
/-- behind telling -/
def cPo (fm : sF) (ly : sY) (kd : Nat → Int32) (rk : Nat → Nat) (R s N : Nat) (pl : Nat → Nat → Nat) (ows : Nat → sO) (new : Nat → Prop) (σ σ' : cS) (M : Nat) : Prop := cFr rk R s σ σ' ∧ cMem fm ly kd s N pl ows (σ'.2.2.1 s) ∧ (∀ k, cFl s (σ'.2.2.1 s) k ↔ cFl s (σ.2.2.1 s) k ∨ new k) ∧ ∃ n M', σ'.1 10 = σ.1 10 + nI n ∧ n + cSW fm ly kd s (cFl s (σ.2.2.1 s)) = cSW fm ly kd s (cFl s (σ'.2.2.1 s)) ∧ cSt σ' M' ∧ M' + 96 * cSW fm ly kd s (cFl s (σ.2.2.1 s)) ≤ M + 96 * cSW fm ly kd s (cFl s (σ'.2.2.1 s))
/-- there are stamps enough -/
def cBg (fm : sF) (ly : sY) (kd : Nat → Int32) (s : Nat) (new : Nat → Prop) (σ : cS) (M : Nat) : Prop := M + 96 * cSW fm ly kd s (fun k => cFl s (σ.2.2.1 s) k ∨ new k) ≤ 2147483647 + 96 * cSW fm ly kd s (cFl s (σ.2.2.1 s))
/-- tell's contract for a cell -/
def cTl (l : Launch) (g : zG) (x0 : Nat) (P : cP) (hp : zHp) (nx : Nat) (X : cX) (fm : sF) (ly : sY) (kd : Nat → Int32) (rk : Nat → Nat) (D c : Nat) : Prop := ∀ (d s N x M : Nat) (pl : Nat → Nat → Nat) (ows : Nat → sO) (σ : cS) (K : UInt64 → zHp → Nat → Prop), D ≤ d → cPr g hp X fm ly kd s N pl ows x σ M → (s = 6 ∨ rk c ≤ rk (24 + s)) → cBg fm ly kd s (cNw fm (pl x) c) σ M → (∀ v σ', cPo fm ly kd rk (rk c) s N pl ows (cNw fm (pl x) c) σ σ' M → cRs σ (s_EV fm ly kd (ows x) c) v σ' → K v (cput g x0 P σ' hp) nx) → zMt l g yX0_tell cX0_tell 5 (some .double) d 0 0 [.ref x0, .int (nI c)] (cput g x0 P σ hp) nx (zQd g K)
/-- what came of a case -/
def cRk (G : cG) (k : Nat) (r : sT) : Prop := G.1 6 k = r.2.1 ∧ s_B (G.2.1 2 k) ∧ (r.2.1 = 0 → G.2.1 2 k = r.1) ∧ G.1 7 k = r.2.2
def cIx (one : Option (Nat × Nat)) : Int32 := match one with | none => -1 | some p => nI p.1
def cJx (one : Option (Nat × Nat)) : Int32 := match one with | none => 0 | some p => nI p.2
/-- the contract of a table's cases -/
def cRn (l : Launch) (g : zG) (x0 : Nat) (P : cP) (hp : zHp) (nx : Nat) (X : cX) (fm : sF) (ly : sY) (kd : Nat → Int32) (rk : Nat → Nat) (D t : Nat) : Prop := ∀ (d M a : Nat) (L : sL) (one : Option (Nat × Nat)) (ow : sO) (σ : cS) (K : zHp → Nat → Prop), D ≤ d → X.2.2.1 1 t = some a → ly t = some L → cOW fm kd σ.2.2.2.1 ow → σ.2.2.2.2 = X → cSt σ M → M + 1 + 96 * s_TL fm ly kd t ≤ 2147483647 → (∀ p, one = some p → p.1 < L.2.2.2.1.length ∧ p.2 < s_my L) →
  (∀ σ' n M', cFu rk t σ σ' → n ≤ s_TL fm ly kd t → (one = none → n = s_TL fm ly kd t) → σ'.1 10 = σ.1 10 + nI n → cSt σ' M' → M' ≤ M + 1 + 96 * s_TL fm ly kd t → (∀ k, k < s_nc L → (∀ p, one = some p → k = s_my L * p.1 + p.2) → cRk (σ'.2.2.1 t) k (s_EV fm ly kd (s_bi L ow (k / s_my L) (k % s_my L)) L.1)) → K (cput g x0 P σ' hp) nx) → zMtW l g yX0_runs cX0_runs 18 none [(103, 128, 269, 0), (178, 217, 269, 0), (269, 271, 269, 0)] d 0 0 [.ref x0, va_rf (some a), .int (cIx one), .int (cJx one)] (cput g x0 P σ hp) nx (zQv g K)
/-- within a formula -/
def cJ (fm : sF) (ly : sY) (kd : Nat → Int32) (rk : Nat → Nat) (R s N : Nat) (pl : Nat → Nat → Nat) (ows : Nat → sO) (x : Nat) (σ1 : cS) (M : Nat) (pre : List sM) (A : cS) : Prop := cFr rk R s σ1 A ∧ cMem fm ly kd s N pl ows (A.2.2.1 s) ∧ (∀ k, cFl s (A.2.2.1 s) k ↔ cFl s (σ1.2.2.1 s) k ∨ ∃ m ∈ pre, m.1 < 24 ∧ cNw fm (pl x) m.1 k) ∧ ∃ n M', A.1 10 = σ1.1 10 + nI n ∧ n + cSW fm ly kd s (cFl s (σ1.2.2.1 s)) = cSW fm ly kd s (cFl s (A.2.2.1 s)) + s_ak fm ly kd pre ∧ cSt A M' ∧ M' + 96 * cSW fm ly kd s (cFl s (σ1.2.2.1 s)) ≤ M + 96 * cSW fm ly kd s (cFl s (A.2.2.1 s)) + 96 * s_ak fm ly kd pre + pre.length
theorem cFr.no {R s : Nat} (h : cFr rk R s σ (cNo σ')) : cFr rk R s σ σ' := ⟨h.1, h.2.1, fun k a b c => by rw [← cNo_1 (σ := σ') a b]; exact h.2.2.1 k a b c, h.2.2.2⟩
theorem cFr.on {R s : Nat} (h : cFr rk R s σ σ') : cFr rk R s σ (cNo σ') := ⟨h.1, h.2.1, fun k a b c => by rw [cNo_1 a b]; exact h.2.2.1 k a b c, h.2.2.2⟩
/-- the cell's own place is not among what it names -/
theorem cNw_no {s N x c : Nat} {pl : Nat → Nat → Nat} {ows : Nat → sO} (hST : sST fm ly rk) (hC : cCx fm ly kd s N pl ows) (hx : x < N) (hc : c < 24) {m : sM} (hm : m ∈ fm c) (h24 : m.1 < 24) : ¬ cNw fm (pl x) m.1 (pl x c) := by
  rintro ⟨e, h1, h2, h3⟩
  have he := s_RE_lt hST.1 hST.2.2.1 h24 h1
  have d1 := (hC.2.1 x hx e he).2
  have d2 := (hC.2.1 x hx c hc).2
  rw [h3, d1] at d2
  subst d2
  have r1 := s_RE_rk hST.1 hST.2.2.1 h24 h1
  have r2 := hST.1.1 e hc m hm h24
  omega
theorem cNw_st {c : Nat} {p : Nat → Nat} (hST : sST fm ly rk) (hc : c < 24) (hf : fm c ≠ []) (k : Nat) : cNw fm p c k ↔ k = p c ∨ ∃ m ∈ fm c, m.1 < 24 ∧ cNw fm p m.1 k := by
  constructor
  · rintro ⟨e, h1, h2, h3⟩
    rcases (s_RE_st hST.1 hST.2.2.1 hc e).mp h1 with rfl | ⟨m, a, b, q⟩
    · exact Or.inl h3
    · exact Or.inr ⟨m, a, b, e, q, h2, h3⟩
  · rintro (h | ⟨m, a, b, e, q, h2, h3⟩)
    · exact ⟨c, s_RE_self, hf, h⟩
    · exact ⟨e, (s_RE_st hST.1 hST.2.2.1 hc e).mpr (Or.inr ⟨m, a, b, q⟩), h2, h3⟩
section HY
variable {c s N x M D : Nat} {pl : Nat → Nat → Nat} {ows : Nat → sO}
theorem c_hy (hW : cW g x0 P hp) (hS : cSH g x0 P hp X fm ly kd) (hST : sST fm ly rk) (hc : c < 24) (hfc : fm c ≠ []) (hT : ∀ m ∈ fm c, m.1 < 24 → cTl l g x0 P hp nx X fm ly kd rk D m.1) (hR : ∀ m ∈ fm c, 300 ≤ m.1 → cRn l g x0 P hp nx X fm ly kd rk D (m.1 % 10))
    (hx : x < N) (hC : cCx fm ly kd s N pl ows) (hWh : cWh g hp fm ly s (pl x) σ1) (hOW : cOW fm kd σ1.2.2.2.1 (ows x)) (hX : σ1.2.2.2.2 = X) (h4 : σ1.1 4 = nI c) (hk : ¬ cFl s (σ1.2.2.1 s) (pl x c)) (hs : s = 6 ∨ rk c ≤ rk (24 + s)) (hB : cBg fm ly kd s (cNw fm (pl x) c) σ1 M) :
    cHy l g x0 P hp nx (fm c) (cJ fm ly kd rk (rk c) s N pl ows x σ1 M) (s_EV fm ly kd (ows x)) (s_tvf fm ly kd (ows x)) c (D + 12) := by
  have hlen := hST.2.2.2.2.2 c hc
  have hpl := hC.2.1 x hx c hc
  -- what is filled within the formula, and its weight
  have hfull : ∀ {A : cS} {pre : List sM} {ns : List sM} {G : Nat → Prop}, fm c = pre ++ ns → (∀ k, cFl s (A.2.2.1 s) k ↔ cFl s (σ1.2.2.1 s) k ∨ ∃ m ∈ pre, m.1 < 24 ∧ cNw fm (pl x) m.1 k) → (∀ k, G k → cFl s (A.2.2.1 s) k ∨ ∃ m ∈ fm c, m.1 < 24 ∧ cNw fm (pl x) m.1 k) → cSW fm ly kd s G + s_wt fm ly kd c ≤ cSW fm ly kd s (fun k => cFl s (σ1.2.2.1 s) k ∨ cNw fm (pl x) c k) := by
    intro A pre ns G e1 e2 e3
    have hG : ∀ k, G k → cFl s (σ1.2.2.1 s) k ∨ ∃ m ∈ fm c, m.1 < 24 ∧ cNw fm (pl x) m.1 k := by
      intro k q
      rcases e3 k q with z | z
      · rcases (e2 k).mp z with y | ⟨m, m1, m2, m3⟩
        · exact Or.inl y
        · exact Or.inr ⟨m, by rw [e1]; exact List.mem_append_left _ m1, m2, m3⟩
      · exact Or.inr z
    have hn : ¬ G (pl x c) := by
      intro q
      rcases hG _ q with z | ⟨m, m1, m2, m3⟩
      · exact hk z
      · exact cNw_no hST hC hx hc m1 m2 m3
    have h1 := @cSW_one fm ly kd s G (fun k => G k ∨ k = pl x c) (pl x c) hpl.1 hn (fun k _ => Iff.rfl)
    rw [hpl.2] at h1
    have h2 := @cSW_mono fm ly kd s (fun k => G k ∨ k = pl x c) (fun k => cFl s (σ1.2.2.1 s) k ∨ cNw fm (pl x) c k) (fun k _ q => by
      rcases q with q | q
      · rcases hG k q with z | z
        · exact Or.inl z
        · exact Or.inr ((cNw_st hST hc hfc k).mpr (Or.inr z))
      · exact Or.inr ((cNw_st hST hc hfc k).mpr (Or.inl q)))
    omega
  have hak : ∀ {pre ns : List sM}, fm c = pre ++ ns → s_ak fm ly kd pre ≤ s_ak fm ly kd (fm c) ∧ pre.length ≤ 96 := by
    intro pre ns e
    rw [e] at hlen ⊢
    rw [s_ak_append]
    rw [List.length_append] at hlen
    omega
  unfold cBg at hB
  refine ⟨fun pre A hJ => ?_, fun pre m post A e m1 m2 hJ => ?_, fun pre m post τ d K hd e m1 hJ hK => ?_, fun pre m post τ d a ci K hd e c1 c2 m1 m2 ha hJ hK => ?_, fun m hm => hST.2.2.2.1 c hc m hm⟩
  · rw [hJ.1.2.2.1 4 (by decide) (by decide) (by decide)]; exact h4
  · obtain ⟨j1, j2, j3, n, M', j4, j5, j6, j7⟩ := hJ
    have ea : s_ak fm ly kd (pre ++ [m]) = s_ak fm ly kd pre := by
      rw [s_ak_append]
      unfold s_ak
      simp only [List.map_cons, List.map_nil, List.sum_cons, List.sum_nil, if_neg (show ¬ 300 ≤ m.1 by omega), Nat.add_zero]
    refine ⟨j1, j2, fun k => ?_, n, M', j4, by rw [ea]; exact j5, j6, by rw [ea, List.length_append]; omega⟩
    rw [j3 k]
    refine or_congr Iff.rfl ⟨fun ⟨m', a, b⟩ => ⟨m', List.mem_append_left _ a, b⟩, fun ⟨m', a, b, b2⟩ => ?_⟩
    rcases List.mem_append.mp a with a | a
    · exact ⟨m', a, b, b2⟩
    · rw [List.mem_singleton] at a; rw [a] at b; omega
  · have hm : m ∈ fm c := by rw [e]; simp
    obtain ⟨j1, j2, j3, n, M', j4, j5, j6, j7⟩ := hJ
    have j1 := j1.no
    have j2 : cMem fm ly kd s N pl ows (τ.2.2.1 s) := j2
    have j3 : ∀ k, cFl s (τ.2.2.1 s) k ↔ cFl s (σ1.2.2.1 s) k ∨ ∃ m ∈ pre, m.1 < 24 ∧ cNw fm (pl x) m.1 k := j3
    have j4 : τ.1 10 = σ1.1 10 + nI n := by rw [cNo_1 (by decide) (by decide)] at j4; exact j4
    have j5 : n + cSW fm ly kd s (cFl s (σ1.2.2.1 s)) = cSW fm ly kd s (cFl s (τ.2.2.1 s)) + s_ak fm ly kd pre := j5
    have j6 : cSt τ M' := j6
    have j7 : M' + 96 * cSW fm ly kd s (cFl s (σ1.2.2.1 s)) ≤ M + 96 * cSW fm ly kd s (cFl s (τ.2.2.1 s)) + 96 * s_ak fm ly kd pre + pre.length := j7
    have hw := hfull (A := τ) (G := fun k => cFl s (τ.2.2.1 s) k ∨ cNw fm (pl x) m.1 k) e j3 (fun k q => q.imp id (fun z => ⟨m, hm, m1, z⟩))
    have hak := hak e
    have hr := hST.1.1 c hc m hm m1
    unfold s_wt at hw
    have ea : s_ak fm ly kd (pre ++ [m]) = s_ak fm ly kd pre := by
      rw [s_ak_append]
      unfold s_ak
      simp only [List.map_cons, List.map_nil, List.sum_cons, List.sum_nil, if_neg (show ¬ 300 ≤ m.1 by omega), Nat.add_zero]
    refine hT m hm m1 d s N x M' pl ows τ K (by omega) ⟨hx, hC, hWh.fr j1, by rw [j1.1]; exact hOW, by rw [j1.1]; exact hX, j2, j6⟩ (hs.imp id (fun z => by omega)) (by unfold cBg; omega) (fun v σ' hP hr => hK v σ' ?_ hr)
    obtain ⟨p1, p2, p3, n2, M2, p4, p5, p6, p7⟩ := hP
    refine ⟨(j1.tr p1 (Nat.le_refl _) (by omega)).on, p2, fun k => ?_, n + n2, M2, ?_, ?_, p6, ?_⟩
    · show cFl s (σ'.2.2.1 s) k ↔ _
      rw [p3 k, j3 k]
      constructor
      · rintro ((z | ⟨m', a, b⟩) | z)
        · exact Or.inl z
        · exact Or.inr ⟨m', List.mem_append_left _ a, b⟩
        · exact Or.inr ⟨m, by simp, m1, z⟩
      · rintro (z | ⟨m', a, b⟩)
        · exact Or.inl (Or.inl z)
        · rcases List.mem_append.mp a with a | a
          · exact Or.inl (Or.inr ⟨m', a, b⟩)
          · rw [List.mem_singleton] at a; rw [a] at b; exact Or.inr b.2
    · rw [cNo_1 (by decide) (by decide), p4, j4, Int32.add_assoc, nI_add]
    · show _ = cSW fm ly kd s (cFl s (σ'.2.2.1 s)) + _
      rw [ea]
      omega
    · show _ ≤ M + 96 * cSW fm ly kd s (cFl s (σ'.2.2.1 s)) + _ + _
      rw [ea, List.length_append]
      omega
  · have hm : m ∈ fm c := by rw [e]; simp
    have m3 : 300 ≤ m.1 := by omega
    obtain ⟨t, et⟩ : ∃ t, t = m.1 % 10 := ⟨_, rfl⟩
    rw [← et] at m1 m2 ha hK
    have hRt := hR m hm m3
    rw [← et] at hRt
    obtain ⟨j1, j2, j3, n, M', j4, j5, j6, j7⟩ := hJ
    have j1 := j1.no
    have j2 : cMem fm ly kd s N pl ows (τ.2.2.1 s) := j2
    have j3 : ∀ k, cFl s (τ.2.2.1 s) k ↔ cFl s (σ1.2.2.1 s) k ∨ ∃ m ∈ pre, m.1 < 24 ∧ cNw fm (pl x) m.1 k := j3
    have j4 : τ.1 10 = σ1.1 10 + nI n := by rw [cNo_1 (by decide) (by decide)] at j4; exact j4
    have j5 : n + cSW fm ly kd s (cFl s (σ1.2.2.1 s)) = cSW fm ly kd s (cFl s (τ.2.2.1 s)) + s_ak fm ly kd pre := j5
    have j6 : cSt τ M' := j6
    have j7 : M' + 96 * cSW fm ly kd s (cFl s (σ1.2.2.1 s)) ≤ M + 96 * cSW fm ly kd s (cFl s (τ.2.2.1 s)) + 96 * s_ak fm ly kd pre + pre.length := j7
    have hw := hfull (A := τ) (G := cFl s (τ.2.2.1 s)) e j3 (fun k q => Or.inl q)
    have hak := hak (pre := pre ++ [m]) (ns := post) (by rw [e]; simp)
    rw [List.length_append, List.length_singleton] at hak
    have hr := hST.1.2.1 c hc m hm m3
    rw [← et] at hr
    have h4τ : τ.1 4 = nI c := by rw [j1.2.2.1 4 (by decide) (by decide) (by decide)]; exact h4
    have hXτ : τ.2.2.2.2 = X := by rw [j1.1]; exact hX
    unfold s_wt at hw
    have hnew : ∀ {A : cS}, (∀ k, cFl s (A.2.2.1 s) k ↔ cFl s (τ.2.2.1 s) k) → ∀ k, cFl s (A.2.2.1 s) k ↔ cFl s (σ1.2.2.1 s) k ∨ ∃ m' ∈ pre ++ [m], m'.1 < 24 ∧ cNw fm (pl x) m'.1 k := by
      intro A hA k
      rw [hA k, j3 k]
      refine or_congr Iff.rfl ⟨fun ⟨m', a, b⟩ => ⟨m', List.mem_append_left _ a, b⟩, fun ⟨m', a, b, b2⟩ => ?_⟩
      rcases List.mem_append.mp a with a | a
      · exact ⟨m', a, b, b2⟩
      · rw [List.mem_singleton] at a; rw [a] at b; omega
    have ean : ly t = none → s_ak fm ly kd (pre ++ [m]) = s_ak fm ly kd pre := fun hl => by
      rw [s_ak_append]
      unfold s_ak
      simp only [List.map_cons, List.map_nil, List.sum_cons, List.sum_nil, if_pos m3, ← et, hl, Nat.add_zero]
    have eas : ∀ L, ly t = some L → s_ak fm ly kd (pre ++ [m]) = s_ak fm ly kd pre + s_TL fm ly kd t := fun L hl => by
      rw [s_ak_append]
      unfold s_ak
      simp only [List.map_cons, List.map_nil, List.sum_cons, List.sum_nil, if_pos m3, ← et, hl, Nat.add_zero]
    have hLy := hS.2.2.2.1 t m1
    refine c_ask (t := t) (J := cJ fm ly kd rk (rk c) s N pl ows x σ1 M (pre ++ [m])) (tvt := s_tvf fm ly kd (ows x) t) (by omega) hW m1 ha c1 c2 (show τ.2.2.2.2.2.2.1 1 t = _ from rfl) (fun e0 => ?_) (fun a1 ea1 => ?_) (fun v σ' q1 q2 => hK v σ' q1 (by rw [h4τ] at q2; exact q2))
    · rw [hXτ] at e0
      have hl : ly t = none := by
        rcases hLy with q | ⟨a', L, q1, q2, -⟩
        · exact q.1
        · rw [e0] at q2; cases q2
      have ea := ean hl
      refine ⟨fun f => s_tvf_n hl f, j1.on, j2, hnew (A := cNo τ) (fun k => Iff.rfl), n, M', ?_, ?_, j6, ?_⟩
      · rw [cNo_1 (by decide) (by decide)]; exact j4
      · rw [ea]; exact j5
      · rw [ea, List.length_append]
        show M' + _ ≤ M + 96 * cSW fm ly kd s (cFl s (τ.2.2.1 s)) + _ + _
        omega
    · rw [hXτ] at ea1
      obtain ⟨L, hl, hTb, hTk⟩ : ∃ L, ly t = some L ∧ cTb g hp a1 t L ∧ cTk L := by
        rcases hLy with q | ⟨a', L, q1, q2, q3, q4⟩
        · rw [q.2] at ea1; cases ea1
        · rw [q2] at ea1; cases ea1; exact ⟨L, q1, q3, q4⟩
      have ea := eas L hl
      refine ⟨L, fun k => s_EV fm ly kd (s_bi L (ows x) (k / s_my L) (k % s_my L)) L.1, hTb, hTk, fun f => s_tvf_s hl f, fun Q hQ => ?_⟩
      obtain ⟨d, rfl⟩ := Nat.exists_eq_add_of_le' (show 2 ≤ d by omega)
      show zMt l g yX0_runsAll cX0_runsAll 2 none (d + 1) 0 0 [.ref x0, va_rf (some a1)] (cput g x0 P τ hp) nx (zQv g Q)
      apply met_X0_runsAll
      unfold wp_X0_runsAll
      rw [cz_o]
      refine hRt d M' a1 L none (ows x) τ _ (by omega) ea1 hl (by rw [j1.1]; exact hOW) hXτ j6 (by omega) (fun p q => by cases q) (fun σ' n2 M2 u1 u2 u3 u4 u5 u6 u7 => ?_)
      have e3 := u3 rfl
      have hs7 : s < 7 := hC.1
      have u1' := u1.fr hr m1 hs7 hs
      have hne : s ≠ t := by rcases hs with z | z <;> (intro y; subst y; omega)
      have es : σ'.2.2.1 s = τ.2.2.1 s := u1.2.2.2 s hs7 hne (hs.imp id (fun z => by omega))
      refine hQ σ' ⟨(j1.tr u1' (Nat.le_refl _) (Nat.le_refl _)).on, ?_, hnew (A := cNo σ') (fun k => ?_), n + n2, M2, ?_, ?_, u5, ?_⟩ (u1.2.2.1 2 (by decide)) (u1.2.2.1 3 (by decide)) (u1.2.2.1 4 (by decide)) (fun k hk => ?_)
      · show cMem fm ly kd s N pl ows (σ'.2.2.1 s)
        rw [es]; exact j2
      · show cFl s (σ'.2.2.1 s) k ↔ _
        rw [es]
      · rw [cNo_1 (by decide) (by decide), u4, j4, Int32.add_assoc, nI_add]
      · show _ = cSW fm ly kd s (cFl s (σ'.2.2.1 s)) + _
        rw [es, ea, e3]
        omega
      · show _ ≤ M + 96 * cSW fm ly kd s (cFl s (σ'.2.2.1 s)) + _ + _
        rw [es, ea, List.length_append]
        simp only [List.length_singleton]
        omega
      · obtain ⟨z1, z2, z3, -⟩ := u7 k hk (fun p q => by cases q)
        exact ⟨z1, z2, z3⟩
end HY
end TL
