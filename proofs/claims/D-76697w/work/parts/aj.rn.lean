set_option maxRecDepth 100000
/-! the cases of a table are told -/
section RN
variable {l : Launch} {g : zG} {d x0 : Nat} {P : cP} {σ σ' σ0 σ1 σ2 τ : cS} {hp : zHp} {nx : Nat} {fm : sF} {ly : sY} {kd : Nat → Int32} {rk : Nat → Nat} {X : cX} {t a M D : Nat} {L : sL} {ow : sO} {S : Nat → Prop}
/-- within the cases of a table: those of S are told -/
def cIv (fm : sF) (ly : sY) (kd : Nat → Int32) (rk : Nat → Nat) (X : cX) (t a : Nat) (L : sL) (ow : sO) (σ0 : cS) (M : Nat) (S : Nat → Prop) (σ : cS) : Prop :=
  σ.2.1 = some a ∧ σ.2.2.2.2 = X ∧ (∀ c, c ≠ L.2.1 → L.2.2.1 ≠ some c → σ.2.2.2.1 c = σ0.2.2.2.1 c) ∧ (∀ k, k ≠ 2 → k ≠ 3 → k ≠ 8 → k ≠ 9 → k ≠ 10 → σ.1 k = σ0.1 k) ∧ (∀ q, q < 7 → q ≠ t → (q = 6 ∨ rk (24 + t) ≤ rk (24 + q)) → σ.2.2.1 q = σ0.2.2.1 q) ∧
  cKp (kd L.2.1) L.2.2.2.1 ((σ.2.2.1 t).2.1 8) ((σ.2.2.1 t).1 10) ∧ (∀ b, L.2.2.1 = some b → cKp (kd b) L.2.2.2.2 ((σ.2.2.1 t).2.1 9) ((σ.2.2.1 t).1 11)) ∧
  cMem fm ly kd t (s_nc L) (cPl fm ly kd L) (fun x => s_bi L ow (x / s_my L) (x % s_my L)) (σ.2.2.1 t) ∧ (∀ k, cFl t (σ.2.2.1 t) k ↔ ∃ x, S x ∧ cNw fm (cPl fm ly kd L x) L.1 k) ∧
  (∃ n M', σ.1 10 = σ0.1 10 + nI n ∧ n = cSW fm ly kd t (cFl t (σ.2.2.1 t)) ∧ cSt σ M' ∧ M' ≤ M + 1 + 96 * n) ∧
  ∀ k, S k → cRk (σ.2.2.1 t) k (s_EV fm ly kd (s_bi L ow (k / s_my L) (k % s_my L)) L.1)
theorem cMem.cg {s N : Nat} {pl : Nat → Nat → Nat} {ows : Nat → sO} {G G' : cG} (h : cMem fm ly kd s N pl ows G) (h3 : G'.1 3 = G.1 3) (h4 : G'.1 4 = G.1 4) (h5 : G'.1 5 = G.1 5) (h1 : G'.2.1 1 = G.2.1 1) (hs : G'.2.2 = G.2.2) : cMem fm ly kd s N pl ows G' := by
  unfold cMem cFl cRt at h ⊢
  rw [h3, h4, h5, h1, hs]
  exact h
theorem cFl.cg {s k : Nat} {G G' : cG} (h3 : G'.1 3 = G.1 3) (hs : G'.2.2 = G.2.2) : cFl s G' k ↔ cFl s G k := by
  unfold cFl
  rw [h3, hs]
theorem kO1 {c : Nat} {v : UInt64} : (cuO σ c v).1 = σ.1 := rfl
theorem kO3 {c : Nat} {v : UInt64} : (cuO σ c v).2.2.1 = σ.2.2.1 := rfl
theorem kO2 {c : Nat} {v : UInt64} : (cuO σ c v).2.1 = σ.2.1 := rfl
theorem kO5 {c : Nat} {v : UInt64} : (cuO σ c v).2.2.2.2 = σ.2.2.2.2 := rfl
theorem kO_s {c : Nat} {v : UInt64} : (cuO σ c v).2.2.2.1 c = v := by unfold cuO; exact va_s
theorem kO_o {c e : Nat} {v : UInt64} (h : e ≠ c) : (cuO σ c v).2.2.2.1 e = σ.2.2.2.1 e := by unfold cuO; exact va_o h
theorem c_binds (hW : cW g x0 P hp) (hS : cSH g x0 P hp X fm ly kd) (hST : sST fm ly rk) (ht : t < 6) (hl : ly t = some L) (hTb : cTb g hp a t L) (hTk : cTk L) (hT : cTl l g x0 P hp nx X fm ly kd rk D L.1) (hOW : cOW fm kd σ0.2.2.2.1 ow) (hM : M + 1 + 96 * s_TL fm ly kd t ≤ 2147483647) (hS' : ∀ y, S y → y < s_nc L) (hI : cIv fm ly kd rk X t a L ow σ0 M S σ) {i j : Nat} (hi : i < L.2.2.2.1.length) (hj : j < s_my L) (hd : D + 2 ≤ d) (hd2 : 5 ≤ d) {K : zHp → Nat → Prop}
    (hK : ∀ σ', cIv fm ly kd rk X t a L ow σ0 M (fun y => S y ∨ y = s_my L * i + j) σ' → K (cput g x0 P σ' hp) nx) : zMt l g yX0_binds cX0_binds 6 none d 0 0 [.ref x0, va_rf (some a), va_rf (some (x0 + cSA t)), .int (nI i), .int (nI j)] (cput g x0 P σ hp) nx (zQv g K) := by
  obtain ⟨d, rfl⟩ := Nat.exists_eq_add_of_le' (show 1 ≤ d by omega)
  have hs7 : t < 7 := by omega
  have ws : cWd t = 64 := by unfold cWd; rw [if_pos ht]
  have hBL := hST.2.2.2.2.1 t ht L hl
  have hrk := hST.1.2.2 t ht L hl
  have hmy := hTk.my
  have hTb' := hTb
  obtain ⟨a1, r2, t1, t2, t3⟩ := hTb
  obtain ⟨b1, t4⟩ : ∃ b1, hp a1 = some (.inr (32, [.int (nI L.2.1), .ref b1])) := by obtain ⟨b1, f1, q1, -, -⟩ := t2; exact ⟨b1, q1⟩
  have hTk' := hTk
  obtain ⟨k1, k2, k3, k4, k5⟩ := hTk
  have m1 : ∀ {τ : cS} {Q : Option Nat → Prop}, zgR (cput g x0 P τ hp) (some a) [31] 2 Q = Q (some a1) := fun {τ Q} => ch_R hW t1 (k := 2) (r := some a1) rfl (by decide)
  have m2 : ∀ {τ : cS} {Q : Option Nat → Prop}, zgR (cput g x0 P τ hp) (some a) [31] 3 Q = Q r2 := fun {τ Q} => ch_R hW t1 (k := 3) (r := r2) rfl (by decide)
  have m3 : ∀ {τ : cS} {Q : Int32 → Prop}, zgI (cput g x0 P τ hp) (some a1) [32] 0 Q = Q (nI L.2.1) := fun {τ Q} => ch_I hW t4 (k := 0) rfl (by decide)
  have m5 : ∀ {τ : cS} {Q : Int32 → Prop}, zgI (cput g x0 P τ hp) (some a) [31] 1 Q = Q (nI L.1) := fun {τ Q} => ch_I hW t1 (k := 1) rfl (by decide)
  have hB0 := hW.1
  have zA : ∀ q, zB g ≤ x0 + q := fun q => by omega
  obtain ⟨v1, v2, v3, v4, v5, v6, v7, v8, v9, ⟨n, M', n1, n2, n3, n4⟩, v10⟩ := hI
  have cl : ∀ {τ : cS}, τ.2.2.2.2 = σ.2.2.2.2 → ∀ c, c < 24 → τ.2.2.2.2.2.2.1 0 c = some (P.1 c) := fun {τ} e c hc => by rw [e, v2]; exact hS.1 c hc
  have c1 : (nI L.2.1).toNatClampNeg = L.2.1 := nI_clamp (by omega)
  have i1 : vp_in (nI L.2.1) 24 := vp_in_nI k2 (by decide)
  have ci : (nI i).toNatClampNeg = i := nI_clamp (by omega)
  have ii : vp_in (nI i) 8 := vp_in_nI (by omega) (by decide)
  have cj : (nI j).toNatClampNeg = j := nI_clamp (by omega)
  have ij : vp_in (nI j) 8 := vp_in_nI (by omega) (by decide)
  obtain ⟨x, ex⟩ : ∃ x, x = s_my L * i + j := ⟨_, rfl⟩
  have hxj := cJI hi hj
  rw [← ex] at hxj hK
  have hnc := hTk'.nc
  have cx : (nI x).toNatClampNeg = x := nI_clamp (by omega)
  have ix : vp_in (nI x) (cWd t) := by rw [ws]; exact vp_in_nI (by omega) (by decide)
  have hFP : cFP kd L := ⟨v6.fo, fun o ho => (v7 o ho).fo⟩
  apply met_X0_binds
  unfold wp_X0_binds
  rw [cp_atOne]
  refine ⟨hB0, ?_⟩
  rw [cp_atOther]
  refine ⟨hB0, ?_⟩
  rw [cg_cells, m1, m3, ca_cells]
  refine ⟨i1, ?_⟩
  intro r24 e24
  rw [c1, cl (τ := cuI (cuI σ 8 (nI i)) 9 (nI j)) rfl L.2.1 k2] at e24
  subst e24
  rw [cs_ones hs7, csa_ones hs7]
  refine ⟨ii, ?_⟩
  intro x32 e32
  have e32 : x32 = s_kp (kd L.2.1) (L.2.2.2.1.getD i 0) := by rw [e32, ci]; exact v6.1 i hi
  subst e32
  rw [cc_pw hW k2, m2]
  obtain ⟨σa, ea⟩ : ∃ σa, σa = cuO (cuI (cuI σ 8 (nI i)) 9 (nI j)) L.2.1 (s_kp (kd L.2.1) (L.2.2.2.1.getD i 0)) := ⟨_, rfl⟩
  rw [← ea]
  have a8 : σa.1 8 = nI i := by rw [ea, kO1, cI_o (by decide), cI_s]
  have a9 : σa.1 9 = nI j := by rw [ea, kO1, cI_s]
  have ao : ∀ k, k ≠ 8 → k ≠ 9 → σa.1 k = σ.1 k := fun k p q => by rw [ea, kO1, cI_o q, cI_o p]
  have a2 : σa.2.1 = σ.2.1 := by rw [ea]; rfl
  have a3 : σa.2.2.1 = σ.2.2.1 := by rw [ea]; rfl
  have a5 : σa.2.2.2.2 = σ.2.2.2.2 := by rw [ea]; rfl
  have aw : σa.2.2.2.1 L.2.1 = s_kp (kd L.2.1) (L.2.2.2.1.getD i 0) := by rw [ea, kO_s]
  have aw2 : ∀ c, c ≠ L.2.1 → σa.2.2.2.1 c = σ.2.2.2.1 c := fun c q => by rw [ea, kO_o q]; rfl
  clear ea
  have hbo : s_BO (s_bi L ow i j) := s_bi_B hOW.1 hBL.1 hBL.2.1
  refine ⟨fun hp1 nx1 => ∃ σ1, σ1.1 = σa.1 ∧ σ1.2.1 = σ.2.1 ∧ σ1.2.2.1 = σ.2.2.1 ∧ σ1.2.2.2.2 = σ.2.2.2.2 ∧ cOW fm kd σ1.2.2.2.1 (s_bi L ow i j) ∧ (∀ c, c ≠ L.2.1 → L.2.2.1 ≠ some c → σ1.2.2.2.1 c = σ0.2.2.2.1 c) ∧ hp1 = cput g x0 P σ1 hp ∧ nx = nx1, ?_, fun z => ?_, fun z => ?_⟩
  · rintro hp1 nx1 ⟨σ1, b1, b2, b3, b4, b5, b6, rfl, rfl⟩
    simp only [cp_fault, cp_blamed, hB0, true_and]
    obtain ⟨σ2, e2⟩ : ∃ σ2, σ2 = cuI (cuI σ1 2 0) 3 (-1) := ⟨_, rfl⟩
    rw [← e2, ch_o hW t1 (by decide)]
    have d2 : σ2.1 2 = 0 := by rw [e2, cI_o (by decide), cI_s]
    have d3 : σ2.1 3 = -1 := by rw [e2, cI_s]
    have dd : σ2.2 = σ1.2 := by rw [e2]; rfl
    have d8 : σ2.1 8 = nI i := by rw [e2, cI_o (by decide), cI_o (by decide), b1]; exact a8
    have d9 : σ2.1 9 = nI j := by rw [e2, cI_o (by decide), cI_o (by decide), b1]; exact a9
    have do' : ∀ k, k ≠ 2 → k ≠ 3 → k ≠ 8 → k ≠ 9 → σ2.1 k = σ.1 k := fun k p q r s => by rw [e2, cI_o q, cI_o p, b1]; exact ao k r s
    have dg : σ2.2.2.1 = σ.2.2.1 := by rw [dd]; exact b3
    clear e2
    refine c_many (by omega) hW hTb' ?_
    intro x54 e54
    rw [pk_mul, nI_add, ← ex] at e54
    subst e54
    rw [cs_results hs7, m5, cz_o]
    have hall : ∀ k, cFl t (σ2.2.2.1 t) k ∨ cNw fm (cPl fm ly kd L x) L.1 k → ∃ y, y < s_nc L ∧ cNw fm (cPl fm ly kd L y) L.1 k := by
      rintro k (q | q)
      · rw [dg] at q
        obtain ⟨y, y1, y2⟩ := (v9 k).mp q
        exact ⟨y, hS' y y1, y2⟩
      · exact ⟨x, hxj.1, q⟩
    have hsw := cSW_mono (fm := fm) (ly := ly) (kd := kd) (s := t) (fun k _ => hall k)
    rw [c_TL hST ht hl hTk' hFP] at hsw
    have hfi := hFP.1.lt hi
    have hWh : cWh g hp fm ly t (cPl fm ly kd L x) σ2 := by
      refine Or.inr ⟨a, L, i, j, cFi (kd L.2.1) L.2.2.2.1 i, (match L.2.2.1 with | none => 0 | some o => cFi (kd o) L.2.2.2.2 j), ht, ?_, hTb', hTk', d8, d9, by omega, by omega, by omega, ?_, ?_, ?_, ?_⟩
      · rw [dd, b2]; exact v1
      · cases ho : L.2.2.1 with
        | none => exact (show 0 < 8 by decide)
        | some o =>
          have := (hFP.2 o ho).lt (j := j) (by rw [← cMy ho]; exact hj)
          show cFi (kd o) L.2.2.2.2 j < 8
          omega
      · rw [dg]; exact v6.fi hi
      · intro q
        rw [dg]
        cases ho : L.2.2.1 with
        | none => exact absurd ho q
        | some o => exact (v7 o ho).fi (by rw [← cMy ho]; exact hj)
      · intro c hc
        unfold cPl cPa cPb
        rw [hxj.2.1, hxj.2.2]
        cases ho : L.2.2.1 with
        | none => rfl
        | some o => rfl
    refine hT d t (s_nc L) x M' (cPl fm ly kd L) (fun x => s_bi L ow (x / s_my L) (x % s_my L)) σ2 _ (by omega) ⟨hxj.1, c_Cx hST ht hl hTk' hFP, hWh, ?_, by rw [dd, b4]; exact v2, by rw [dg]; exact v8, ?_⟩ (Or.inr (by omega)) ?_ (fun v σ3 hPo hRs => ?_)
    · show cOW fm kd σ2.2.2.2.1 (s_bi L ow (x / s_my L) (x % s_my L))
      rw [hxj.2.1, hxj.2.2, dd]; exact b5
    · unfold cSt; rw [dg]; exact n3
    · unfold cBg
      rw [dg] at hsw ⊢
      omega
    have hRs : cRs σ2 (s_EV fm ly kd (s_bi L ow (x / s_my L) (x % s_my L)) L.1) v σ3 := hRs
    obtain ⟨r, er⟩ : ∃ r, r = s_EV fm ly kd (s_bi L ow (x / s_my L) (x % s_my L)) L.1 := ⟨_, rfl⟩
    have hE : s_Ec r := by rw [er]; exact s_EV_E hST.1 hST.2.1 hST.2.2.1 _ L.1 (Nat.lt_succ_self _) k1 _
    rw [← er] at hRs
    obtain ⟨p1, p2, p3, n', M2, p4, p5, p6, p7⟩ := hPo
    have e23 : σ3.1 2 = r.2.1 ∧ σ3.1 3 = r.2.2 ∧ (r.2.1 = 0 → v = r.1) := by
      by_cases z : r.2.1 = 0
      · obtain ⟨y1, y2, y3⟩ := (hRs.2.2 d2).1 z
        exact ⟨y2.trans z.symm, by rw [y3, d3, hE.z z], fun _ => y1⟩
      · exact ⟨((hRs.2.2 d2).2 z).1, ((hRs.2.2 d2).2 z).2, fun y => absurd y z⟩
    have hb1 : vp_nar .byte (σ3.1 2).toInt8.toInt32 = r.2.1 := by rw [e23.1]; exact hE.b1
    have hb2 : vp_nar .byte (σ3.1 3).toInt8.toInt32 = r.2.2 := by rw [e23.2.1]; exact hE.b2
    simp only [csa_results hs7, cx, ix, zA, true_and, forall_eq, csu_results hs7, cs_errors hs7, csa_errors hs7, csu_errors hs7, cs_blameds hs7, csa_blameds hs7, csu_blameds hs7, cg_fault, cg_blamed, kGI1, kGD1, hb1, hb2]
    have fin : ∀ σ4 : cS, σ4.1 = σ3.1 → σ4.2.1 = σ3.2.1 → σ4.2.2.2 = σ3.2.2.2 → (∀ q, q ≠ t → σ4.2.2.1 q = σ3.2.2.1 q) → (∀ k, k ≠ 6 → k ≠ 7 → (σ4.2.2.1 t).1 k = (σ3.2.2.1 t).1 k) → (∀ k, k ≠ 2 → (σ4.2.2.1 t).2.1 k = (σ3.2.2.1 t).2.1 k) → (σ4.2.2.1 t).2.2 = (σ3.2.2.1 t).2.2 → (σ4.2.2.1 t).1 6 = va_up ((σ3.2.2.1 t).1 6) x r.2.1 → (σ4.2.2.1 t).1 7 = va_up ((σ3.2.2.1 t).1 7) x r.2.2 → (σ4.2.2.1 t).2.1 2 = va_up ((σ3.2.2.1 t).2.1 2) x v → K (cput g x0 P σ4 hp) nx := by
      intro σ4 f1 f2 f3 f4 f5 f6 f7 f8 f9 f10
      have g6 : (σ3.2.2.1 t).1 6 = (σ.2.2.1 t).1 6 := by rw [p1.2.2.2.2.1 6 (by decide) (by decide) (by decide), dg]
      have g7 : (σ3.2.2.1 t).1 7 = (σ.2.2.1 t).1 7 := by rw [p1.2.2.2.2.1 7 (by decide) (by decide) (by decide), dg]
      have g2 : (σ3.2.2.1 t).2.1 2 = (σ.2.2.1 t).2.1 2 := by rw [p1.2.2.2.2.2.1 2 (by decide), dg]
      have hfl : ∀ k, cFl t (σ4.2.2.1 t) k ↔ cFl t (σ3.2.2.1 t) k := fun k => cFl.cg (f5 3 (by decide) (by decide)) f7
      have esw : cSW fm ly kd t (cFl t (σ4.2.2.1 t)) = cSW fm ly kd t (cFl t (σ3.2.2.1 t)) := cSW_congr (fun k _ => hfl k)
      refine hK σ4 ⟨?_, ?_, ?_, ?_, ?_, ?_, ?_, ?_, fun k => ?_, ⟨n + n', M2, ?_, ?_, ?_, ?_⟩, fun k hk => ?_⟩
      · rw [f2, p1.2.1, dd, b2]; exact v1
      · rw [f3, p1.1, dd, b4]; exact v2
      · intro c q1 q2; rw [f3, p1.1, dd]; exact b6 c q1 q2
      · intro k q1 q2 q3 q4 q5; rw [f1, p1.2.2.1 k q1 q2 q5, do' k q1 q2 q3 q4]; exact v4 k q1 q2 q3 q4 q5
      · intro q q1 q2 q3; rw [f4 q q2, p1.2.2.2.1 q q1 q2 (q3.imp id (fun z => by omega)), dg]; exact v5 q q1 q2 q3
      · rw [f5 10 (by decide) (by decide), f6 8 (by decide), p1.2.2.2.2.1 10 (by decide) (by decide) (by decide), p1.2.2.2.2.2.1 8 (by decide), dg]; exact v6
      · intro b hb; rw [f5 11 (by decide) (by decide), f6 9 (by decide), p1.2.2.2.2.1 11 (by decide) (by decide) (by decide), p1.2.2.2.2.2.1 9 (by decide), dg]; exact v7 b hb
      · exact p2.cg (f5 3 (by decide) (by decide)) (f5 4 (by decide) (by decide)) (f5 5 (by decide) (by decide)) (f6 1 (by decide)) f7
      · rw [hfl k, p3 k, dg, v9 k]
        constructor
        · rintro (⟨y, y1, y2⟩ | z)
          · exact ⟨y, Or.inl y1, y2⟩
          · exact ⟨x, Or.inr rfl, z⟩
        · rintro ⟨y, y1 | y1, y2⟩
          · exact Or.inl ⟨y, y1, y2⟩
          · rw [y1] at y2; exact Or.inr y2
      · rw [f1, p4, do' 10 (by decide) (by decide) (by decide) (by decide), n1, Int32.add_assoc, nI_add]
      · rw [dg] at p5; rw [esw]; omega
      · intro q hq
        by_cases e : q = t
        · subst e
          rw [f5 3 (by decide) (by decide), f7]; exact p6 q hq
        · rw [f4 q e]; exact p6 q hq
      · rw [dg] at p7 p5; omega
      · unfold cRk
        rw [f8, f9, f10]
        by_cases e : k = x
        · subst e
          rw [va_s, va_s, va_s, ← er]
          exact ⟨rfl, hRs.1, e23.2.2, rfl⟩
        · rw [va_o e, va_o e, va_o e, g6, g7, g2]
          exact v10 k (hk.resolve_right e)
    refine fin _ rfl rfl rfl (fun q z => ?_) (fun k z1 z2 => ?_) (fun k z1 => ?_) ?_ ?_ ?_ ?_
    · simp only [cGI_o z, cGD_o z]
    · simp only [kGIj z1, kGIj z2, cGD_1]
    · simp only [cGI_2, kGDj z1]
    · simp only [cGI_2, cGD_3]
    · simp only [kGIj (show 6 ≠ 7 by decide), cGI_s, cGD_1]
    · simp only [kGIj (show 7 ≠ 6 by decide), cGI_s, cGD_1]
    · simp only [cGI_2, cGD_s]
  · have ho : L.2.2.1 = none := by
      rcases t3 with q | ⟨b, a2, -, q, -⟩
      · exact q.1
      · rw [z] at q; cases q
    refine ⟨σa, rfl, a2, a3, a5, ⟨hbo, fun c hc hf => ?_⟩, fun c q1 q2 => by rw [aw2 c q1]; exact v3 c q1 q2, rfl, rfl⟩
    unfold s_bi
    by_cases e : c = L.2.1
    · rw [if_pos e, e, aw]
      exact Or.inr ⟨_, rfl, rfl, s_BgetD hBL.1 i⟩
    · rw [if_neg e, if_neg (by rw [ho]; exact fun q => by cases q), aw2 c e, v3 c e (by rw [ho]; exact fun q => by cases q)]
      exact hOW.2 c hc hf
  · rcases t3 with q | ⟨b, a2', q1, q2, q3⟩
    · exact absurd q.2 z
    subst q2
    obtain ⟨b2, t5⟩ : ∃ b1, hp a2' = some (.inr (32, [.int (nI b), .ref b1])) := by obtain ⟨b1, f1, q1, -, -⟩ := q3; exact ⟨b1, q1⟩
    obtain ⟨w1, w2, w3, w4⟩ := k5 b q1
    have m4 : ∀ {τ : cS} {Q : Int32 → Prop}, zgI (cput g x0 P τ hp) (some a2') [32] 0 Q = Q (nI b) := fun {τ Q} => ch_I hW t5 (k := 0) rfl (by decide)
    have c2 : (nI b).toNatClampNeg = b := nI_clamp (by omega)
    have i2 : vp_in (nI b) 24 := vp_in_nI w1 (by decide)
    have hv : (σa.2.2.1 t).2.1 9 j = s_kp (kd b) (L.2.2.2.2.getD j 0) := by rw [a3]; exact (v7 b q1).1 j (by rw [← cMy q1]; exact hj)
    simp only [cg_cells, m2, m4, ca_cells, c2, i2, true_and, forall_eq, cl a5 b w1, cs_others hs7, csa_others hs7, cj, ij, hv, cc_pw hW w1]
    refine ⟨cuO σa b (s_kp (kd b) (L.2.2.2.2.getD j 0)), rfl, a2, a3, a5, ⟨hbo, fun c hc hf => ?_⟩, fun c z1 z2 => ?_, rfl, trivial⟩
    · unfold s_bi
      by_cases e : c = L.2.1
      · rw [if_pos e, kO_o (by rw [e]; exact fun q => w2 q.symm), e, aw]
        exact Or.inr ⟨_, rfl, rfl, s_BgetD hBL.1 i⟩
      · rw [if_neg e]
        by_cases e2 : c = b
        · rw [if_pos (by rw [e2]; exact q1), e2, kO_s]
          exact Or.inr ⟨_, rfl, rfl, s_BgetD hBL.2.1 j⟩
        · rw [if_neg (by rw [q1]; exact fun q => e2 (Option.some.inj q).symm), kO_o e2, aw2 c e, v3 c e (by rw [q1]; exact fun q => e2 (Option.some.inj q).symm)]
          exact hOW.2 c hc hf
    · rw [kO_o (fun q => z2 (by rw [q]; exact q1)), aw2 c z1]
      exact v3 c z1 z2
end RN
