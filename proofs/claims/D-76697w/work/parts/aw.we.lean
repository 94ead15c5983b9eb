set_option maxRecDepth 100000
/-! burdens -/
section WE
variable {l : Launch} {g : zG} {d x0 : Nat} {P : cP} {σ σ' σ1 σ2 : cS} {hp hp1 : zHp} {nx : Nat} {fm : sF} {ly : sY} {kd : Nat → Int32} {rk : Nat → Nat} {X : cX} {c : Nat}
theorem s_BU_lo (hr : s_rk fm ly rk) (hm : s_mo fm) (hb : ∀ x, x < 30 → rk x < 30) (hc : c < 24) : s_BU fm ly c = s_sm (fun k => s_if (s_RE fm c k) (s_lo fm ly k) 0) 24 := by
  rw [s_BU_st hr hm hb hc]
  unfold s_bs
  refine s_sm_congr (fun k _ => ?_)
  unfold s_lo
  by_cases h1 : s_RE fm c k
  · by_cases h2 : fm k = []
    · rw [s_if_n (fun z => z.2 h2), s_if_p h1, if_pos h2]
    · rw [s_if_p ⟨h1, h2⟩, s_if_p h1, if_neg h2]
  · rw [s_if_n (fun z => h1 z.1), s_if_n h1]
theorem s_sm_gap {f : Nat → Nat} {i : Nat} : ∀ {k : Nat}, i ≤ k → (∀ q, i ≤ q → q < k → f q = 0) → s_sm f k = s_sm f i := by
  intro k h1 h2
  obtain ⟨r, rfl⟩ := Nat.exists_eq_add_of_le h1
  rw [s_sm_adn, s_sm_congr (f := fun j => f (i + j)) (h := fun _ => 0) (fun j hj => h2 (i + j) (by omega) (by omega)), s_sm_zero, Nat.add_zero]
theorem c_burdenOf (hr : s_rk fm ly rk) (hm : s_mo fm) (hb : ∀ x, x < 30 → rk x < 30) (hc : c < 24) (hB : cBs (σ.2.2.2.2.2.2.2.1 c) (s_RE fm c)) (hL : ∀ e, e < 24 → s_RE fm c e → σ.2.2.2.2.1 14 e = nI (s_lo fm ly e)) (hd : 4 ≤ d) {K : Int32 → zHp → Nat → Prop} (hK : K (nI (s_BU fm ly c)) (cput g x0 P σ hp) nx) : zMt l g yX0_burdenOf cX0_burdenOf 4 (some .int) d 0 0 [.ref x0, va_rf (some (x0 + cBA c))] (cput g x0 P σ hp) nx (zQi g K) := by
  obtain ⟨d, rfl⟩ := Nat.exists_eq_add_of_le' (show 1 ≤ d by omega)
  have h24 : ∀ x, s_RE fm c x → x < 24 := fun x h => s_RE_lt hr hb hc h
  rw [s_BU_lo hr hm hb hc] at hK
  obtain ⟨f, ef⟩ : ∃ f : Nat → Nat, f = fun k => s_if (s_RE fm c k) (s_lo fm ly k) 0 := ⟨_, rfl⟩
  have f0 : ∀ q, ¬ s_RE fm c q → f q = 0 := fun q h => by rw [ef]; exact s_if_n h
  have f1 : ∀ q, s_RE fm c q → f q = s_lo fm ly q := fun q h => by rw [ef]; exact s_if_p h
  rw [← ef] at hK
  apply met_X0_burdenOf
  unfold wp_X0_burdenOf
  rw [hz_o (cput_b (by omega)) (by decide)]
  have st : ∀ i, i ≤ 24 → ∀ PP : Int32 → zHp → Nat → Prop, (∀ x, ((∃ k, i ≤ k ∧ k < 24 ∧ s_RE fm c k ∧ x = nI k ∧ s_sm f k = s_sm f i) ∨ (x = -1 ∧ s_sm f 24 = s_sm f i)) → PP x (cput g x0 P σ hp) nx) → zMt l g yJ0_nextSetBit cJ0_nextSetBit 5 (some .int) d 0 0 [.ref (x0 + cBA c), .int (nI i)] (cput g x0 P σ hp) nx (zQi g PP) := by
    intro i hi PP hx
    exact c_bnext (by omega) hB h24 hi (by omega) (fun k k1 k2 k3 k4 => hx _ (Or.inl ⟨k, k1, k2, k3, rfl, s_sm_gap k1 (fun q a b => f0 q (k4 q a b))⟩)) (fun z => hx _ (Or.inr ⟨rfl, s_sm_gap hi (fun q a b => f0 q (z q a b))⟩))
  refine st 0 (by omega) _ (fun x hx => ?_)
  refine ⟨fun n s y hp1 nx1 => ((∃ k, n = 25 - k ∧ k < 24 ∧ s_RE fm c k ∧ y = nI k ∧ s = nI (s_sm f k)) ∨ (n = 0 ∧ y = -1 ∧ s = nI (s_sm f 24))) ∧ hp1 = cput g x0 P σ hp ∧ nx = nx1, ?_, ?_⟩
  · rcases hx with ⟨k, -, k2, k3, rfl, k5⟩ | ⟨rfl, k5⟩
    · exact ⟨25 - k, Or.inl ⟨k, rfl, k2, k3, rfl, by rw [k5]; rfl⟩, rfl, rfl⟩
    · exact ⟨0, Or.inr ⟨rfl, rfl, by rw [k5]; rfl⟩, rfl, rfl⟩
  rintro n s y hp1 nx1 ⟨hy, rfl, rfl⟩
  rcases hy with ⟨k, rfl, k2, k3, rfl, rfl⟩ | ⟨rfl, rfl, rfl⟩
  · refine ⟨fun z => absurd z (nI_pos (by omega)), fun _ => ?_⟩
    rw [cg_loads, ca_loads]
    refine ⟨vp_in_nI k2 (by decide), ?_⟩
    intro x16 e16
    rw [nI_clamp (by omega), hL k k2 k3] at e16
    subst e16
    rintro x17 rfl
    rw [hz_o (cput_b (by omega)) (by decide), nI_1, nI_add, ← f1 k k3]
    refine st (k + 1) (by omega) _ (fun x hx => ?_)
    have e1 : s_sm f (k + 1) = s_sm f k + f k := rfl
    rcases hx with ⟨k', j1, j2, j3, rfl, j5⟩ | ⟨rfl, j5⟩
    · exact ⟨25 - k', by omega, Or.inl ⟨k', rfl, j2, j3, rfl, by rw [j5, e1]⟩, rfl, rfl⟩
    · exact ⟨0, by omega, Or.inr ⟨rfl, rfl, by rw [j5, e1]⟩, rfl, rfl⟩
  · exact ⟨fun _ => hK, fun z => absurd (by decide) z⟩
/-- it's weighed -/
def cWg (X : cX) (fm : sF) (ly : sY) (n : Nat) : Prop := (n < 24 → cKc X fm ly n ∧ X.1 14 n = nI (s_lo fm ly n) ∧ X.1 13 n = nI (s_BU fm ly n) ∧ s_BU fm ly n ≤ 2000) ∧ (24 ≤ n → cKt X fm ly (n - 24) ∧ s_tb fm ly (n - 24) ≤ 2000)
/-- what weighing leaves alone -/
def cFw (σ σ' : cS) : Prop := σ'.1 = σ.1 ∧ σ'.2.1 = σ.2.1 ∧ σ'.2.2.1 = σ.2.2.1 ∧ σ'.2.2.2.1 = σ.2.2.2.1 ∧ (∀ k, k ≠ 13 → k ≠ 14 → k ≠ 15 → σ'.2.2.2.2.1 k = σ.2.2.2.2.1 k) ∧ σ'.2.2.2.2.2.1 = σ.2.2.2.2.2.1 ∧ σ'.2.2.2.2.2.2.1 = σ.2.2.2.2.2.2.1 ∧ σ'.2.2.2.2.2.2.2.2 = σ.2.2.2.2.2.2.2.2
theorem s_lo_le (hM : sMr fm) (hc : c < 24) (ht : ∀ m ∈ fm c, 300 ≤ m.1 → s_tb fm ly (m.1 % 10) ≤ 2000) : s_lo fm ly c ≤ 192001 := by
  unfold s_lo
  split
  · exact Nat.zero_le _
  · rw [s_ld_a]
    have hl := Nat.le_trans (s_at_len (ms := fm c)) (hM.2 c hc)
    have : ∀ (ts : List Nat), (∀ t ∈ ts, s_tb fm ly t ≤ 2000) → (ts.map (s_tb fm ly)).sum ≤ 2000 * ts.length := by
      intro ts
      induction ts with
      | nil => intro _; exact Nat.le_refl _
      | cons t ts ih =>
        intro h
        rw [List.map_cons, List.sum_cons, List.length_cons]
        have a := h t (List.mem_cons_self ..)
        have b := ih (fun q hq => h q (List.mem_cons_of_mem _ hq))
        omega
    have := this (s_at (fm c)) (fun t h => by obtain ⟨m, m1, m2, m3⟩ := s_at_in.mp h; rw [← m3]; exact ht m m1 m2)
    omega
theorem x_throw {q : Nat} {K : Nat → zHp → Nat → Prop} (_ : True) : True := trivial
theorem c_weighs {m : Nat} {ds : List Nat} (hW : cW g x0 P hp) (hS : cS0 g x0 P hp σ.2.2.2.2 fm ly kd) (hM : sMr fm) (hr : s_rk fm ly rk) (hb : ∀ x, x < 30 → rk x < 30) (hk : cBk σ.2.2.2.2) (hm : m < 30) (hmd : ¬ m ∈ ds) (hds : ∀ q ∈ ds, q < 30 ∧ cWg σ.2.2.2.2 fm ly q) (hcl : ∀ n ∈ ds, ∀ q, q < 30 → sNm fm ly n q → q ∈ ds) (hnm : ∀ q, q < 30 → sNm fm ly m q → q ∈ ds) (hd : 10 ≤ d) {K : zHp → Nat → Prop} {KX : Nat → zHp → Nat → Prop}
    (hK : ∀ σ' hp' nx', cFw σ σ' → cBk σ'.2.2.2.2 → (∀ q ∈ ds ++ [m], cWg σ'.2.2.2.2 fm ly q) → cW g x0 P hp' → hLe hp hp' → nx ≤ nx' → K (cput g x0 P σ' hp') nx') (hX : ∀ q fs σ' hp' nx', s_tm fm ly → cFw σ σ' → cBk σ'.2.2.2.2 → cW g x0 P hp' → hLe hp hp' → nx ≤ nx' → hp' q = some (.inr (4, fs)) → fs[6]? = some (.int (-4)) → KX q (cput g x0 P σ' hp') nx') : zMx l g yX0_weighs cX0_weighs 4 none d 2 12 [.ref x0, .int (nI m)] (cput g x0 P σ hp) nx (zQv g K) "WhatIfSheet$Refused" KX := by
  obtain ⟨d, rfl⟩ := Nat.exists_eq_add_of_le' (show 1 ≤ d by omega)
  have zA : ∀ q, zB g ≤ x0 + q := fun q => by have := hW.1; omega
  apply met_X0_weighs
  unfold wp_X0_weighs
  refine ⟨fun x hp1 nx1 kc ks => ∃ v σ1 hpx, x = nI v ∧ v < 2 ^ 31 ∧ hp1 = cput g x0 P σ1 hpx ∧ nx ≤ nx1 ∧ kc ≤ 1 ∧ ks ≤ 5 ∧ cFw σ σ1 ∧ cBk σ1.2.2.2.2 ∧ cW g x0 P hpx ∧ hLe hp hpx ∧ (v ≤ 2000 → ∀ q ∈ ds ++ [m], cWg σ1.2.2.2.2 fm ly q) ∧ (2000 < v → s_tm fm ly), ?_, ?_⟩
  · rintro x hp1 nx1 kc ks ⟨v, σ1, hpx, rfl, hv, rfl, hnx, hkc, hks, h1, h2, h3, h4, h5, h6⟩
    refine pk_le v 2000 (fun z => ⟨by omega, by omega, hK σ1 hpx nx1 h1 h2 (h5 z) h3 h4 hnx⟩) (fun z => ?_)
    refine ⟨by omega, by rw [zNn_4]; omega, fun hf hz => ?_⟩
    rintro nx7 kc8 ks9 rfl rfl rfl
    obtain ⟨fr1, fr2⟩ := c_fresh h3 hf
    refine ⟨0, 0, by omega, by rw [zNn_4]; omega, ?_⟩
    refine x_refused va_s zNf_4 hz (by omega) (fun fs' hl' h6' => ?_)
    rw [cva_uu, cput_hq fr1]
    have hW' := cW_hq (v := some (.inr (4, fs'))) fr1 h3
    rw [ch_o hW' (a := nx1) (ci := 4) (fs := fs') va_s (by decide)]
    exact ⟨by omega, by rw [zNn_4]; omega, hX nx1 fs' σ1 _ (nx1 + 1) (h6 z) h1 h2 hW' (h4.tr (hLe.up fr2)) (by omega) va_s h6'⟩
  · refine pk_le 24 m (fun m24 => ?_) (fun m24 => ?_)
    · -- a table
      have e24 : nI m - (24 : Int32) = nI (m - 24) := pk_sub (b := 24) m24
      have i24 : vp_in (nI (m - 24)) 6 := vp_in_nI (by omega) (by decide)
      have c24 : (nI (m - 24)).toNatClampNeg = m - 24 := nI_clamp (by omega)
      rw [cg_tables, ca_tables, e24]
      refine ⟨i24, ?_⟩
      intro r27 e27
      rw [c24] at e27
      have hLy := hS.2.2.2 (m - 24) (by omega)
      refine ⟨fun r x hp1 nx1 kc ks => x = nI (s_tb fm ly (m - 24)) ∧ s_tb fm ly (m - 24) ≤ 128000 ∧ (2000 < s_tb fm ly (m - 24) → s_tm fm ly) ∧ hp1 = cput g x0 P σ hp ∧ nx = nx1 ∧ kc = 0 ∧ ks = 0, ?_, fun z => ?_, fun z => ?_⟩
      · rintro r x hp1 nx1 kc ks ⟨rfl, hv, htm, rfl, rfl, rfl, rfl⟩
        rw [cg_tableBurdens, ca_tableBurdens]
        refine ⟨i24, zA _, ?_⟩
        intro hp41 e41
        rw [c24, cu_tableBurdens] at e41
        subst e41
        refine ⟨_, _, hp, rfl, by omega, rfl, Nat.le_refl _, by decide, by decide, ⟨rfl, rfl, rfl, rfl, fun k _ _ a => kA_o a, rfl, rfl, rfl⟩, hk, hW, hLe.rf, fun z q hq => ?_, htm⟩
        rcases List.mem_append.mp hq with hq | hq
        · obtain ⟨q30, w1, w2⟩ := hds q hq
          refine ⟨fun q24 => ?_, fun q24 => ?_⟩
          · obtain ⟨a1, a2, a3, a4⟩ := w1 q24
            exact ⟨a1, by rw [show (cuA σ 15 (va_up (σ.2.2.2.2.1 15) (m - 24) (nI (s_tb fm ly (m - 24))))).2.2.2.2.1 14 = σ.2.2.2.2.1 14 from kA_o (by decide)]; exact a2, by rw [show (cuA σ 15 (va_up (σ.2.2.2.2.1 15) (m - 24) (nI (s_tb fm ly (m - 24))))).2.2.2.2.1 13 = σ.2.2.2.2.1 13 from kA_o (by decide)]; exact a3, a4⟩
          · obtain ⟨a1, a2⟩ := w2 q24
            refine ⟨?_, a2⟩
            unfold cKt at a1 ⊢
            rw [show (cuA σ 15 (va_up (σ.2.2.2.2.1 15) (m - 24) (nI (s_tb fm ly (m - 24))))).2.2.2.2.1 15 = _ from kA_s, va_o (fun e => hmd (by rw [show m = q by omega]; exact hq))]
            exact a1
        · rw [List.mem_singleton] at hq
          subst hq
          refine ⟨fun q24 => by omega, fun _ => ⟨?_, z⟩⟩
          unfold cKt
          rw [show (cuA σ 15 (va_up (σ.2.2.2.2.1 15) (q - 24) (nI (s_tb fm ly (q - 24))))).2.2.2.2.1 15 = _ from kA_s, va_s]
      · have hl : ly (m - 24) = none := by
          rcases hLy with ⟨y3, -⟩ | ⟨a', L, -, y3, -⟩
          · exact y3
          · rw [z] at e27; have := e27.trans y3; cases this
        rw [s_tb_n hl]
        exact ⟨rfl, by decide, fun w => by omega, rfl, rfl, rfl, rfl⟩
      · obtain ⟨a', L, hl, ea, hTb, hTk⟩ : ∃ a107 L, ly (m - 24) = some L ∧ r27 = some a107 ∧ cTb g hp a107 (m - 24) L ∧ cTk L := by
          rcases hLy with ⟨-, y3⟩ | ⟨a', L, y3, y4, y5, y6⟩
          · exact absurd (e27.trans y3) z
          · exact ⟨a', L, y3, e27.trans y4, y5, y6⟩
        subst ea
        have hLd : L.1 ∈ ds := hnm L.1 (by have := hTk.1; omega) (by unfold sNm; rw [if_neg (by omega)]; exact ⟨L, hl, rfl⟩)
        obtain ⟨-, w1, -⟩ := hds L.1 hLd
        obtain ⟨-, -, a3, a4⟩ := w1 hTk.1
        have hTb' := hTb
        obtain ⟨a1, r2, u1, -⟩ := hTb'
        have h24 := hTk.1
        rw [cg_burdens, ch_I hW u1 (k := 1) (x := nI L.1) rfl (by decide), ca_burdens]
        refine ⟨vp_in_nI hTk.1 (by decide), ?_⟩
        intro x53 e53
        rw [nI_clamp (by omega), a3] at e53
        subst e53
        refine ⟨by decide, by decide, ?_⟩
        rw [ch_o hW u1 (by decide)]
        refine c_cases (by omega) hW hTb ?_
        have hnc := hTk.nc
        rw [pk_mul, ← s_tb_s hl]
        refine ⟨rfl, ?_, fun w => Or.inr ⟨m - 24, by omega, L, hl, by rw [s_tb_s hl] at w; exact w⟩, rfl, rfl, rfl, rfl⟩
        rw [s_tb_s hl]
        exact Nat.le_trans (Nat.mul_le_mul a4 hnc.2) (by decide)
    · -- a cell
      have cm : (nI m).toNatClampNeg = m := nI_clamp (by omega)
      have im : vp_in (nI m) 24 := vp_in_nI m24 (by decide)
      have nmc : ∀ k ∈ fm m, k.1 < 24 → k.1 ∈ ds := fun k hk2 h24 => hnm k.1 (by omega) (by unfold sNm; rw [if_pos m24, if_pos h24]; exact ⟨k, hk2, rfl⟩)
      have nmt : ∀ k ∈ fm m, 300 ≤ k.1 → ∀ L, ly (k.1 % 10) = some L → 24 + k.1 % 10 ∈ ds := fun k hk2 h3 L hl => by
        have h6 := hM.1 m m24 k hk2 h3
        refine hnm _ (by omega) ?_
        unfold sNm
        rw [if_pos m24, if_neg (by omega), show 24 + k.1 % 10 - 24 = k.1 % 10 by omega]
        exact ⟨by rw [hl]; exact fun z => (by cases z), s_at_in.mpr ⟨k, hk2, h3, rfl⟩⟩
      have hT24 : ∀ t, t < 6 → ∀ L, ly t = some L → L.1 < 24 := fun t ht L hl => by
        rcases hS.2.2.2 t ht with ⟨y3, -⟩ | ⟨a', L', y3, -, -, y6⟩
        · rw [hl] at y3; cases y3
        · rw [hl] at y3; cases y3; exact y6.1
      refine ⟨1, 5, by decide, by decide, ?_⟩
      rw [cz_o]
      refine c_reads hW hS hM hr hb m24 hk (fun k hk2 h24 => ((hds k.1 (nmc k hk2 h24)).2.1 h24).1) (fun k hk2 h3 L hl => ?_) (by omega) (fun σ1 hp1 nx1 f1 f2 f3 f4 f5 f6 f7 => ?_)
      · have h6 := hM.1 m m24 k hk2 h3
        have htd := nmt k hk2 h3 L hl
        have w2 := (hds _ htd).2.2 (by omega)
        rw [show 24 + k.1 % 10 - 24 = k.1 % 10 by omega] at w2
        have hL24 := hT24 _ h6 L hl
        have hLd : L.1 ∈ ds := hcl _ htd L.1 (by omega) (by unfold sNm; rw [if_neg (by omega), show 24 + k.1 % 10 - 24 = k.1 % 10 by omega]; exact ⟨L, hl, rfl⟩)
        exact ⟨w2.1, ((hds _ hLd).2.1 hL24).1, fun e => hmd (by rw [← e]; exact hLd)⟩
      · rw [cg_reached, ca_reached]
        refine ⟨im, ?_⟩
        intro r71 e71
        rw [cm] at e71
        subst e71
        refine ⟨by decide, by decide, ?_⟩
        rw [cz_o]
        have hre : ∀ e, s_RE fm m e → e = m ∨ e ∈ ds := by
          intro e he
          rcases (s_RE_st hr hb m24 e).mp he with h | ⟨k, k1, k2, k3⟩
          · exact Or.inl h
          · refine Or.inr (s_RE_ind hr hb (P := fun q => q < 24 ∧ q ∈ ds) (fun q hq hP k' hk' h24 => ⟨h24, hcl q hP.2 k'.1 (by omega) (by unfold sNm; rw [if_pos hq, if_pos h24]; exact ⟨k', hk', rfl⟩)⟩) _ k.1 (Nat.lt_succ_self _) k2 ⟨k2, nmc k k1 k2⟩ e k3).2
        have hlo : ∀ e, e < 24 → s_RE fm m e → σ1.2.2.2.2.1 14 e = nI (s_lo fm ly e) := by
          intro e he1 he2
          rcases hre e he2 with rfl | h
          · exact f4
          · rw [f1.2.2.2.2.2.1 e (fun z => hmd (by rw [← z]; exact h))]
            exact ((hds e h).2.1 he1).2.1
        have hbnd : s_BU fm ly m ≤ 24 * 192001 := by
          rw [s_BU_lo hr hM.1 hb m24]
          refine Nat.le_trans (s_sm_le (h := fun _ => 192001) (fun k hk3 => ?_)) ?_
          · by_cases z : s_RE fm m k
            · rw [s_if_p z]
              refine s_lo_le hM hk3 (fun k' hk' h3 => ?_)
              cases hl : ly (k'.1 % 10) with
              | none => rw [s_tb_n hl]; exact Nat.zero_le _
              | some L =>
                have h6 := hM.1 k hk3 k' hk' h3
                have htd : 24 + k'.1 % 10 ∈ ds := by
                  rcases hre k z with rfl | h
                  · exact nmt k' hk' h3 L hl
                  · refine hcl k h _ (by omega) ?_
                    unfold sNm
                    rw [if_pos hk3, if_neg (by omega), show 24 + k'.1 % 10 - 24 = k'.1 % 10 by omega]
                    exact ⟨by rw [hl]; exact fun z => (by cases z), s_at_in.mpr ⟨k', hk', h3, rfl⟩⟩
                have w2 := (hds _ htd).2.2 (by omega)
                rw [show 24 + k'.1 % 10 - 24 = k'.1 % 10 by omega] at w2
                exact w2.2
            · rw [s_if_n z]; exact Nat.zero_le _
          · decide
        refine c_burdenOf hr hM.1 hb m24 f3.1 hlo (by omega) ?_
        rw [cg_burdens, ca_burdens]
        refine ⟨im, zA _, ?_⟩
        intro hp82 e82
        rw [cm, cu_burdens] at e82
        subst e82
        refine ⟨_, _, hp1, rfl, by omega, rfl, f7, by decide, by decide, ⟨f1.1, f1.2.1, f1.2.2.1, f1.2.2.2.1, fun k a b _ => ?_, f1.2.2.2.2.2.2.1, f1.2.2.2.2.2.2.2.1, f1.2.2.2.2.2.2.2.2.2⟩, f2, f5, f6, fun z q hq => ?_, fun z => Or.inl ⟨m, m24, z⟩⟩
        · rw [kA_o a]; exact f1.2.2.2.2.1 k b
        · have a14 : (cuA σ1 13 (va_up (σ1.2.2.2.2.1 13) m (nI (s_BU fm ly m)))).2.2.2.2.1 14 = σ1.2.2.2.2.1 14 := kA_o (by decide)
          have a15 : (cuA σ1 13 (va_up (σ1.2.2.2.2.1 13) m (nI (s_BU fm ly m)))).2.2.2.2.1 15 = σ1.2.2.2.2.1 15 := kA_o (by decide)
          have a13 : (cuA σ1 13 (va_up (σ1.2.2.2.2.1 13) m (nI (s_BU fm ly m)))).2.2.2.2.1 13 = va_up (σ1.2.2.2.2.1 13) m (nI (s_BU fm ly m)) := kA_s
          rcases List.mem_append.mp hq with hq | hq
          · have hne : q ≠ m := fun e => hmd (by rw [← e]; exact hq)
            obtain ⟨q30, w1, w2⟩ := hds q hq
            refine ⟨fun q24 => ?_, fun q24 => ?_⟩
            · obtain ⟨⟨b1, b2⟩, a2, a3, a4⟩ := w1 q24
              refine ⟨⟨?_, ?_⟩, ?_, ?_, a4⟩
              · show cBs (σ1.2.2.2.2.2.2.2.1 q) _
                rw [f1.2.2.2.2.2.2.2.2.1 q hne (by omega) (by omega)]; exact b1
              · show cBs (σ1.2.2.2.2.2.2.2.1 (24 + q)) _
                rw [f1.2.2.2.2.2.2.2.2.1 (24 + q) (by omega) (by omega) (by omega)]; exact b2
              · rw [a14, f1.2.2.2.2.2.1 q hne]; exact a2
              · rw [a13, va_o hne, f1.2.2.2.2.1 13 (by decide)]; exact a3
            · obtain ⟨b1, b2⟩ := w2 q24
              refine ⟨?_, b2⟩
              unfold cKt at b1 ⊢
              rw [a15, f1.2.2.2.2.1 15 (by decide)]; exact b1
          · rw [List.mem_singleton] at hq
            subst hq
            exact ⟨fun _ => ⟨f3, by rw [a14]; exact f4, by rw [a13, va_s], z⟩, fun q24 => by omega⟩
end WE
