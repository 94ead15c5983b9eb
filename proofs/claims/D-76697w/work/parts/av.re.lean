set_option maxRecDepth 100000
/-! what a cell reaches, reads, its load -/
section RE
variable {l : Launch} {g : zG} {d x0 : Nat} {P : cP} {σ σ' σ1 σ2 : cS} {hp hp1 : zHp} {nx : Nat} {fm : sF} {ly : sY} {kd : Nat → Int32} {rk : Nat → Nat} {X : cX} {c : Nat}
/-- the burden of a table -/
noncomputable def s_tb (fm : sF) (ly : sY) (t : Nat) : Nat := match ly t with | none => 0 | some L => s_BU fm ly L.1 * s_nc L
theorem s_tb_n {t : Nat} (h : ly t = none) : s_tb fm ly t = 0 := by unfold s_tb; rw [h]
theorem s_tb_s {t : Nat} {L : sL} (h : ly t = some L) : s_tb fm ly t = s_BU fm ly L.1 * s_nc L := by unfold s_tb; rw [h]
noncomputable def s_lo (fm : sF) (ly : sY) (c : Nat) : Nat := if fm c = [] then 0 else s_ld (s_BU fm ly) fm ly c
theorem s_ld_at {ms : List sM} : (ms.map (fun m => if 300 ≤ m.1 then (match ly (m.1 % 10) with | none => 0 | some L => s_BU fm ly L.1 * s_nc L) else 0)).sum = ((s_at ms).map (s_tb fm ly)).sum := by
  induction ms with
  | nil => rfl
  | cons m ms ih =>
    unfold s_at at ih ⊢
    rw [List.map_cons, List.sum_cons, ih]
    by_cases h : 300 ≤ m.1
    · rw [if_pos h, List.filter_cons_of_pos (by simpa using h), List.map_cons, List.map_cons, List.sum_cons]
      rfl
    · rw [if_neg h, List.filter_cons_of_neg (by simpa using h), Nat.zero_add]
theorem s_ld_a : s_ld (s_BU fm ly) fm ly c = 1 + ((s_at (fm c)).map (s_tb fm ly)).sum := congrArg (fun x => 1 + x) (s_ld_at (ms := fm c))
/-- of a named cell, of an asked table it's known -/
def cKc (X : cX) (fm : sF) (ly : sY) (c : Nat) : Prop := cBs (X.2.2.2.1 c) (s_RE fm c) ∧ cBs (X.2.2.2.1 (24 + c)) (s_RD fm ly c)
def cKt (X : cX) (fm : sF) (ly : sY) (t : Nat) : Prop := X.1 15 t = nI (s_tb fm ly t)
/-- all BitSets are well formed -/
def cBk (X : cX) : Prop := ∀ b, b < 49 → ∃ p : Nat → Prop, cBs (X.2.2.2.1 b) p
theorem cBk.b (h : cBk σ.2.2.2.2) {b : Nat} {v : (Nat → Int64) × Int32} {p : Nat → Prop} (hv : cBs v p) : cBk (cuB σ b v).2.2.2.2 := fun e he => by
  by_cases q : e = b
  · rw [q]; exact ⟨p, by rw [show (cuB σ b v).2.2.2.2.2.2.2.1 b = v from kB_s]; exact hv⟩
  · obtain ⟨p', hp'⟩ := h e he
    exact ⟨p', by rw [show (cuB σ b v).2.2.2.2.2.2.2.1 e = σ.2.2.2.2.2.2.2.1 e from kB_o q]; exact hp'⟩
def cls (e : va_E) : Nat := match e with | .inr (ci, _) => ci | .inl _ => 0
theorem cls_if {p : Prop} [Decidable p] {a b : va_E} (ha : cls a ≤ 35) (hb : cls b ≤ 35) : cls (if p then a else b) ≤ 35 := by
  by_cases h : p
  · rw [if_pos h]; exact ha
  · rw [if_neg h]; exact hb
theorem cls_w (k : Nat × Nat × Nat × Nat × Nat) : cls (cwR g x0 σ k) ≤ 35 := by
  have z : 0 ≤ 35 := by decide
  unfold cwR
  refine cls_if (show 0 ≤ 35 from z) (cls_if z (cls_if z (cls_if z (cls_if z (cls_if (show 1 ≤ 35 by decide) (cls_if z (cls_if z (cls_if (show 34 ≤ 35 by decide) (cls_if z (cls_if (show 35 ≤ 35 by decide) (cls_if z (show 3 ≤ 35 by decide))))))))))))
/-- what isn't the world's lies below it -/
theorem c_back (hW : cW g x0 P hp) {a ci : Nat} {fs : List Value} (h : cput g x0 P σ hp a = some (.inr (ci, fs))) (hc : 36 ≤ ci) : hp a = some (.inr (ci, fs)) := by
  unfold cput at h
  by_cases hi : cIn x0 a
  · rw [s_if_p hi] at h
    cases hw : cwL[a - x0]? with
    | none => rw [hw] at h; cases h
    | some k =>
      rw [hw] at h
      simp only [Option.map_some, Option.some.injEq] at h
      exfalso
      have := cls_w (g := g) (x0 := x0) (σ := σ) k
      rw [h] at this
      have : ci ≤ 35 := this
      omega
  · rw [s_if_n hi] at h
    unfold cRoH at h
    by_cases hr : ∃ r t n, r < 4 ∧ P.2.2 r = some (a, t, n)
    · rw [s_if_p hr] at h
      split at h
      · cases h
      · cases h
    · rw [s_if_n hr] at h
      unfold cPlH at h
      by_cases hp2 : ∃ c, c < 24 ∧ P.1 c = a
      · rw [s_if_p hp2] at h
        have he := Classical.epsilon_spec hp2
        have hcl := (hW.2.2.1 _ he.1).2.2.2
        unfold cpl at h
        simp only [Option.some.injEq, Sum.inr.injEq, Prod.mk.injEq] at h
        rw [h.1] at hcl
        simp only [List.mem_cons, List.not_mem_nil, or_false] at hcl
        omega
      · rw [s_if_n hp2] at h
        exact h
theorem cNe.back (hW : cW g x0 P hp) : ∀ (ts : List Nat) (r : Option Nat), cNe (cput g x0 P σ hp) r ts → cNe hp r ts := by
  intro ts
  induction ts with
  | nil => intro r z; exact z
  | cons t ts ih =>
    rintro r ⟨a, b, r2, pv, h1, h2, h3, h4⟩
    exact ⟨a, b, r2, pv, h1, c_back hW h2 (by decide), c_back hW h3 (by decide), ih _ h4⟩
theorem cIt.back (hW : cW g x0 P hp) {q a i : Nat} {ts : List Nat} (h : cIt (cput g x0 P σ hp) q a ts i) : cIt hp q a ts i := by
  obtain ⟨md, r, la, nxt, lr, h1, h2, h3, h4⟩ := h
  exact ⟨md, r, la, nxt, lr, c_back hW h1 (by decide), c_back hW h2 (by decide), cNe.back hW _ _ h3, h4⟩
theorem cIt.mo {hp' : zHp} (h : hLe hp hp') {q a i : Nat} {ts : List Nat} (z : cIt hp q a ts i) : cIt hp' q a ts i := by
  obtain ⟨md, r, la, nxt, lr, h1, h2, h3, h4⟩ := z
  exact ⟨md, r, la, nxt, lr, h _ _ h1, h _ _ h2, cNe.mo h _ _ h3, h4⟩
theorem hLe.up2 {hp' : zHp} {q : Nat} {v : Option va_E} (h : hLe hp hp') (hq : hp q = none) : hLe hp (va_up hp' q v) := fun y e z => by
  by_cases e : y = q
  · rw [e, hq] at z; cases z
  · rw [va_o e]; exact h y _ z
theorem take_s {l : List Nat} {i t : Nat} (h : l[i]? = some t) : l.take (i + 1) = l.take i ++ [t] := by
  rw [List.take_add_one, h]; rfl
theorem c_reads (hW : cW g x0 P hp) (hS : cS0 g x0 P hp σ.2.2.2.2 fm ly kd) (hM : sMr fm) (hr : s_rk fm ly rk) (hb : ∀ x, x < 30 → rk x < 30) (hc : c < 24) (hk : cBk σ.2.2.2.2) (hN : ∀ m ∈ fm c, m.1 < 24 → cKc σ.2.2.2.2 fm ly m.1) (hA : ∀ m ∈ fm c, 300 ≤ m.1 → ∀ L, ly (m.1 % 10) = some L → cKt σ.2.2.2.2 fm ly (m.1 % 10) ∧ cKc σ.2.2.2.2 fm ly L.1 ∧ L.1 ≠ c) (hd : 8 ≤ d) {K : zHp → Nat → Prop}
    (hK : ∀ σ' hp' nx', cFc c σ σ' → cBk σ'.2.2.2.2 → cKc σ'.2.2.2.2 fm ly c → σ'.2.2.2.2.1 14 c = nI (s_lo fm ly c) → cW g x0 P hp' → hLe hp hp' → nx ≤ nx' → K (cput g x0 P σ' hp') nx') : zMt l g yX0_reads cX0_reads 5 none d 1 5 [.ref x0, .int (nI c)] (cput g x0 P σ hp) nx (zQv g K) := by
  obtain ⟨d, rfl⟩ := Nat.exists_eq_add_of_le' (show 1 ≤ d by omega)
  have zA : ∀ q, zB g ≤ x0 + q := fun q => by have := hW.1; omega
  have cc : (nI c).toNatClampNeg = c := nI_clamp (by omega)
  have ic : vp_in (nI c) 24 := vp_in_nI hc (by decide)
  have le0 : 0 ≤ 1 := by decide
  have le5 : 0 ≤ 5 := by decide
  have hmo := hM.1
  apply met_X0_reads
  unfold wp_X0_reads
  rw [cg_reached, ca_reached]
  refine ⟨ic, ?_⟩
  intro r8 e8
  rw [cc] at e8
  subst e8
  refine ⟨le0, le5, ?_⟩
  rw [hz_o (cput_b (by omega)) (by decide)]
  obtain ⟨pc, hpc⟩ := hk c (by omega)
  refine c_bclear hW (by omega) hpc (by omega) (fun v1 hv1 => ?_)
  rw [cg_reads, ca_reads]
  refine ⟨ic, ?_⟩
  intro r18 e18
  rw [cc] at e18
  subst e18
  refine ⟨le0, le5, ?_⟩
  rw [hz_o (cput_b (by omega)) (by decide)]
  have hk1 := hk.b (b := c) hv1
  obtain ⟨pd, hpd⟩ := hk1 (24 + c) (by omega)
  refine c_bclear hW (by omega) hpd (by omega) (fun v2 hv2 => ?_)
  have hk2 := hk1.b (b := 24 + c) hv2
  rw [cg_reached, ca_reached]
  refine ⟨ic, ?_⟩
  intro r28 e28
  rw [cc] at e28
  subst e28
  refine ⟨0, 0, by decide, by decide, ?_⟩
  rw [hz_o (cput_b (by omega)) (by decide)]
  refine c_bset (p := fun _ => False) hW (by omega) (by rw [kB_o (by omega), kB_s]; exact hv1) (show c < 64 by omega) (by omega) (fun v3 hv3 => ?_)
  have hk3 := hk2.b (b := c) hv3
  have f3 : cFc c σ (cuB (cuB (cuB σ c v1) (24 + c) v2) c v3) := ((cFc_b (Or.inl rfl)).tr (cFc_b (Or.inr (Or.inl rfl)))).tr (cFc_b (Or.inl rfl))
  have b1 : (cuB (cuB (cuB σ c v1) (24 + c) v2) c v3).2.2.2.2.2.2.2.1 c = v3 := kB_s
  have b2 : (cuB (cuB (cuB σ c v1) (24 + c) v2) c v3).2.2.2.2.2.2.2.1 (24 + c) = v2 := by rw [kB_o (by omega), kB_s]
  generalize cuB (cuB (cuB σ c v1) (24 + c) v2) c v3 = σ3 at f3 hk3 b1 b2 ⊢
  have hv3 : cBs v3 (fun x => x = c) := hv3.cg (fun x _ => ⟨fun z => z.resolve_left id, Or.inr⟩)
  rw [cg_loads, ca_loads]
  refine ⟨ic, zA _, ?_⟩
  intro hp40 e40
  rw [cc, cu_loads] at e40
  subst e40
  have f4 : cFc c σ (cuA σ3 14 (va_up (σ3.2.2.2.2.1 14) c 0)) := f3.tr cFc_a
  have hS4 : cS0 g x0 P hp σ3.2.2.2.2 fm ly kd := by
    refine ⟨fun e he => ?_, hS.2.1, fun e he => ?_, fun t ht => ?_⟩
    · rw [f3.2.2.2.2.2.2.2.1]; exact hS.1 e he
    · rw [f3.2.2.2.2.2.2.2.2.2]; exact hS.2.2.1 e he
    · rw [f3.2.2.2.2.2.2.2.1]; exact hS.2.2.2 t ht
  rw [cg_cells, ca_cells]
  refine ⟨ic, ?_⟩
  intro r48 e48
  have e48 : r48 = some (P.1 c) := by rw [e48, cc]; exact hS4.1 c hc
  subst e48
  rw [cc_f hW hc]
  rcases hS4.2.2.1 c hc with ⟨q1, q2⟩ | ⟨a, root, nb, as, n, q1, q2, q3, q4, q5, ⟨w, w1, w2⟩, q7⟩
  · -- an input
    refine ⟨fun _ => ?_, fun z => absurd q2 z⟩
    rw [cg_reads, ca_reads]
    refine ⟨ic, ?_⟩
    intro r311 e311
    rw [cc] at e311
    subst e311
    refine ⟨0, 0, by decide, by decide, ?_⟩
    rw [hz_o (cput_b (by omega)) (by decide)]
    refine c_bset (σ := cuA σ3 14 (va_up (σ3.2.2.2.2.1 14) c 0)) (p := fun _ => False) hW (by omega) (show cBs (σ3.2.2.2.2.2.2.2.1 (24 + c)) _ by rw [b2]; exact hv2) (show c < 64 by omega) (by omega) (fun v4 hv4 => ?_)
    refine ⟨by decide, by decide, hK _ hp nx (f4.tr (cFc_b (Or.inr (Or.inl rfl)))) (cBk.b (σ := cuA σ3 14 (va_up (σ3.2.2.2.2.1 14) c 0)) hk3 hv4) ⟨?_, ?_⟩ ?_ hW hLe.rf (Nat.le_refl _)⟩
    · have : (cuB (cuA σ3 14 (va_up (σ3.2.2.2.2.1 14) c 0)) (24 + c) v4).2.2.2.2.2.2.2.1 c = v3 := by rw [kB_o (by omega)]; exact b1
      show cBs ((cuB (cuA σ3 14 (va_up (σ3.2.2.2.2.1 14) c 0)) (24 + c) v4).2.2.2.2.2.2.2.1 c) _
      rw [this]
      refine hv3.cg (fun x _ => ?_)
      rw [s_RE_st hr hb hc x, q1]
      exact ⟨Or.inl, fun z => z.elim id (fun ⟨m, hm, _⟩ => (by cases hm))⟩
    · show cBs ((cuB (cuA σ3 14 (va_up (σ3.2.2.2.2.1 14) c 0)) (24 + c) v4).2.2.2.2.2.2.2.1 (24 + c)) _
      rw [kB_s]
      refine hv4.cg (fun x _ => ?_)
      rw [s_RD_st hr hmo hb hc x]
      unfold s_ds
      rw [q1]
      exact ⟨fun z => Or.inl ⟨rfl, z.resolve_left id⟩, fun z => z.elim (fun y => Or.inr y.2) (fun y => y.elim (fun ⟨m, hm, _⟩ => (by cases hm)) (fun ⟨m, hm, _⟩ => (by cases hm)))⟩
    · show (cuA σ3 14 (va_up (σ3.2.2.2.2.1 14) c 0)).2.2.2.2.1 14 c = _
      rw [kA_s, va_s]
      unfold s_lo
      rw [if_pos q1]; rfl
  · -- a formula
    have q2 : (cuA σ3 14 (va_up (σ3.2.2.2.2.1 14) c 0)).2.2.2.2.2.2.2.2.2.2.1 c = some a := q2
    rw [q2]
    refine ⟨fun z => (by cases z), fun _ => ?_⟩
    rw [cg_loads, ca_loads]
    refine ⟨ic, zA _, ?_⟩
    intro hp60 e60
    rw [cc, cu_loads, kAA, kA_s, cva_uu] at e60
    subst e60
    have f5 : cFc c σ (cuA σ3 14 (va_up (σ3.2.2.2.2.1 14) c 1)) := f3.tr cFc_a
    have hk5 : cBk (cuA σ3 14 (va_up (σ3.2.2.2.2.1 14) c 1)).2.2.2.2 := hk3
    have b51 : (cuA σ3 14 (va_up (σ3.2.2.2.2.1 14) c 1)).2.2.2.2.2.2.2.1 c = v3 := b1
    have b52 : (cuA σ3 14 (va_up (σ3.2.2.2.2.1 14) c 1)).2.2.2.2.2.2.2.1 (24 + c) = v2 := b2
    have l5 : (cuA σ3 14 (va_up (σ3.2.2.2.2.1 14) c 1)).2.2.2.2.1 14 c = 1 := by rw [kA_s, va_s]
    generalize cuA σ3 14 (va_up (σ3.2.2.2.2.1 14) c 1) = σ5 at f5 hk5 b51 b52 l5 ⊢
    rw [ch_R hW q3 (r := some nb) rfl (by decide)]
    refine ⟨by decide, by decide, ?_⟩
    have hle : ∀ {τ : cS}, hLe hp (cput g x0 P τ hp) := fun {τ} q e z => cput_h hW z
    have w1' : ∀ {τ : cS}, cBo g (cput g x0 P τ hp) nb w := fun {τ} => w1.mo hle
    have w24 : ∀ q, q < 64 → lb w q = true → q < 24 := fun q hq z => ((w2 q hq).mp z).1
    obtain ⟨wb, wf, y1, -⟩ := w1
    rw [ch_o hW y1 (by decide)]
    -- the names so far
    obtain ⟨Nx, eNx⟩ : ∃ Nx : cS → Nat → Int32 → Prop, ∀ τ i x, Nx τ i x ↔ ((∃ k, i ≤ k ∧ k < 24 ∧ (∃ m ∈ fm c, m.1 = k) ∧ x = nI k ∧ cBs (τ.2.2.2.2.2.2.2.1 c) (fun x => x = c ∨ ∃ m ∈ fm c, m.1 < k ∧ s_RE fm m.1 x) ∧ cBs (τ.2.2.2.2.2.2.2.1 (24 + c)) (fun x => ∃ m ∈ fm c, m.1 < k ∧ s_RD fm ly m.1 x)) ∨ (x = -1 ∧ cBs (τ.2.2.2.2.2.2.2.1 c) (fun x => x = c ∨ ∃ m ∈ fm c, m.1 < 24 ∧ s_RE fm m.1 x) ∧ cBs (τ.2.2.2.2.2.2.2.1 (24 + c)) (fun x => ∃ m ∈ fm c, m.1 < 24 ∧ s_RD fm ly m.1 x))) := ⟨_, fun _ _ _ => Iff.rfl⟩
    have st : ∀ i (τ : cS), i ≤ 24 → cBs (τ.2.2.2.2.2.2.2.1 c) (fun x => x = c ∨ ∃ m ∈ fm c, m.1 < i ∧ s_RE fm m.1 x) → cBs (τ.2.2.2.2.2.2.2.1 (24 + c)) (fun x => ∃ m ∈ fm c, m.1 < i ∧ s_RD fm ly m.1 x) → ∀ PP : Int32 → zHp → Nat → Prop, (∀ x, Nx τ i x → PP x (cput g x0 P τ hp) nx) → zMt l g yJ0_nextSetBit cJ0_nextSetBit 5 (some .int) d 0 0 [.ref nb, .int (nI i)] (cput g x0 P τ hp) nx (zQi g PP) := by
      intro i τ hi hc1 hc2 PP hx
      have ext : ∀ k, i ≤ k → k ≤ 24 → (∀ q, i ≤ q → q < k → lb w q = false) → ∀ m ∈ fm c, (m.1 < k ↔ m.1 < i) := by
        intro k h1 h2 h3 m hm
        refine ⟨fun z => ?_, fun z => by omega⟩
        by_cases e : m.1 < i
        · exact e
        · have := h3 m.1 (by omega) z
          rw [(w2 m.1 (by omega)).mpr ⟨by omega, m, hm, rfl⟩] at this
          cases this
      refine b_next w1' w24 hi (by omega) (fun k k1 k2 k3 k4 => hx _ ((eNx _ _ _).mpr (Or.inl ⟨k, k1, k2, ((w2 k (by omega)).mp k3).2, rfl, ?_, ?_⟩))) (fun z => hx _ ((eNx _ _ _).mpr (Or.inr ⟨rfl, ?_, ?_⟩)))
      · exact hc1.cg (fun x _ => or_congr Iff.rfl ⟨fun ⟨m, a, b, e⟩ => ⟨m, a, (ext k k1 (by omega) k4 m a).mpr b, e⟩, fun ⟨m, a, b, e⟩ => ⟨m, a, (ext k k1 (by omega) k4 m a).mp b, e⟩⟩)
      · exact hc2.cg (fun x _ => ⟨fun ⟨m, a, b, e⟩ => ⟨m, a, (ext k k1 (by omega) k4 m a).mpr b, e⟩, fun ⟨m, a, b, e⟩ => ⟨m, a, (ext k k1 (by omega) k4 m a).mp b, e⟩⟩)
      · exact hc1.cg (fun x _ => or_congr Iff.rfl ⟨fun ⟨m, a, b, e⟩ => ⟨m, a, (ext 24 hi (Nat.le_refl _) (fun q a1 a2 => z q a1 (by omega)) m a).mpr b, e⟩, fun ⟨m, a, b, e⟩ => ⟨m, a, (ext 24 hi (Nat.le_refl _) (fun q a1 a2 => z q a1 (by omega)) m a).mp b, e⟩⟩)
      · exact hc2.cg (fun x _ => ⟨fun ⟨m, a, b, e⟩ => ⟨m, a, (ext 24 hi (Nat.le_refl _) (fun q a1 a2 => z q a1 (by omega)) m a).mpr b, e⟩, fun ⟨m, a, b, e⟩ => ⟨m, a, (ext 24 hi (Nat.le_refl _) (fun q a1 a2 => z q a1 (by omega)) m a).mp b, e⟩⟩)
    refine st 0 σ5 (by omega) (by rw [b51]; exact hv3.cg (fun x _ => ⟨Or.inl, fun z => z.elim id (fun ⟨m, _, b, _⟩ => absurd b (Nat.not_lt_zero _))⟩)) (by rw [b52]; exact hv2.cg (fun x _ => ⟨fun z => z.elim, fun ⟨m, _, b, _⟩ => absurd b (Nat.not_lt_zero _)⟩)) _ (fun x hx => ?_)
    have msr : ∀ {τ : cS} {i : Nat} {x : Int32}, Nx τ i x → ∃ n : Nat, ∀ k, k < 24 → x = nI k → n + k = 24 := by
      intro τ i x h
      rcases (eNx _ _ _).mp h with ⟨k, -, k2, -, e, -⟩ | ⟨e, -⟩
      · exact ⟨24 - k, fun k' h1 h2 => by rw [e, nI_eq (by omega) (by omega)] at h2; omega⟩
      · exact ⟨0, fun k' h1 h2 => by rw [e] at h2; exact absurd h2.symm (nI_ne_m1 (by omega))⟩
    obtain ⟨n0, hn0⟩ := msr hx
    refine ⟨fun n r y hp1 nx1 kc ks => ∃ τ i, some a = r ∧ hp1 = cput g x0 P τ hp ∧ nx = nx1 ∧ kc = 0 ∧ ks = 0 ∧ cFc c σ τ ∧ cBk τ.2.2.2.2 ∧ τ.2.2.2.2.1 14 c = 1 ∧ Nx τ i y ∧ ∀ k, k < 24 → y = nI k → n + k = 24, ⟨n0, σ5, 0, rfl, rfl, rfl, rfl, rfl, f5, hk5, l5, hx, hn0⟩, ?_⟩
    rintro n r y hp1 nx1 kc ks ⟨τ, i, rfl, rfl, rfl, rfl, rfl, t1, t2, t3, hy, hn⟩
    -- a frame keeps what is known
    have keep : ∀ {τ : cS} {e : Nat}, cFc c σ τ → e < 24 → e ≠ c → τ.2.2.2.2.2.2.2.1 e = σ.2.2.2.2.2.2.2.1 e ∧ τ.2.2.2.2.2.2.2.1 (24 + e) = σ.2.2.2.2.2.2.2.1 (24 + e) := fun {τ e} hf he hne => ⟨hf.2.2.2.2.2.2.2.2.1 e hne (by omega) (by omega), hf.2.2.2.2.2.2.2.2.1 (24 + e) (by omega) (by omega) (by omega)⟩
    refine ⟨fun z => ?_, fun z => ?_⟩
    · obtain ⟨F1, F2⟩ : cBs (τ.2.2.2.2.2.2.2.1 c) (fun x => x = c ∨ ∃ m ∈ fm c, m.1 < 24 ∧ s_RE fm m.1 x) ∧ cBs (τ.2.2.2.2.2.2.2.1 (24 + c)) (fun x => ∃ m ∈ fm c, m.1 < 24 ∧ s_RD fm ly m.1 x) := by
        rcases (eNx _ _ _).mp hy with ⟨k, -, k2, -, e, -⟩ | ⟨-, h1, h2⟩
        · rw [e] at z; exact absurd z (nI_pos (by omega))
        · exact ⟨h1, h2⟩
      have hlen := Nat.le_trans (s_at_len (ms := fm c)) (hM.2 c hc)
      have q7' := q7
      obtain ⟨md, r0, la, y2, -, -⟩ := q7'
      rw [ch_R hW q3 (r := some as) rfl (by decide)]
      refine ⟨1, 5, by decide, by decide, ?_⟩
      rw [ch_o hW y2 (by decide)]
      refine j_iter (q7.mo hle) hlen (by omega) (fun fs hf hz hIt hfs => ?_)
      obtain ⟨fr1, fr2⟩ := c_fresh hW hf
      rw [cput_hq fr1] at hIt ⊢
      have hW' := cW_hq (v := some (.inr (38, fs))) fr1 hW
      have hle' : hLe hp (va_up hp nx (some (.inr (38, fs)))) := hLe.up fr2
      have hIt := hIt.back hW'
      generalize va_up hp nx (some (.inr (38, fs))) = hpa at hIt hW' hle' ⊢
      obtain ⟨ts, ets⟩ : ∃ ts, ts = s_at (fm c) := ⟨_, rfl⟩
      rw [← ets] at hIt hlen
      refine ⟨fun n r1 r2 hp1 nx1 kc ks => ∃ i τ hpx, n + i = ts.length ∧ some a = r1 ∧ some nx = r2 ∧ hp1 = cput g x0 P τ hpx ∧ nx1 = nx + 1 ∧ kc = 1 ∧ ks = 5 ∧ cFc c σ τ ∧ cBk τ.2.2.2.2 ∧ cW g x0 P hpx ∧ hLe hp hpx ∧ cIt hpx nx as ts i ∧ cBs (τ.2.2.2.2.2.2.2.1 c) (fun x => x = c ∨ ∃ m ∈ fm c, m.1 < 24 ∧ s_RE fm m.1 x) ∧ cBs (τ.2.2.2.2.2.2.2.1 (24 + c)) (fun x => (∃ m ∈ fm c, m.1 < 24 ∧ s_RD fm ly m.1 x) ∨ ∃ t ∈ ts.take i, ∃ L, ly t = some L ∧ s_RD fm ly L.1 x ∧ ¬ s_va L x) ∧ τ.2.2.2.2.1 14 c = nI (1 + ((ts.take i).map (s_tb fm ly)).sum), ⟨ts.length, 0, τ, hpa, rfl, rfl, rfl, rfl, rfl, rfl, rfl, t1, t2, hW', hle', hIt, F1, F2.cg (fun x _ => ⟨Or.inl, fun z => z.elim id (fun ⟨t, ht, _⟩ => (by cases ht))⟩), by rw [t3]; rfl⟩, ?_⟩
      clear F1 F2 t1 t2 t3 hy hn z hIt hW' hle' hf
      rintro n2 r1 r2 hp1 nx1 kc ks ⟨i, τ, hpx, hi, rfl, rfl, rfl, rfl, rfl, rfl, t1, t2, hWx, hlex, hIt, F1, F2, t3⟩
      have hIt' := hIt
      obtain ⟨md', rr, la', nxt, lr, it1, it2, it3, it4⟩ := hIt'
      have lex : ∀ {τ : cS}, hLe hpx (cput g x0 P τ hpx) := fun {τ} q e z => cput_h hWx z
      refine ⟨by decide, by decide, ?_⟩
      rw [ch_o hWx it2 (by decide)]
      refine j_hasNext (hIt.mo lex) hlen (by omega) (fun ei => ?_) (fun hlt => ?_)
      · refine ⟨fun _ => ⟨by decide, by decide, hK τ hpx (nx + 1) t1 t2 ⟨F1.cg (fun x _ => (s_RE_st hr hb hc x).symm), F2.cg (fun x _ => ?_)⟩ ?_ hWx hlex (by omega)⟩, fun w => absurd rfl w⟩
        · rw [s_RD_st hr hmo hb hc x, ei, List.take_length, ets]
          unfold s_ds
          constructor
          · rintro (h | ⟨t, h1, L, h2, h3⟩)
            · exact Or.inr (Or.inl h)
            · obtain ⟨m, m1, m2, m3⟩ := s_at_in.mp h1
              exact Or.inr (Or.inr ⟨m, m1, m2, L, by rw [m3]; exact h2, h3⟩)
          · rintro (⟨h, _⟩ | h | ⟨m, m1, m2, L, h2, h3⟩)
            · exact absurd h q1
            · exact Or.inl h
            · exact Or.inr ⟨m.1 % 10, s_at_in.mpr ⟨m, m1, m2, rfl⟩, L, h2, h3⟩
        · rw [t3, ei, List.take_length, ets]
          unfold s_lo
          rw [if_neg q1, s_ld_a]
      · refine ⟨fun w => absurd w (by decide), fun _ => ?_⟩
        rw [cg_tables]
        refine ⟨by decide, by decide, ?_⟩
        rw [ch_o hWx it2 (by decide)]
        obtain ⟨t, et⟩ : ∃ t, ts[i]? = some t := ⟨ts[i], List.getElem?_eq_getElem hlt⟩
        have hdr : ts.drop i = t :: ts.drop (i + 1) := by
          rw [List.drop_eq_getElem_cons hlt]
          rw [List.getElem?_eq_getElem hlt] at et
          rw [Option.some.inj et]
        have htm : t ∈ s_at (fm c) := by rw [← ets]; exact List.mem_of_getElem? et
        obtain ⟨m, m1, m2, m3⟩ := s_at_in.mp htm
        have ht6 : t < 6 := by rw [← m3]; exact hmo c hc m m1 m2
        have htk := take_s et
        refine j_next (hIt.mo lex) hdr hz hlen (by omega) (fun fs' b hfs' hbb hIt2 => ?_)
        rw [cput_hq fr1] at hbb hIt2 ⊢
        have hWy := cW_hq (v := some (.inr (38, fs'))) fr1 hWx
        have hley : hLe hp (va_up hpx nx (some (.inr (38, fs')))) := hlex.up2 fr2
        have hIt2 := hIt2.back hWy
        generalize va_up hpx nx (some (.inr (38, fs'))) = hpy at hbb hIt2 hWy hley ⊢
        refine ⟨fun q e => (by cases e; exact ⟨41, _, hbb, by decide⟩), by decide, by decide, ?_⟩
        rw [hz_o hbb (by decide)]
        refine j_int hbb (by omega) ?_
        rw [ca_tables]
        refine ⟨vp_in_nI ht6 (by decide), ?_⟩
        intro r107 e107
        rw [nI_clamp (by omega), t1.2.2.2.2.2.2.2.1] at e107
        have hLy := hS.2.2.2 t ht6
        refine ⟨fun w => ?_, fun w => ?_⟩
        · have hl : ly t = none := by
            rcases hLy with ⟨y3, -⟩ | ⟨a', L, -, y3, -⟩
            · exact y3
            · rw [w] at e107; have := e107.trans y3; cases this
          refine ⟨n2 - 1, by omega, i + 1, τ, hpy, by omega, rfl, rfl, rfl, rfl, rfl, rfl, t1, t2, hWy, hley, hIt2, F1, F2.cg (fun x _ => or_congr Iff.rfl ?_), ?_⟩
          · rw [htk]
            constructor
            · rintro ⟨t', h1, h2⟩; exact ⟨t', List.mem_append_left _ h1, h2⟩
            · rintro ⟨t', h1, L, h2, h3⟩
              rcases List.mem_append.mp h1 with h1 | h1
              · exact ⟨t', h1, L, h2, h3⟩
              · rw [List.mem_singleton] at h1; rw [h1, hl] at h2; cases h2
          · rw [t3, htk, List.map_append, List.sum_append]
            simp only [List.map_cons, List.map_nil, List.sum_cons, List.sum_nil, s_tb_n hl, Nat.add_zero]
        · obtain ⟨a107, L, hl, ea, hTb, hTk⟩ : ∃ a107 L, ly t = some L ∧ r107 = some a107 ∧ cTb g hp a107 t L ∧ cTk L := by
            rcases hLy with ⟨-, y3⟩ | ⟨a', L, y3, y4, y5, y6⟩
            · exact absurd (e107.trans y3) w
            · exact ⟨a', L, y3, e107.trans y4, y5, y6⟩
          subst ea
          obtain ⟨hA1, hA2, hA3⟩ := hA m m1 m2 L (by rw [m3]; exact hl)
          rw [m3] at hA1
          obtain ⟨a1, r2', u1, u2, u3⟩ := hTb.mo hley
          obtain ⟨b1', u4⟩ : ∃ b1, hpy a1 = some (.inr (32, [.int (nI L.2.1), .ref b1])) := by obtain ⟨b1, f1, z1, -, -⟩ := u2; exact ⟨b1, z1⟩
          obtain ⟨k1, k2, k3, k4, k5⟩ := hTk
          have it6 : vp_in (nI t) 6 := vp_in_nI ht6 (by decide)
          have ct6 : (nI t).toNatClampNeg = t := nI_clamp (by omega)
          have cL : (nI L.1).toNatClampNeg = L.1 := nI_clamp (by omega)
          have iL : vp_in (nI L.1) 24 := vp_in_nI k1 (by decide)
          rw [cg_loads, ca_loads]
          refine ⟨ic, ?_⟩
          intro x115 e115
          rw [cc, t3] at e115
          subst e115
          rw [cg_tableBurdens, ch_I hWy u1 (k := 0) (x := nI t) rfl (by decide), ca_tableBurdens]
          refine ⟨it6, ?_⟩
          intro x127 e127
          have e127 : x127 = nI (s_tb fm ly t) := by rw [e127, ct6, t1.2.2.2.2.1 15 (by decide)]; exact hA1
          subst e127
          rw [ca_loads]
          refine ⟨ic, zA _, ?_⟩
          intro hp131 e131
          rw [cc, cu_loads, nI_add] at e131
          subst e131
          have v1' : cFc c σ (cuA τ 14 (va_up (τ.2.2.2.2.1 14) c (nI (1 + ((ts.take i).map (s_tb fm ly)).sum + s_tb fm ly t)))) := t1.tr cFc_a
          have v2' : cBk (cuA τ 14 (va_up (τ.2.2.2.2.1 14) c (nI (1 + ((ts.take i).map (s_tb fm ly)).sum + s_tb fm ly t)))).2.2.2.2 := t2
          have v3' : (cuA τ 14 (va_up (τ.2.2.2.2.1 14) c (nI (1 + ((ts.take i).map (s_tb fm ly)).sum + s_tb fm ly t)))).2.2.2.2.1 14 c = nI (1 + ((ts.take (i + 1)).map (s_tb fm ly)).sum) := by
            rw [kA_s, va_s, htk, List.map_append, List.sum_append]
            simp only [List.map_cons, List.map_nil, List.sum_cons, List.sum_nil, Nat.add_zero, Nat.add_assoc]
          have v4' : cBs ((cuA τ 14 (va_up (τ.2.2.2.2.1 14) c (nI (1 + ((ts.take i).map (s_tb fm ly)).sum + s_tb fm ly t)))).2.2.2.2.2.2.2.1 c) (fun x => x = c ∨ ∃ m ∈ fm c, m.1 < 24 ∧ s_RE fm m.1 x) := F1
          have v5' : cBs ((cuA τ 14 (va_up (τ.2.2.2.2.1 14) c (nI (1 + ((ts.take i).map (s_tb fm ly)).sum + s_tb fm ly t)))).2.2.2.2.2.2.2.1 (24 + c)) (fun x => (∃ m ∈ fm c, m.1 < 24 ∧ s_RD fm ly m.1 x) ∨ ∃ t ∈ ts.take i, ∃ L, ly t = some L ∧ s_RD fm ly L.1 x ∧ ¬ s_va L x) := F2
          generalize cuA τ 14 (va_up (τ.2.2.2.2.1 14) c (nI (1 + ((ts.take i).map (s_tb fm ly)).sum + s_tb fm ly t))) = ρ at v1' v2' v3' v4' v5' ⊢
          have m5 : ∀ {τ : cS} {Q : Int32 → Prop}, zgI (cput g x0 P τ hpy) (some a107) [31] 1 Q = Q (nI L.1) := fun {τ Q} => ch_I hWy u1 (k := 1) rfl (by decide)
          have m6 : ∀ {τ : cS} {Q : Option Nat → Prop}, zgR (cput g x0 P τ hpy) (some a107) [31] 2 Q = Q (some a1) := fun {τ Q} => ch_R hWy u1 (k := 2) (r := some a1) rfl (by decide)
          have m7 : ∀ {τ : cS} {Q : Option Nat → Prop}, zgR (cput g x0 P τ hpy) (some a107) [31] 3 Q = Q r2' := fun {τ Q} => ch_R hWy u1 (k := 3) (r := r2') rfl (by decide)
          have m8 : ∀ {τ : cS} {Q : Int32 → Prop}, zgI (cput g x0 P τ hpy) (some a1) [32] 0 Q = Q (nI L.2.1) := fun {τ Q} => ch_I hWy u4 (k := 0) rfl (by decide)
          rw [cg_through]
          refine ⟨by decide, by decide, ?_⟩
          rw [hz_o (cput_b (by decide)) (by decide)]
          obtain ⟨p48, hp48⟩ := v2' 48 (by decide)
          refine c_bclear hWy (by decide) hp48 (by omega) (fun g1 hg1 => ?_)
          rw [cg_through, cg_reads, m5, ca_reads]
          refine ⟨iL, ?_⟩
          intro r153 e153
          rw [cL] at e153
          subst e153
          refine ⟨0, 0, by decide, by decide, ?_⟩
          rw [hz_o (cput_b (by decide)) (by decide)]
          refine c_bor (p := fun _ => False) hWy (by decide) (by omega) (by omega) (by rw [kB_s]; exact hg1) (p2 := s_RD fm ly L.1) (by rw [kB_o (by omega), (keep v1' k1 hA3).2]; exact hA2.2) (by omega) (fun g2 hg2 => ?_)
          rw [cg_through, m6, m8]
          refine ⟨by decide, by decide, ?_⟩
          rw [hz_o (cput_b (by decide)) (by decide)]
          refine c_bclr (p := fun x => False ∨ s_RD fm ly L.1 x) hWy (by decide) (by rw [kB_s]; exact hg2) (show L.2.1 < 64 by omega) (by omega) (fun g3 hg3 => ?_)
          rw [m7]
          have x1' : cFc c σ (cuB (cuB (cuB ρ 48 g1) 48 g2) 48 g3) := ((v1'.tr (cFc_b (Or.inr (Or.inr rfl)))).tr (cFc_b (Or.inr (Or.inr rfl)))).tr (cFc_b (Or.inr (Or.inr rfl)))
          have x2' := ((v2'.b (b := 48) hg1).b (b := 48) hg2).b (b := 48) hg3
          have x3' : (cuB (cuB (cuB ρ 48 g1) 48 g2) 48 g3).2.2.2.2.1 14 c = nI (1 + ((ts.take (i + 1)).map (s_tb fm ly)).sum) := v3'
          have x4' : cBs ((cuB (cuB (cuB ρ 48 g1) 48 g2) 48 g3).2.2.2.2.2.2.2.1 c) (fun x => x = c ∨ ∃ m ∈ fm c, m.1 < 24 ∧ s_RE fm m.1 x) := by rw [kB_o (by omega), kB_o (by omega), kB_o (by omega)]; exact v4'
          have x5' : cBs ((cuB (cuB (cuB ρ 48 g1) 48 g2) 48 g3).2.2.2.2.2.2.2.1 (24 + c)) (fun x => (∃ m ∈ fm c, m.1 < 24 ∧ s_RD fm ly m.1 x) ∨ ∃ t ∈ ts.take i, ∃ L, ly t = some L ∧ s_RD fm ly L.1 x ∧ ¬ s_va L x) := by rw [kB_o (by omega), kB_o (by omega), kB_o (by omega)]; exact v5'
          have x6' : cBs ((cuB (cuB (cuB ρ 48 g1) 48 g2) 48 g3).2.2.2.2.2.2.2.1 48) (fun x => s_RD fm ly L.1 x ∧ x ≠ L.2.1) := by
            rw [kB_s]
            exact hg3.cg (fun x _ => and_congr ⟨fun z => z.resolve_left id, Or.inr⟩ Iff.rfl)
          generalize cuB (cuB (cuB ρ 48 g1) 48 g2) 48 g3 = ρ2 at x1' x2' x3' x4' x5' x6' ⊢
          refine ⟨fun r1 r2 r3 hp1 nx1 kc ks => ∃ ρ3, some a = r1 ∧ some nx = r2 ∧ hp1 = cput g x0 P ρ3 hpy ∧ nx1 = nx + 1 ∧ kc = 1 ∧ ks = 5 ∧ cFc c σ ρ3 ∧ cBk ρ3.2.2.2.2 ∧ ρ3.2.2.2.2.1 14 c = nI (1 + ((ts.take (i + 1)).map (s_tb fm ly)).sum) ∧ cBs (ρ3.2.2.2.2.2.2.2.1 c) (fun x => x = c ∨ ∃ m ∈ fm c, m.1 < 24 ∧ s_RE fm m.1 x) ∧ cBs (ρ3.2.2.2.2.2.2.2.1 (24 + c)) (fun x => (∃ m ∈ fm c, m.1 < 24 ∧ s_RD fm ly m.1 x) ∨ ∃ t ∈ ts.take i, ∃ L, ly t = some L ∧ s_RD fm ly L.1 x ∧ ¬ s_va L x) ∧ cBs (ρ3.2.2.2.2.2.2.2.1 48) (fun x => s_RD fm ly L.1 x ∧ ¬ s_va L x), ?_, fun w1 => ?_, fun w1 => ?_⟩
          · rintro r1 r2 r3 hp1 nx1 kc ks ⟨ρ3, rfl, rfl, rfl, rfl, rfl, rfl, z1, z2, z3, z4, z5, z6⟩
            rw [cg_reads, ca_reads]
            refine ⟨ic, ?_⟩
            intro r190 e190
            rw [cc] at e190
            subst e190
            rw [cg_through]
            refine ⟨0, 0, by decide, by decide, ?_⟩
            rw [hz_o (cput_b (by omega)) (by decide)]
            refine c_bor hWy (by omega) (by decide) (by omega) z5 z6 (by omega) (fun g4 hg4 => ?_)
            refine ⟨n2 - 1, by omega, i + 1, cuB ρ3 (24 + c) g4, hpy, by omega, rfl, rfl, rfl, rfl, rfl, rfl, z1.tr (cFc_b (Or.inr (Or.inl rfl))), z2.b (b := 24 + c) hg4, hWy, hley, hIt2, by rw [kB_o (by omega)]; exact z4, ?_, z3⟩
            rw [kB_s, htk]
            refine hg4.cg (fun x _ => ⟨fun h => ?_, fun h => ?_⟩)
            · rcases h with (h | ⟨t', h1, h2⟩) | h
              · exact Or.inl h
              · exact Or.inr ⟨t', List.mem_append_left _ h1, h2⟩
              · exact Or.inr ⟨t, by simp, L, hl, h⟩
            · rcases h with h | ⟨t', h1, L', h2, h3⟩
              · exact Or.inl (Or.inl h)
              · rcases List.mem_append.mp h1 with h1 | h1
                · exact Or.inl (Or.inr ⟨t', h1, L', h2, h3⟩)
                · rw [List.mem_singleton] at h1
                  rw [h1, hl] at h2
                  cases h2
                  exact Or.inr h3
          · have ho : L.2.2.1 = none := by
              rcases u3 with h | ⟨b, a2, -, h, -⟩
              · exact h.1
              · rw [w1] at h; cases h
            refine ⟨ρ2, rfl, rfl, rfl, rfl, rfl, rfl, x1', x2', x3', x4', x5', x6'.cg (fun x _ => and_congr Iff.rfl ?_)⟩
            unfold s_va
            rw [ho]
            exact ⟨fun h => fun y => y.elim h (fun y => by cases y), fun h y => h (Or.inl y)⟩
          · rcases u3 with h | ⟨b, a2, h1, h2, h3⟩
            · exact absurd h.2 w1
            subst h2
            obtain ⟨b2', u5⟩ : ∃ b1, hpy a2 = some (.inr (32, [.int (nI b), .ref b1])) := by obtain ⟨b1, f1, z1, -, -⟩ := h3; exact ⟨b1, z1⟩
            have hb24 := (k5 b h1).1
            rw [cg_through, m7, ch_I hWy u5 (k := 0) (x := nI b) rfl (by decide)]
            refine ⟨by decide, by decide, ?_⟩
            rw [hz_o (cput_b (by decide)) (by decide)]
            refine c_bclr hWy (by decide) x6' (show b < 64 by omega) (by omega) (fun g4 hg4 => ?_)
            refine ⟨cuB ρ2 48 g4, rfl, rfl, rfl, rfl, rfl, rfl, x1'.tr (cFc_b (Or.inr (Or.inr rfl))), x2'.b (b := 48) hg4, x3', by rw [kB_o (by omega)]; exact x4', by rw [kB_o (by omega)]; exact x5', ?_⟩
            rw [kB_s]
            refine hg4.cg (fun x _ => ?_)
            unfold s_va
            rw [h1]
            constructor
            · rintro ⟨⟨y1, y2⟩, y3⟩
              exact ⟨y1, fun y => y.elim y2 (fun y => y3 (Option.some.inj y).symm)⟩
            · rintro ⟨y1, y2⟩
              exact ⟨⟨y1, fun y => y2 (Or.inl y)⟩, fun y => y2 (Or.inr (by rw [y]))⟩
    · obtain ⟨k, k1, k2, ⟨m, m1, m2⟩, rfl, k4, k5⟩ : ∃ k, i ≤ k ∧ k < 24 ∧ (∃ m ∈ fm c, m.1 = k) ∧ y = nI k ∧ cBs (τ.2.2.2.2.2.2.2.1 c) (fun x => x = c ∨ ∃ m ∈ fm c, m.1 < k ∧ s_RE fm m.1 x) ∧ cBs (τ.2.2.2.2.2.2.2.1 (24 + c)) (fun x => ∃ m ∈ fm c, m.1 < k ∧ s_RD fm ly m.1 x) := by
        rcases (eNx _ _ _).mp hy with h | ⟨e, -⟩
        · exact h
        · rw [e] at z; exact absurd (show (-1 : Int32) < 0 by decide) z
      have ck : (nI k).toNatClampNeg = k := nI_clamp (by omega)
      have ik : vp_in (nI k) 24 := vp_in_nI k2 (by decide)
      have hkc : k ≠ c := fun e => by have := hr.1 c hc m m1 (by omega); rw [m2, e] at this; omega
      obtain ⟨kn1, kn2⟩ := hN m m1 (by omega)
      rw [m2] at kn1 kn2
      obtain ⟨e1, e2⟩ := keep t1 k2 hkc
      rw [cg_reached, ca_reached]
      refine ⟨ic, ?_⟩
      intro r250 e250
      rw [cc] at e250
      subst e250
      rw [cg_reached, ca_reached]
      refine ⟨ik, ?_⟩
      intro r258 e258
      rw [ck] at e258
      subst e258
      refine ⟨0, 0, by decide, by decide, ?_⟩
      rw [hz_o (cput_b (by omega)) (by decide)]
      refine c_bor hW (by omega) (by omega) hkc k4 (p2 := s_RE fm k) (by rw [e1]; exact kn1) (by omega) (fun u1 hu1 => ?_)
      rw [cg_reads, ca_reads]
      refine ⟨ic, ?_⟩
      intro r270 e270
      rw [cc] at e270
      subst e270
      rw [cg_reads, ca_reads]
      refine ⟨ik, ?_⟩
      intro r278 e278
      rw [ck] at e278
      subst e278
      refine ⟨0, 0, by decide, by decide, ?_⟩
      rw [hz_o (cput_b (by omega)) (by decide)]
      refine c_bor (p := fun x => ∃ m ∈ fm c, m.1 < k ∧ s_RD fm ly m.1 x) hW (by omega) (by omega) (by omega) (by rw [kB_o (by omega)]; exact k5) (p2 := s_RD fm ly k) (by rw [kB_o (by omega), e2]; exact kn2) (by omega) (fun u2 hu2 => ?_)
      have t1' : cFc c σ (cuB (cuB τ c u1) (24 + c) u2) := (t1.tr (cFc_b (Or.inl rfl))).tr (cFc_b (Or.inr (Or.inl rfl)))
      have t2' := (t2.b (b := c) hu1).b (b := 24 + c) hu2
      have c1' : (cuB (cuB τ c u1) (24 + c) u2).2.2.2.2.2.2.2.1 c = u1 := by rw [kB_o (by omega), kB_s]
      have c2' : (cuB (cuB τ c u1) (24 + c) u2).2.2.2.2.2.2.2.1 (24 + c) = u2 := kB_s
      have t3' : (cuB (cuB τ c u1) (24 + c) u2).2.2.2.2.1 14 c = 1 := t3
      generalize cuB (cuB τ c u1) (24 + c) u2 = τ2 at t1' t2' c1' c2' t3' ⊢
      rw [ch_R hW q3 (r := some nb) rfl (by decide)]
      refine ⟨by decide, by decide, ?_⟩
      rw [ch_o hW y1 (by decide), nI_1]
      refine st (k + 1) τ2 (by omega) ?_ ?_ _ (fun x hx2 => ?_)
      · rw [c1']
        refine hu1.cg (fun x _ => ⟨fun z => ?_, fun z => ?_⟩)
        · rcases z with (z | ⟨m', a1, a2, a3⟩) | z
          · exact Or.inl z
          · exact Or.inr ⟨m', a1, by omega, a3⟩
          · exact Or.inr ⟨m, m1, by omega, by rw [m2]; exact z⟩
        · rcases z with z | ⟨m', a1, a2, a3⟩
          · exact Or.inl (Or.inl z)
          · by_cases e : m'.1 = k
            · rw [e] at a3; exact Or.inr a3
            · exact Or.inl (Or.inr ⟨m', a1, by omega, a3⟩)
      · rw [c2']
        refine hu2.cg (fun x _ => ⟨fun z => ?_, fun z => ?_⟩)
        · rcases z with ⟨m', a1, a2, a3⟩ | z
          · exact ⟨m', a1, by omega, a3⟩
          · exact ⟨m, m1, by omega, by rw [m2]; exact z⟩
        · obtain ⟨m', a1, a2, a3⟩ := z
          by_cases e : m'.1 = k
          · rw [e] at a3; exact Or.inr a3
          · exact Or.inl ⟨m', a1, by omega, a3⟩
      · have hnk := hn k k2 rfl
        have hlow : ∀ k', k' < 24 → x = nI k' → k < k' := by
          intro k' h1 h2
          rcases (eNx _ _ _).mp hx2 with ⟨k3, j1, j2, -, e, -⟩ | ⟨e, -⟩
          · rw [e, nI_eq (by omega) (by omega)] at h2; omega
          · rw [e] at h2; exact absurd h2.symm (nI_ne_m1 (by omega))
        obtain ⟨n2, hn2⟩ := msr hx2
        by_cases hex : ∃ k', k' < 24 ∧ x = nI k'
        · obtain ⟨k', j1, j2⟩ := hex
          have := hn2 k' j1 j2
          have := hlow k' j1 j2
          exact ⟨n2, by omega, τ2, k + 1, rfl, rfl, rfl, rfl, rfl, t1', t2', t3', hx2, hn2⟩
        · exact ⟨0, by omega, τ2, k + 1, rfl, rfl, rfl, rfl, rfl, t1', t2', t3', hx2, fun k' h1 h2 => absurd ⟨k', h1, h2⟩ hex⟩
end RE
