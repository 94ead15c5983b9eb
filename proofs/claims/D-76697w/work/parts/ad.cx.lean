set_option maxRecDepth 100000
/-! the component's telling: the sheet as it holds it, the case at hand, what is kept of what was told -/
section CX
variable {l : Launch} {g : zG} {d x0 : Nat} {P : cP} {σ σ' σ1 σ2 : cS} {hp : zHp} {nx : Nat} {fm : sF} {ly : sY} {kd : Nat → Int32} {rk : Nat → Nat} {X : cX}
/-- bits of a BitSet -/
def cBs (B : (Nat → Int64) × Int32) (p : Nat → Prop) : Prop := B.2 = (if B.1 0 = 0 then 0 else 1) ∧ ∀ x, x < 64 → (lb (B.1 0) x = true ↔ p x)
/-- a row of Integers -/
def cNe (hp : zHp) : Option Nat → List Nat → Prop
  | r, [] => r = none
  | r, t :: ts => ∃ a b r2 pv, r = some a ∧ hp a = some (.inr (37, [.ref b, va_rf r2, pv])) ∧ hp b = some (.inr (41, [.int (nI t)])) ∧ cNe hp r2 ts
def cAs (hp : zHp) (a : Nat) (ts : List Nat) : Prop := ∃ md r la, hp a = some (.inr (36, [.int md, .int (nI ts.length), va_rf r, va_rf la])) ∧ cNe hp r ts ∧ (ts.length = 1 → la = r)
/-- the tables that a formula asks -/
def s_at (ms : List sM) : List Nat := (ms.filter (fun m => decide (300 ≤ m.1))).map (fun m => m.1 % 10)
/-- the cells that it names, the tables that it asks -/
def cFx (g : zG) (hp : zHp) (nb as : Nat) (ms : List sM) : Prop := (∃ w, cBo g hp nb w ∧ ∀ x, x < 64 → (lb w x = true ↔ x < 24 ∧ ∃ m ∈ ms, m.1 = x)) ∧ cAs hp as (s_at ms)
def cFm (g : zG) (x0 : Nat) (hp : zHp) (r : Option Nat) (ms : List sM) : Prop := (ms = [] ∧ r = none) ∨ ∃ a root nb as n, ms ≠ [] ∧ r = some a ∧ hp a = some (.inr (30, [.ref root, .ref nb, .ref as])) ∧ n ≤ 24 ∧ cNd hp x0 n root ms ∧ cFx g hp nb as ms
def cLy (g : zG) (hp : zHp) (t : Nat) (r : Option Nat) (o : Option sL) : Prop := (o = none ∧ r = none) ∨ ∃ a L, o = some L ∧ r = some a ∧ cTb g hp a t L ∧ cTk L
/-- the sheet as the component holds it: what telling rests on -/
def cSH (g : zG) (x0 : Nat) (P : cP) (hp : zHp) (X : cX) (fm : sF) (ly : sY) (kd : Nat → Int32) : Prop := (∀ c, c < 24 → X.2.2.1 0 c = some (P.1 c)) ∧ (∀ c, c < 24 → kd c = cKi (P.2.1 c)) ∧ (∀ c, c < 24 → cFm g x0 hp (X.2.2.2.2.2.2.1 c) (fm c)) ∧ (∀ t, t < 6 → cLy g hp t (X.2.2.1 1 t) (ly t)) ∧ (∀ c, c < 24 → cBs (X.2.2.2.1 (24 + c)) (s_RD fm ly c))
/-- what telling rests on, no program in sight -/
def sST (fm : sF) (ly : sY) (rk : Nat → Nat) : Prop := s_rk fm ly rk ∧ s_mo fm ∧ (∀ x, x < 30 → rk x < 30) ∧ s_BF fm ∧ s_BL ly ∧ ∀ c, c < 24 → (fm c).length ≤ 96
/-- what the inputs hold -/
abbrev cNaN : UInt64 := 9221120237041090560
def cOW (fm : sF) (kd : Nat → Int32) (own : Nat → UInt64) (ow : sO) : Prop := s_BO ow ∧ ∀ c, c < 24 → fm c = [] → (ow c = none ∧ own c = cNaN) ∨ ∃ v, ow c = some v ∧ own c = s_kp (kd c) v ∧ s_B v
/-- cases, the places of cells in them -/
def cCx (fm : sF) (ly : sY) (kd : Nat → Int32) (s N : Nat) (pl : Nat → Nat → Nat) (ows : Nat → sO) : Prop := s < 7 ∧ (∀ x, x < N → ∀ e, e < 24 → pl x e < 24 * cWd s ∧ pl x e / cWd s = e) ∧ ∀ x y, x < N → y < N → ∀ e, e < 24 → pl x e = pl y e → (∀ r, s_RD fm ly e r → (ows x r).map (s_kp (kd r)) = (ows y r).map (s_kp (kd r))) ∧ ∀ q, s_RE fm e q → pl x q = pl y q
def cFl (s : Nat) (G : cG) (k : Nat) : Prop := k < 24 * cWd s ∧ G.1 3 k = G.2.2
def cRt (G : cG) (k : Nat) (r : sT) : Prop := G.1 4 k = r.2.1 ∧ (r.2.1 = 0 → G.2.1 1 k = r.1) ∧ (r.2.1 ≠ 0 → G.1 5 k = r.2.2)
def cMem (fm : sF) (ly : sY) (kd : Nat → Int32) (s N : Nat) (pl : Nat → Nat → Nat) (ows : Nat → sO) (G : cG) : Prop := ∀ k, cFl s G k → ∃ x e, x < N ∧ e < 24 ∧ fm e ≠ [] ∧ pl x e = k ∧ cRt G k (s_EV fm ly kd (ows x) e) ∧ ∀ q, s_RE fm e q → fm q ≠ [] → cFl s G (pl x q)
/-- how often it's told -/
noncomputable def s_ak (fm : sF) (ly : sY) (kd : Nat → Int32) (ms : List sM) : Nat := (ms.map (fun m => if 300 ≤ m.1 then (match ly (m.1 % 10) with | none => 0 | some _ => s_TL fm ly kd (m.1 % 10)) else 0)).sum
noncomputable def s_wt (fm : sF) (ly : sY) (kd : Nat → Int32) (c : Nat) : Nat := 1 + s_ak fm ly kd (fm c)
noncomputable def cSW (fm : sF) (ly : sY) (kd : Nat → Int32) (s : Nat) (F : Nat → Prop) : Nat := s_sm (fun k => s_if (F k) (s_wt fm ly kd (k / cWd s)) 0) (24 * cWd s)
theorem s_ak_append {ms ns : List sM} : s_ak fm ly kd (ms ++ ns) = s_ak fm ly kd ms + s_ak fm ly kd ns := by unfold s_ak; rw [List.map_append, List.sum_append]
theorem s_sm_1 {f h : Nat → Nat} {j w : Nat} : ∀ {n : Nat}, j < n → (∀ k, k < n → k ≠ j → f k = h k) → f j = h j + w → s_sm f n = s_sm h n + w := by
  intro n
  induction n with
  | zero => intro q; exact absurd q (Nat.not_lt_zero _)
  | succ n ih =>
    intro hj e1 e2
    show s_sm f n + f n = s_sm h n + h n + w
    by_cases e : j = n
    · subst e
      rw [s_sm_congr (f := f) (h := h) (fun k hk => e1 k (by omega) (by omega)), e2]
      omega
    · rw [ih (by omega) (fun k hk => e1 k (by omega)) e2, e1 n (by omega) (by omega)]
      omega
theorem cSW_congr {s : Nat} {F F' : Nat → Prop} (h : ∀ k, k < 24 * cWd s → (F k ↔ F' k)) : cSW fm ly kd s F = cSW fm ly kd s F' := by
  unfold cSW
  refine s_sm_congr (fun k hk => ?_)
  by_cases q : F k
  · rw [s_if_p q, s_if_p ((h k hk).mp q)]
  · rw [s_if_n q, s_if_n (fun z => q ((h k hk).mpr z))]
theorem cSW_mono {s : Nat} {F F' : Nat → Prop} (h : ∀ k, k < 24 * cWd s → F k → F' k) : cSW fm ly kd s F ≤ cSW fm ly kd s F' := by
  unfold cSW
  refine s_sm_le (fun k hk => ?_)
  by_cases q : F k
  · rw [s_if_p q, s_if_p (h k hk q)]; exact Nat.le_refl _
  · rw [s_if_n q]; exact Nat.zero_le _
theorem cSW_one {s : Nat} {F F' : Nat → Prop} {k0 : Nat} (hk : k0 < 24 * cWd s) (h0 : ¬ F k0) (h : ∀ k, k < 24 * cWd s → (F' k ↔ F k ∨ k = k0)) : cSW fm ly kd s F' = cSW fm ly kd s F + s_wt fm ly kd (k0 / cWd s) := by
  unfold cSW
  refine s_sm_1 hk (fun k h1 h2 => ?_) ?_
  · by_cases q : F k
    · rw [s_if_p q, s_if_p ((h k h1).mpr (Or.inl q))]
    · rw [s_if_n q, s_if_n (fun z => ((h k h1).mp z).elim q h2)]
  · rw [s_if_n h0, s_if_p ((h k0 hk).mpr (Or.inr rfl)), Nat.zero_add]
/-- stamps only rise -/
def cSt (σ : cS) (M : Nat) : Prop := ∀ s, s < 7 → ∃ j, j ≤ M ∧ (σ.2.2.1 s).2.2 = nI j ∧ ∀ k, k < 24 * cWd s → ∃ i, i ≤ j ∧ (σ.2.2.1 s).1 3 k = nI i
/-- what telling in a sight leaves alone -/
def cFr (rk : Nat → Nat) (R s : Nat) (σ σ' : cS) : Prop := σ'.2.2.2 = σ.2.2.2 ∧ σ'.2.1 = σ.2.1 ∧ (∀ k, k ≠ 2 → k ≠ 3 → k ≠ 10 → σ'.1 k = σ.1 k) ∧ (∀ q, q < 7 → q ≠ s → (q = 6 ∨ R ≤ rk (24 + q)) → σ'.2.2.1 q = σ.2.2.1 q) ∧ (∀ k, k ≠ 3 → k ≠ 4 → k ≠ 5 → (σ'.2.2.1 s).1 k = (σ.2.2.1 s).1 k) ∧ (∀ k, k ≠ 1 → (σ'.2.2.1 s).2.1 k = (σ.2.2.1 s).2.1 k) ∧ (σ'.2.2.1 s).2.2 = (σ.2.2.1 s).2.2
theorem cFr.rf {R s : Nat} : cFr rk R s σ σ := ⟨rfl, rfl, fun _ _ _ _ => rfl, fun _ _ _ _ => rfl, fun _ _ _ _ => rfl, fun _ _ => rfl, rfl⟩
theorem cFr.tr {R R1 R2 s : Nat} (h1 : cFr rk R1 s σ σ1) (h2 : cFr rk R2 s σ1 σ2) (l1 : R1 ≤ R) (l2 : R2 ≤ R) : cFr rk R s σ σ2 :=
  ⟨h2.1.trans h1.1, h2.2.1.trans h1.2.1, fun k a b c => (h2.2.2.1 k a b c).trans (h1.2.2.1 k a b c), fun q a b c => (h2.2.2.2.1 q a b (c.imp id (fun z => Nat.le_trans l2 z))).trans (h1.2.2.2.1 q a b (c.imp id (fun z => Nat.le_trans l1 z))), fun k a b c => (h2.2.2.2.2.1 k a b c).trans (h1.2.2.2.2.1 k a b c), fun k a => (h2.2.2.2.2.2.1 k a).trans (h1.2.2.2.2.2.1 k a), h2.2.2.2.2.2.2.trans h1.2.2.2.2.2.2⟩
/-- what the cases of a table leave alone -/
def cFu (rk : Nat → Nat) (t : Nat) (σ σ' : cS) : Prop := σ'.2.2.2 = σ.2.2.2 ∧ σ'.2.1 = σ.2.1 ∧ (∀ k, k ≠ 10 → σ'.1 k = σ.1 k) ∧ ∀ q, q < 7 → q ≠ t → (q = 6 ∨ rk (24 + t) ≤ rk (24 + q)) → σ'.2.2.1 q = σ.2.2.1 q
theorem cFu.fr {R s t : Nat} (h : cFu rk t σ σ') (ht : rk (24 + t) < R) (ht6 : t < 6) (hs : s < 7) (h2 : s = 6 ∨ R ≤ rk (24 + s)) : cFr rk R s σ σ' := by
  have hne : ∀ q, (q = 6 ∨ R ≤ rk (24 + q)) → q ≠ t := by
    rintro q (z | z) rfl
    · omega
    · omega
  have e : ∀ q, q < 7 → (q = 6 ∨ R ≤ rk (24 + q)) → σ'.2.2.1 q = σ.2.2.1 q := fun q hq z => h.2.2.2 q hq (hne q z) (z.imp id (fun y => by omega))
  have es := e s hs h2
  exact ⟨h.1, h.2.1, fun k _ _ c => h.2.2.1 k c, fun q hq _ z => e q hq z, fun k _ _ _ => by rw [es], fun k _ => by rw [es], by rw [es]⟩
/-- where we are -/
def cWh (g : zG) (hp : zHp) (fm : sF) (ly : sY) (s : Nat) (p : Nat → Nat) (σ : cS) : Prop :=
  (s = 6 ∧ σ.2.1 = none ∧ ∀ c, c < 24 → p c = c) ∨ ∃ a L i j fi fj, s < 6 ∧ σ.2.1 = some a ∧ cTb g hp a s L ∧ cTk L ∧ σ.1 8 = nI i ∧ σ.1 9 = nI j ∧ i < 8 ∧ j < 8 ∧ fi < 8 ∧ fj < 8 ∧ (σ.2.2.1 s).1 10 i = nI fi ∧ (L.2.2.1 ≠ none → (σ.2.2.1 s).1 11 j = nI fj) ∧ ∀ c, c < 24 → p c = 64 * c + 8 * (s_if (s_RD fm ly c L.2.1) fi 0) + (match L.2.2.1 with | none => 0 | some o => s_if (s_RD fm ly c o) fj 0)
theorem cWh.cg {s : Nat} {p : Nat → Nat} (h : cWh g hp fm ly s p σ) (e1 : σ'.2.1 = σ.2.1) (e2 : σ'.1 8 = σ.1 8) (e3 : σ'.1 9 = σ.1 9) (e4 : (σ'.2.2.1 s).1 10 = (σ.2.2.1 s).1 10) (e5 : (σ'.2.2.1 s).1 11 = (σ.2.2.1 s).1 11) : cWh g hp fm ly s p σ' := by
  rcases h with ⟨h1, h2, h3⟩ | ⟨a, L, i, j, fi, fj, h1, h2, h3, h4, h5, h6, i1, i2, i3, i4, h7, h8, h9⟩
  · exact Or.inl ⟨h1, e1.trans h2, h3⟩
  · exact Or.inr ⟨a, L, i, j, fi, fj, h1, e1.trans h2, h3, h4, e2.trans h5, e3.trans h6, i1, i2, i3, i4, by rw [e4]; exact h7, fun q => by rw [e5]; exact h8 q, h9⟩
theorem cWh.fr {R s : Nat} {p : Nat → Nat} (h : cWh g hp fm ly s p σ) (hf : cFr rk R s σ σ') : cWh g hp fm ly s p σ' :=
  h.cg hf.2.1 (hf.2.2.1 8 (by decide) (by decide) (by decide)) (hf.2.2.1 9 (by decide) (by decide) (by decide)) (hf.2.2.2.2.1 10 (by decide) (by decide) (by decide)) (hf.2.2.2.2.1 11 (by decide) (by decide) (by decide))
theorem c_bo {b : Nat} {p : Nat → Prop} (hb : b < 49) (h : cBs (σ.2.2.2.2.2.2.2.1 b) p) : cBo g (cput g x0 P σ hp) (x0 + cBA b) ((σ.2.2.2.2.2.2.2.1 b).1 0) := ⟨_, _, by rw [cput_b hb, h.1], cput_w hb, rfl⟩
theorem b_getI {a k : Nat} {w : Int64} {K : Int32 → zHp → Nat → Prop} (hd : 2 ≤ d) (hb : cBo g hp a w) (hk : k < 64) (hK : ∀ x : Int32, (x = 1 ∧ lb w k = true) ∨ (x = 0 ∧ lb w k = false) → K x hp nx) : zMt l g yJ0_get cJ0_get 3 (some .boolean) d 0 0 [.ref a, .int (nI k)] hp nx (zQi g K) :=
  b_get hd hb hk (fun z => hK 1 (Or.inl ⟨rfl, z⟩)) (fun z => hK 0 (Or.inr ⟨rfl, z⟩))
theorem c_place {c s : Nat} {p : Nat → Nat} {K : Int32 → zHp → Nat → Prop} (hd : 3 ≤ d) (hW : cW g x0 P hp) (hS : cSH g x0 P hp σ.2.2.2.2 fm ly kd) (h : cWh g hp fm ly s p σ) (hc : c < 24) (hK : K (nI (p c)) (cput g x0 P σ hp) nx) : zMt l g yX0_place cX0_place 5 (some .int) d 0 0 [.ref x0, .int (nI c), va_rf (some (x0 + cSA s))] (cput g x0 P σ hp) nx (zQi g K) := by
  obtain ⟨d, rfl⟩ := Nat.exists_eq_add_of_le' (show 1 ≤ d by omega)
  have cc : (nI c).toNatClampNeg = c := nI_clamp (by omega)
  have ic : vp_in (nI c) 24 := vp_in_nI hc (by decide)
  have hbs := hS.2.2.2.2 c hc
  have hbo := c_bo (g := g) (x0 := x0) (P := P) (hp := hp) (b := 24 + c) (by omega) hbs
  apply met_X0_place
  unfold wp_X0_place
  rcases h with ⟨h1, h2, h3⟩ | ⟨a, L, i, j, fi, fj, h1, h2, h3, h4, h5, h6, i1, i2, i3, i4, h7, h8, h9⟩
  · rw [cg_now, h2]
    rw [h3 c hc] at hK
    exact ⟨fun _ => hK, fun z => absurd rfl z⟩
  · have hs7 : s < 7 := by omega
    have ws : cWd s = 64 := by unfold cWd; rw [if_pos h1]
    have ci : (nI i).toNatClampNeg = i := nI_clamp (by omega)
    have ii : vp_in (nI i) 8 := vp_in_nI i1 (by decide)
    have cj : (nI j).toNatClampNeg = j := nI_clamp (by omega)
    have ij : vp_in (nI j) 8 := vp_in_nI i2 (by decide)
    obtain ⟨a1, r2, t1, t2, t3⟩ := h3
    have ha1 : ∃ b1, hp a1 = some (.inr (32, [.int (nI L.2.1), .ref b1])) := by obtain ⟨b1, f1, q1, -, -⟩ := t2; exact ⟨b1, q1⟩
    obtain ⟨b1, t4⟩ := ha1
    have m1 : ∀ {Q : Option Nat → Prop}, zgR (cput g x0 P σ hp) (some a) [31] 2 Q = Q (some a1) := fun {Q} => ch_R hW t1 (k := 2) (r := some a1) rfl (by decide)
    have m2 : ∀ {Q : Option Nat → Prop}, zgR (cput g x0 P σ hp) (some a) [31] 3 Q = Q r2 := fun {Q} => ch_R hW t1 (k := 3) (r := r2) rfl (by decide)
    have m3 : ∀ {Q : Int32 → Prop}, zgI (cput g x0 P σ hp) (some a1) [32] 0 Q = Q (nI L.2.1) := fun {Q} => ch_I hW t4 (k := 0) rfl (by decide)
    rw [cg_now, h2]
    refine ⟨fun z => (by cases z), fun _ => ?_⟩
    simp only [cg_reads, ca_reads, cc, ic, true_and, forall_eq, cg_now, h2, m1, m2, m3]
    refine zo_i rfl (cput_b (by omega)) (by decide) ?_
    obtain ⟨u, eu⟩ : ∃ u, u = s_if (s_RD fm ly c L.2.1) fi 0 := ⟨_, rfl⟩
    obtain ⟨w, ew⟩ : ∃ w, w = (match L.2.2.1 with | none => 0 | some o => s_if (s_RD fm ly c o) fj 0) := ⟨_, rfl⟩
    have hpc : p c = 64 * c + 8 * u + w := by rw [h9 c hc, eu, ew]
    have hend : ∀ {y : Nat}, y = w → K (((nI (cWd s) * nI c) + ((8 : Int32) * nI u)) + nI y) (cput g x0 P σ hp) nx := by
      rintro y rfl
      rw [ws, pk_mul, show (8 : Int32) = nI 8 from rfl, pk_mul, nI_add, nI_add, ← hpc]
      exact hK
    refine b_getI (by omega) hbo (by have := h4.2.1; omega) (fun x hx => ?_)
    refine ⟨fun x hp1 nx1 => x = nI u ∧ hp1 = cput g x0 P σ hp ∧ nx = nx1, ?_, fun z => ?_, fun z => ?_⟩
    · rintro x hp1 nx1 ⟨rfl, rfl, rfl⟩
      simp only [cg_now, h2, m2]
      refine ⟨fun x y hp1 nx1 => x = nI u ∧ y = nI w ∧ hp1 = cput g x0 P σ hp ∧ nx = nx1, ?_, ?_⟩
      · rintro x y hp1 nx1 ⟨rfl, rfl, rfl, rfl⟩
        rw [cs_width hs7]
        exact hend rfl
      refine ⟨fun x hp1 nx1 => w = 0 ∧ x = nI u ∧ hp1 = cput g x0 P σ hp ∧ nx = nx1, ?_, fun z => ?_, fun z => ?_⟩
      · rintro x hp1 nx1 ⟨e0, rfl, rfl, rfl⟩
        exact ⟨rfl, by rw [e0]; rfl, rfl, rfl⟩
      · refine ⟨?_, rfl, rfl, rfl⟩
        rcases t3 with ⟨q1, -⟩ | ⟨b, a2, -, q2, -⟩
        · rw [ew, q1]
        · rw [z] at q2; cases q2
      · rcases t3 with ⟨-, q1⟩ | ⟨b, a2, q1, q2, q3⟩
        · exact absurd q1 z
        subst q2
        obtain ⟨b2, t5⟩ : ∃ b1, hp a2 = some (.inr (32, [.int (nI b), .ref b1])) := by obtain ⟨b1, f1, q1, -, -⟩ := q3; exact ⟨b1, q1⟩
        have hb24 : b < 24 := (h4.2.2.2.2 b q1).1
        have m4 : ∀ {Q : Int32 → Prop}, zgI (cput g x0 P σ hp) (some a2) [32] 0 Q = Q (nI b) := fun {Q} => ch_I hW t5 (k := 0) rfl (by decide)
        simp only [cg_reads, ca_reads, cc, ic, true_and, forall_eq, cg_now, h2, m2, m4]
        refine zo_i rfl (cput_b (by omega)) (by decide) ?_
        rw [q1] at ew
        refine b_getI (by omega) hbo (by omega) (fun x hx => ?_)
        refine ⟨fun z1 => ⟨?_, rfl, rfl⟩, fun z1 => ?_⟩
        · rw [ew]
          refine s_if_n (fun y => ?_)
          rcases hx with hx | hx
          · rw [hx.1] at z1; exact absurd z1 (by decide)
          · rw [(hbs.2 _ (by omega)).mpr y] at hx; cases hx.2
        · have hx : lb ((σ.2.2.2.2.2.2.2.1 (24 + c)).1 0) b = true := by
            rcases hx with hx | hx
            · exact hx.2
            · exact absurd hx.1 z1
          have e2 : w = fj := by rw [ew]; exact s_if_p ((hbs.2 _ (by omega)).mp hx)
          simp only [cs_firstOthers hs7, cg_atOther, h6, csa_firstOthers hs7, cj, ij, true_and, forall_eq, h8 (by rw [q1]; exact fun q => by cases q)]
          rw [e2]
          simp
    · refine ⟨?_, rfl, rfl⟩
      rw [eu, s_if_n (fun y => ?_)]
      · rfl
      rcases hx with hx | hx
      · rw [hx.1] at z; exact absurd z (by decide)
      · rw [(hbs.2 _ (by have := h4.2.1; omega)).mpr y] at hx; cases hx.2
    · have hx : lb ((σ.2.2.2.2.2.2.2.1 (24 + c)).1 0) L.2.1 = true := by
        rcases hx with hx | hx
        · exact hx.2
        · exact absurd hx.1 z
      have e2 : u = fi := by rw [eu]; exact s_if_p ((hbs.2 _ (by have := h4.2.1; omega)).mp hx)
      simp only [cs_firstOnes hs7, cg_atOne, h5, csa_firstOnes hs7, ci, ii, true_and, forall_eq, h7]
      rw [e2]
      simp
end CX
