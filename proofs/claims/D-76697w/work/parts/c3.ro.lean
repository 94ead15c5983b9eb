set_option maxRecDepth 100000
/-! rows get other arrays; film -/
section RO
variable {l : Launch} {g : zG} {d x0 : Nat} {P P' : cP} {σ σ' : cS} {hp hp' : zHp} {nx M M' : Nat} {A : sV} {S : sSt} {fm : sF} {ly : sY} {kd : Nat → Int32} {mc ms kc ks : Nat}
def cPrw (P : cP) (r : Nat) (o : Option (Nat × Nat × Nat)) : cP := (P.1, P.2.1, va_up P.2.2 r o)
def cHr (g : zG) (P : cP) (σ : cS) (hp : zHp) (r : Nat) : zHp := match P.2.2 r with
  | none => hp
  | some q => va_up hp q.1 (some (.inl (g.2.1 q.2.1, q.2.2, σ.2.2.2.2.2.2.2.2.2.2.2 r)))
theorem cHr_n {r : Nat} (h : P.2.2 r = none) : cHr g P σ hp r = hp := by unfold cHr; rw [h]
theorem cHr_s {r b t n : Nat} (h : P.2.2 r = some (b, t, n)) : cHr g P σ hp r = va_up hp b (some (.inl (g.2.1 t, n, σ.2.2.2.2.2.2.2.2.2.2.2 r))) := by unfold cHr; rw [h]
theorem cDrL {r : Nat} (hW : cW g x0 P hp) (hr : r < 4) : hLe hp (cHr g P σ hp r) := by
  cases h : P.2.2 r with
  | none => rw [cHr_n h]; exact hLe.rf
  | some q =>
    obtain ⟨b, t, n⟩ := q
    rw [cHr_s h]
    exact hLe.up (hW.2.2.2.2.1 r b t n hr h).2.1
theorem cDrW {r : Nat} (hW : cW g x0 P hp) (hr : r < 4) : cW g x0 (cPrw P r none) (cHr g P σ hp r) := by
  obtain ⟨w1, w2, w3, w4, w5, w6⟩ := hW
  have hp2 : ∀ r' a t n, (cPrw P r none).2.2 r' = some (a, t, n) → r' ≠ r ∧ P.2.2 r' = some (a, t, n) := by
    intro r' a t n h
    have h : va_up P.2.2 r none r' = some (a, t, n) := h
    by_cases q : r' = r
    · subst q; rw [va_s] at h; cases h
    · rw [va_o q] at h; exact ⟨q, h⟩
  cases h : P.2.2 r with
  | none =>
    rw [cHr_n h]
    exact ⟨w1, w2, w3, w4, fun r' a t n hr' e => w5 r' a t n hr' (hp2 r' a t n e).2, fun r1 r2 a t n t' n' h1 h2 e1 e2 => w6 r1 r2 a t n t' n' h1 h2 (hp2 _ _ _ _ e1).2 (hp2 _ _ _ _ e2).2⟩
  | some q =>
    obtain ⟨b, t, n⟩ := q
    obtain ⟨y1, y2, y3, y4⟩ := w5 r b t n hr h
    rw [cHr_s h]
    refine ⟨w1, fun q hq => ?_, fun c hc => ?_, w4, fun r' a t' n' hr' e => ?_, fun r1 r2 a t n t' n' h1 h2 e1 e2 => w6 r1 r2 a t n t' n' h1 h2 (hp2 _ _ _ _ e1).2 (hp2 _ _ _ _ e2).2⟩
    · rw [va_o (fun z => y1 (by rw [← z]; exact hq))]; exact w2 q hq
    · obtain ⟨z1, z2, z3⟩ := w3 c hc
      exact ⟨z1, by show va_up hp b _ (P.1 c) = none; rw [va_o (y4 c hc)]; exact z2, z3⟩
    · obtain ⟨q, e⟩ := hp2 r' a t' n' e
      obtain ⟨z1, z2, z3, z4⟩ := w5 r' a t' n' hr' e
      refine ⟨z1, ?_, z3, z4⟩
      rw [va_o (fun z => q (by subst z; exact w6 r' r a t' n' t n hr' hr e h))]
      exact z2
theorem cDrE {r : Nat} (hW : cW g x0 P hp) (hr : r < 4) : cput g x0 P σ hp = cput g x0 (cPrw P r none) σ (cHr g P σ hp r) := by
  have hW' := cDrW (σ := σ) hW hr
  have hp2 : ∀ r' a t n, (cPrw P r none).2.2 r' = some (a, t, n) → r' ≠ r ∧ P.2.2 r' = some (a, t, n) := by
    intro r' a t n h
    have h : va_up P.2.2 r none r' = some (a, t, n) := h
    by_cases q : r' = r
    · subst q; rw [va_s] at h; cases h
    · rw [va_o q] at h; exact ⟨q, h⟩
  funext y
  by_cases hi : cIn x0 y
  · unfold cput
    rw [s_if_p hi, s_if_p hi]
  by_cases hc : ∃ c, c < 24 ∧ P.1 c = y
  · obtain ⟨c, hc, rfl⟩ := hc
    rw [cput_c hW hc]
    exact (cput_c (σ := σ) hW' hc).symm
  by_cases hx : ∃ r' t n, r' < 4 ∧ P.2.2 r' = some (y, t, n)
  · obtain ⟨r', t, n, hr', e⟩ := hx
    rw [cput_r hW hr' e]
    by_cases q : r' = r
    · subst q
      have : cHr g P σ hp r' y = some (.inl (g.2.1 t, n, σ.2.2.2.2.2.2.2.2.2.2.2 r')) := by rw [cHr_s e, va_s]
      exact (cput_h hW' this).symm
    · have : (cPrw P r none).2.2 r' = some (y, t, n) := by show va_up P.2.2 r none r' = _; rw [va_o q]; exact e
      exact (cput_r (σ := σ) hW' hr' this).symm
  · have hx' : ¬ ∃ r' t n, r' < 4 ∧ (cPrw P r none).2.2 r' = some (y, t, n) := by
      rintro ⟨r', t, n, hr', e⟩
      exact hx ⟨r', t, n, hr', (hp2 _ _ _ _ e).2⟩
    unfold cput cRoH cPlH
    rw [s_if_n hi, s_if_n hi, s_if_n hx, s_if_n hx', s_if_n hc, s_if_n (show ¬ ∃ c, c < 24 ∧ (cPrw P r none).1 c = y from hc)]
    cases h : P.2.2 r with
    | none => rw [cHr_n h]
    | some q =>
      obtain ⟨b, t, n⟩ := q
      rw [cHr_s h, va_o (fun z => hx ⟨r, t, n, hr, by rw [z]; exact h⟩)]
theorem cTkW {r a t n : Nat} (hW : cW g x0 P hp) (h0 : P.2.2 r = none) (hq : ¬ cOv x0 P a) (hz : zB g ≤ a) : cW g x0 (cPrw P r (some (a, t, n))) (va_up hp a none) := by
  obtain ⟨w1, w2, w3, w4, w5, w6⟩ := hW
  have na : ∀ e, e < 24 → P.1 e ≠ a := fun e he z => hq (Or.inr (Or.inl ⟨e, he, z⟩))
  have hp2 : ∀ r' b t' n', (cPrw P r (some (a, t, n))).2.2 r' = some (b, t', n') → (r' = r ∧ b = a) ∨ (r' ≠ r ∧ P.2.2 r' = some (b, t', n')) := by
    intro r' b t' n' h
    have h : va_up P.2.2 r (some (a, t, n)) r' = some (b, t', n') := h
    by_cases q : r' = r
    · subst q; rw [va_s] at h; cases h; exact Or.inl ⟨rfl, rfl⟩
    · rw [va_o q] at h; exact Or.inr ⟨q, h⟩
  have nr : ∀ r' t' n', r' < 4 → P.2.2 r' ≠ some (a, t', n') := fun r' t' n' hr' z => hq (Or.inr (Or.inr ⟨r', t', n', hr', z⟩))
  refine ⟨w1, fun q h => ?_, fun c hc => ?_, w4, fun r' b t' n' hr' e => ?_, fun r1 r2 b t1 n1 t2 n2 h1 h2 e1 e2 => ?_⟩
  · rw [va_o (fun z => hq (Or.inl (by rw [← z]; exact h)))]; exact w2 q h
  · obtain ⟨z1, z2, z3⟩ := w3 c hc
    exact ⟨z1, by show va_up hp a none (P.1 c) = none; rw [va_o (na c hc)]; exact z2, z3⟩
  · rcases hp2 _ _ _ _ e with ⟨-, rfl⟩ | ⟨q, e⟩
    · exact ⟨fun z => hq (Or.inl z), va_s, hz, na⟩
    · obtain ⟨z1, z2, z3, z4⟩ := w5 r' b t' n' hr' e
      refine ⟨z1, ?_, z3, z4⟩
      by_cases y : b = a
      · rw [y, va_s]
      · rw [va_o y]; exact z2
  · rcases hp2 _ _ _ _ e1 with ⟨q1, rfl⟩ | ⟨q1, f1⟩
    · rcases hp2 _ _ _ _ e2 with ⟨q2, -⟩ | ⟨q2, f2⟩
      · rw [q1, q2]
      · exact absurd f2 (nr _ _ _ h2)
    · rcases hp2 _ _ _ _ e2 with ⟨q2, rfl⟩ | ⟨q2, f2⟩
      · exact absurd f1 (nr _ _ _ h1)
      · exact w6 r1 r2 b t1 n1 t2 n2 h1 h2 f1 f2
theorem cTkE {r a t n : Nat} {x : cAr} (hr : r < 4) (hW : cW g x0 P hp) (h0 : P.2.2 r = none) (hq : ¬ cOv x0 P a) (ha : hp a = some (.inl (g.2.1 t, n, x))) (hz : zB g ≤ a) : cput g x0 P σ hp = cput g x0 (cPrw P r (some (a, t, n))) (cuC σ (va_up σ.2.2.2.2.2.2.2.2.2.2.2 r x)) (va_up hp a none) := by
  have hW' := cTkW (t := t) (n := n) hW h0 hq hz
  have hp2 : ∀ r' b t' n', (cPrw P r (some (a, t, n))).2.2 r' = some (b, t', n') → (r' = r ∧ b = a) ∨ (r' ≠ r ∧ P.2.2 r' = some (b, t', n')) := by
    intro r' b t' n' h
    have h : va_up P.2.2 r (some (a, t, n)) r' = some (b, t', n') := h
    by_cases q : r' = r
    · subst q; rw [va_s] at h; cases h; exact Or.inl ⟨rfl, rfl⟩
    · rw [va_o q] at h; exact Or.inr ⟨q, h⟩
  funext y
  by_cases hi : cIn x0 y
  · unfold cput
    rw [s_if_p hi, s_if_p hi]
    rfl
  by_cases hc : ∃ c, c < 24 ∧ P.1 c = y
  · obtain ⟨c, hc, rfl⟩ := hc
    rw [cput_c hW hc]
    exact (cput_c (σ := cuC σ (va_up σ.2.2.2.2.2.2.2.2.2.2.2 r x)) hW' hc).symm
  by_cases hx : ∃ r' t n, r' < 4 ∧ P.2.2 r' = some (y, t, n)
  · obtain ⟨r', t', n', hr', e⟩ := hx
    rw [cput_r hW hr' e]
    have q : r' ≠ r := fun z => by rw [z, h0] at e; cases e
    have h1 : (cPrw P r (some (a, t, n))).2.2 r' = some (y, t', n') := by show va_up P.2.2 r _ r' = _; rw [va_o q]; exact e
    rw [cput_r (σ := cuC σ (va_up σ.2.2.2.2.2.2.2.2.2.2.2 r x)) hW' hr' h1]
    show some (Sum.inl (g.2.1 t', n', σ.2.2.2.2.2.2.2.2.2.2.2 r')) = some (Sum.inl (g.2.1 t', n', va_up σ.2.2.2.2.2.2.2.2.2.2.2 r x r'))
    rw [va_o q]
  by_cases hya : y = a
  · subst hya
    rw [cput_h hW ha]
    have h1 : (cPrw P r (some (y, t, n))).2.2 r = some (y, t, n) := by show va_up P.2.2 r _ r = _; exact va_s
    rw [cput_r (σ := cuC σ (va_up σ.2.2.2.2.2.2.2.2.2.2.2 r x)) hW' hr h1]
    show _ = some (Sum.inl (g.2.1 t, n, va_up σ.2.2.2.2.2.2.2.2.2.2.2 r x r))
    rw [va_s]
  · have hx' : ¬ ∃ r' t' n', r' < 4 ∧ (cPrw P r (some (a, t, n))).2.2 r' = some (y, t', n') := by
      rintro ⟨r', t', n', hr', e⟩
      rcases hp2 _ _ _ _ e with ⟨-, q⟩ | ⟨-, e⟩
      · exact hya q
      · exact hx ⟨r', t', n', hr', e⟩
    unfold cput cRoH cPlH
    rw [s_if_n hi, s_if_n hi, s_if_n hx, s_if_n hx', s_if_n hc, s_if_n (show ¬ ∃ c, c < 24 ∧ (cPrw P r (some (a, t, n))).1 c = y from hc), va_o hya]
/-- the invariant with other rows -/
theorem cINV.rw (h : cINV g x0 P hp σ A M) (hl : hLe hp hp') (hW' : cW g x0 P' hp') (p1 : P'.1 = P.1) (p2 : P'.2.1 = P.2.1) (e1 : σ'.1 = σ.1) (e2 : σ'.2.1 = σ.2.1) (e3 : σ'.2.2.1 = σ.2.2.1) (e4 : σ'.2.2.2.1 = σ.2.2.2.1) (e5 : σ'.2.2.2.2.1 = σ.2.2.2.2.1) (e6 : σ'.2.2.2.2.2.1 = σ.2.2.2.2.2.1) (e7 : σ'.2.2.2.2.2.2.1 = σ.2.2.2.2.2.2.1) (e8 : σ'.2.2.2.2.2.2.2.1 = σ.2.2.2.2.2.2.2.1) (e9 : σ'.2.2.2.2.2.2.2.2.1 = σ.2.2.2.2.2.2.2.2.1) (ea : σ'.2.2.2.2.2.2.2.2.2.2.1 = σ.2.2.2.2.2.2.2.2.2.2.1) {rw' : Nat → Option sRw} (hR : cRw P' σ' rw') : cINV g x0 P' hp' σ' (v_rw A rw') M := by
  obtain ⟨i1, i2, i3, i4, i5, ⟨j1, j2, j3, j4⟩, i7, i8, i9, i10⟩ := h
  refine ⟨hW', i2.mo hl, e2.trans i3, ?_, by rw [e9]; exact i5, ⟨?_, fun q hq => ?_, by rw [e4]; exact j3, by rw [e4]; exact j4⟩, ?_, ?_, hR, ?_⟩
  · unfold cBk at i4 ⊢; rw [e8]; exact i4
  · have := j1.mo hl
    unfold cS0 at this ⊢
    rw [e7, p1, p2, ea]; exact this
  · have := j2 q hq
    unfold cWg cKc cKt at this ⊢
    rw [e8, e5]
    exact this
  · have := i7.mo hl
    unfold cIm at this ⊢
    rw [e1, e5, e6, e7]
    exact this
  · unfold cTp at i8 ⊢
    rw [e1, e5]
    exact i8
  · unfold cSt at i10 ⊢; rw [e3]; exact i10
theorem cRw.up {rw' : Nat → Option sRw} (h : cRw P σ rw') {r a s : Nat} {q : List (Option UInt64)} {x : cAr} (hsx : cSx s x) (hs : s ≤ 3) (hq : q.length ≤ 64) (hx : ∀ i o, q[i]? = some o → cIt1 s x i o) : cRw (cPrw P r (some (a, cSo s, q.length))) (cuC (cuW σ (va_up σ.2.2.2.2.2.2.2.2.2.1 r (some a))) (va_up σ.2.2.2.2.2.2.2.2.2.2.2 r x)) (s_up rw' r (some (s, q))) := by
  intro r' hr'
  show (_ ∧ va_up σ.2.2.2.2.2.2.2.2.2.1 r (some a) r' = none ∧ va_up P.2.2 r _ r' = none) ∨ ∃ a' q', _ ∧ va_up σ.2.2.2.2.2.2.2.2.2.1 r (some a) r' = _ ∧ va_up P.2.2 r _ r' = _ ∧ _ ∧ _ ∧ cSx _ (va_up σ.2.2.2.2.2.2.2.2.2.2.2 r x r') ∧ ∀ i o, _ → cIt1 _ (va_up σ.2.2.2.2.2.2.2.2.2.2.2 r x r') i o
  by_cases e : r' = r
  · subst e
    rw [va_s, va_s, va_s, s_up_s]
    exact Or.inr ⟨a, (s, q), rfl, rfl, rfl, hs, hq, hsx, hx⟩
  · rw [va_o e, va_o e, va_o e, s_up_o e]
    exact h r' hr'
theorem cRw.dn {rw' : Nat → Option sRw} (h : cRw P σ rw') {r : Nat} : cRw (cPrw P r none) (cuW σ (va_up σ.2.2.2.2.2.2.2.2.2.1 r none)) (s_up rw' r none) := by
  intro r' hr'
  show (_ ∧ va_up σ.2.2.2.2.2.2.2.2.2.1 r none r' = none ∧ va_up P.2.2 r none r' = none) ∨ ∃ a' q', _ ∧ va_up σ.2.2.2.2.2.2.2.2.2.1 r none r' = _ ∧ va_up P.2.2 r none r' = _ ∧ _ ∧ _ ∧ cSx _ (σ.2.2.2.2.2.2.2.2.2.2.2 r') ∧ ∀ i o, _ → cIt1 _ (σ.2.2.2.2.2.2.2.2.2.2.2 r') i o
  by_cases e : r' = r
  · subst e
    rw [va_s, va_s, s_up_s]
    exact Or.inl ⟨rfl, rfl, rfl⟩
  · rw [va_o e, va_o e, s_up_o e]
    exact h r' hr'
/-- a row gets a new array -/
theorem c_rset {r a s : Nat} {q : List (Option UInt64)} {x : cAr} (hI : cINV g x0 P hp σ A M) (hsx : cSx s x) (hr : r < 4) (hs : s ≤ 3) (hq : q.length ≤ 64) (hx : ∀ i o, q[i]? = some o → cIt1 s x i o) (h1 : ¬ cOv x0 P a) (h2 : hp a = none) (h3 : zB g ≤ a) : ∃ P' σ' hp', cput g x0 P (cuW σ (va_up σ.2.2.2.2.2.2.2.2.2.1 r (some a))) (va_up hp a (some (.inl (g.2.1 (cSo s), q.length, x)))) = cput g x0 P' σ' hp' ∧ hLe hp hp' ∧ cINV g x0 P' hp' σ' (v_rw A (s_up A.2.2.2 r (some (s, q)))) M := by
  have i1 := hI.1
  obtain ⟨hp1, e1⟩ : ∃ hp1, hp1 = va_up hp a (some (.inl (g.2.1 (cSo s), q.length, x))) := ⟨_, rfl⟩
  have w1 : cW g x0 P hp1 := by rw [e1]; exact cW_hq h1 i1
  have n1 : hp1 a = some (.inl (g.2.1 (cSo s), q.length, x)) := by rw [e1, va_s]
  obtain ⟨σ1, eσ⟩ : ∃ σ1, σ1 = cuW σ (va_up σ.2.2.2.2.2.2.2.2.2.1 r (some a)) := ⟨_, rfl⟩
  rw [← e1, ← eσ]
  have w2 := cDrW (σ := σ1) w1 hr
  have l2 := cDrL (σ := σ1) w1 hr
  have n2 := l2 _ _ n1
  have v2 : ¬ cOv x0 (cPrw P r none) a := by
    rintro (z | z | ⟨r', t, n, hr', z⟩)
    · exact h1 (Or.inl z)
    · exact h1 (Or.inr (Or.inl z))
    · have z : va_up P.2.2 r none r' = some (a, t, n) := z
      by_cases y : r' = r
      · subst y; rw [va_s] at z; cases z
      · rw [va_o y] at z; exact h1 (Or.inr (Or.inr ⟨r', t, n, hr', z⟩))
  have p0 : (cPrw P r none).2.2 r = none := by show va_up P.2.2 r none r = none; exact va_s
  have w3 := cTkW (t := cSo s) (n := q.length) w2 p0 v2 h3
  have ep : cPrw (cPrw P r none) r (some (a, cSo s, q.length)) = cPrw P r (some (a, cSo s, q.length)) := by unfold cPrw; simp only [cva_uu]
  rw [ep] at w3
  have hl : hLe hp (va_up (cHr g P σ1 hp1 r) a none) := fun y e z => by
    have y1 : y ≠ a := fun w => by rw [w, h2] at z; cases z
    rw [va_o y1]
    refine l2 y e ?_
    rw [e1, va_o y1]; exact z
  refine ⟨_, _, _, (cDrE (σ := σ1) w1 hr).trans (cTkE (σ := σ1) hr w2 p0 v2 n2 h3), hl, ?_⟩
  rw [ep]
  rw [eσ]
  rw [eσ] at w3 hl
  exact cINV.rw (σ' := cuC (cuW σ (va_up σ.2.2.2.2.2.2.2.2.2.1 r (some a))) (va_up σ.2.2.2.2.2.2.2.2.2.2.2 r x)) hI hl w3 rfl rfl rfl rfl rfl rfl rfl rfl rfl rfl rfl rfl (hI.2.2.2.2.2.2.2.2.1.up hsx hs hq hx)
theorem c_isRow {x : Int32} (hd : 2 ≤ d) {K : Int32 → zHp → Nat → Prop} (h0 : s_rx x = none → K 0 hp nx) (h1 : ∀ r, r < 4 → x = nI r → s_rx x = some r → K 1 hp nx) : zMt l g yX0_isRow cX0_isRow 1 (some .boolean) d 0 0 [.int x] hp nx (zQi g K) := by
  obtain ⟨d, rfl⟩ := Nat.exists_eq_add_of_le' (show 1 ≤ d by omega)
  apply met_X0_isRow
  unfold wp_X0_isRow
  refine c_inn (a := 0) (b := 3) (by decide) (by decide) (by omega) (fun z => ⟨Or.inl rfl, h0 (by unfold s_rx; rw [if_pos z])⟩) (fun z => ⟨Or.inr rfl, ?_⟩)
  rcases s_rx_of x with q | ⟨c, hc, e⟩
  · exact absurd q z
  · exact h1 c hc e (by rw [e]; exact s_rx_s hc)
/-- film -/
theorem co_film (hV : sOK A.1) (hI : cINV g x0 P hp σ A M) (hM : M + 10000000 ≤ 2147483647) (hd : 1400 ≤ d) (hmc : 1 ≤ mc) (hms : 64 ≤ ms) {x y : Int32} {K : Int32 → zHp → Nat → Prop} (hK : ∀ P' σ' hp' nx', cINV g x0 P' hp' σ' (o_film A x y).2 (M + 10000000) → hLe hp hp' → nx ≤ nx' → K (o_film A x y).1 (cput g x0 P' σ' hp') nx') : zMt l g yX0_film cX0_film 6 (some .int) d mc ms [.ref x0, .int x, .int y] (cput g x0 P σ hp) nx (zQi g K) := by
  obtain ⟨d, rfl⟩ := Nat.exists_eq_add_of_le' (show 1 ≤ d by omega)
  obtain ⟨rk, hST⟩ := hV.st
  have hI' := hI
  obtain ⟨i1, i2, i3, i4, i5, i6, i7, i8, i9, i10⟩ := hI
  have h0 := hK P σ hp nx
  have hB0 := i1.1
  apply met_X0_film
  unfold wp_X0_film
  refine ⟨Nat.zero_le _, Nat.zero_le _, ?_⟩
  have m14 : ∀ h n kc ks, (o_film A x y = (-2, A) ∧ h = cput g x0 P σ hp ∧ nx = n ∧ kc = 0 ∧ ks = 0) → kc ≤ mc ∧ ks ≤ ms ∧ K (-2) h n := by
    rintro h n kc ks ⟨e, rfl, rfl, rfl, rfl⟩
    rw [e] at h0
    exact ⟨Nat.zero_le _, Nat.zero_le _, h0 (cIV_tl hI' (by omega)) hLe.rf (Nat.le_refl _)⟩
  refine c_isTable (by omega) (fun e => ?_) (fun t ht ex e => ?_)
  · exact ⟨fun h n kc ks => o_film A x y = (-2, A) ∧ h = cput g x0 P σ hp ∧ nx = n ∧ kc = 0 ∧ ks = 0, m14, fun _ => ⟨by unfold o_film; rw [e], rfl, rfl, rfl, rfl⟩, fun z => absurd rfl z⟩
  refine ⟨fun h n kc ks => o_film A x y = (-2, A) ∧ h = cput g x0 P σ hp ∧ nx = n ∧ kc = 0 ∧ ks = 0, m14, fun z => absurd z (by decide), fun _ => ⟨Nat.zero_le _, Nat.zero_le _, ?_⟩⟩
  subst ex
  refine c_isRow (by omega) (fun e2 => ?_) (fun r hr er e2 => ?_)
  · exact ⟨fun _ => ⟨by unfold o_film; rw [e]; simp only [e2], rfl, rfl, rfl, rfl⟩, fun z => absurd rfl z⟩
  refine ⟨fun z => absurd z (by decide), fun _ => ?_⟩
  subst er
  clear m14
  have ct : (nI t).toNatClampNeg = t := nI_clamp (by omega)
  have cr : (nI r).toNatClampNeg = r := nI_clamp (by omega)
  refine cRT ht ?_
  have hn := i6.1.tn ht
  refine ⟨fun z => ⟨Nat.zero_le _, Nat.zero_le _, ?_⟩, fun z => ?_⟩
  · have : o_film A (nI t) (nI r) = (-3, A) := by unfold o_film; rw [e]; simp only [e2, hn.mp z]
    rw [this] at h0
    exact h0 (cIV_tl hI' (by omega)) hLe.rf (Nat.le_refl _)
  clear h0
  obtain ⟨L, hl⟩ : ∃ L, A.1.2.1 t = some L := by
    cases h : A.1.2.1 t with
    | none => exact absurd (hn.mpr h) z
    | some L => exact ⟨L, rfl⟩
  obtain ⟨a, ha, hTb, hTk⟩ := i6.1.tb ht hl
  have hnc := hTk.nc
  have eo : o_film A (nI t) (nI r) = (nI (s_nc L), v_rw A (s_up A.2.2.2 r (some (3, s_flm A.1 L)))) := by unfold o_film; rw [e]; simp only [e2, hl]
  rw [eo] at hK
  rw [ha]
  refine ⟨Nat.zero_le _, Nat.zero_le _, ?_⟩
  rw [cz_o]
  refine c_casA i1 i6.sh hST hV.tm ht ha hl i6.2.2.1 i10 (by omega) (by omega) (fun σ1 a1 a2 a3 a4 a5 a6 => ?_)
  have hI1 := hI'.tl a1 (a2.trans i3) (fun k p q r => a3 k r) (a5.le (show M + 192001 ≤ M + 10000000 by omega))
  refine ⟨Nat.zero_le _, Nat.zero_le _, ?_⟩
  have hTb' := hTb
  obtain ⟨_, _, p1, -⟩ := hTb'
  rw [ch_o i1 p1 (by decide)]
  refine c_cases (by omega) i1 hTb ?_
  refine c_nar (n := s_nc L) i1 (by omega) (by omega) (by omega) (fun u1 u2 u3 u4 => ?_)
  rintro _ _ _ rfl rfl rfl
  rw [nI_clamp (show s_nc L < 2 ^ 31 by omega)]
  have ht7 : t < 7 := by omega
  have wt : cWd t = 64 := by unfold cWd; rw [if_pos ht]
  let N := s_nc L
  let it : Nat → UInt64 := fun k => if (s_cv A.1 L (k / s_my L) (k % s_my L)).2.1 = 0 then (s_cv A.1 L (k / s_my L) (k % s_my L)).1 else cNaN
  refine ⟨fun m r1 r2 k h n' kc ks => ∃ j f, m = 64 - j ∧ j ≤ s_nc L ∧ r2 = some nx ∧ k = nI j ∧ h = cput g x0 P σ1 (va_up hp nx (some (.inl (g.2.1 1, s_nc L, .inr (.inr (.inr (.inl f))))))) ∧ n' = nx + 1 ∧ kc = 1 ∧ ks = s_nc L ∧ ∀ i, i < j → f i = it i, ⟨64, 0, fun _ => 0, rfl, Nat.zero_le _, rfl, rfl, rfl, rfl, by omega, by omega, fun i hi => absurd hi (Nat.not_lt_zero _)⟩, ?_⟩
  rintro m r1 r2 k h n' kc ks ⟨j, f, rfl, hj, rfl, rfl, rfl, rfl, rfl, hks, hf⟩
  have hW1 : cW g x0 P (va_up hp nx (some (.inl (g.2.1 1, s_nc L, .inr (.inr (.inr (.inl f))))))) := cW_hq u1 i1
  have ha1 : va_up hp nx (some (.inl (g.2.1 1, s_nc L, .inr (.inr (.inr (.inl f)))))) nx = some (.inl (g.2.1 1, s_nc L, .inr (.inr (.inr (.inl f))))) := va_s
  rw [c_ln (cput_h hW1 ha1)]
  show (nI (s_nc L) ≤ nI j → _) ∧ (¬ nI (s_nc L) ≤ nI j → _)
  refine ⟨fun w => ?_, fun w => ?_⟩
  · have hjN : j = s_nc L := by
      have := (nI_leI (by omega) (by omega)).mp w
      omega
    subst hjN
    rw [cg_rows, ca_rows]
    refine ⟨vp_in_nI hr (by decide), ?_⟩
    intro r46 e46
    rw [cr] at e46
    subst e46
    rw [cr_p hr]
    refine ⟨by omega, ?_⟩
    rw [c_ln (cput_h hW1 ha1)]
    have hlen : (s_flm A.1 L).length = s_nc L := by unfold s_flm; rw [List.length_map, List.length_range]
    have hit9 : ∀ i o, (s_flm A.1 L)[i]? = some o → cIt1 3 (.inr (.inr (.inr (.inl f)))) i o := by
      intro i o hi
      have hil : i < s_nc L := by
        rw [← hlen]
        exact (List.getElem?_eq_some_iff.mp hi).1
      unfold s_flm at hi
      rw [List.getElem?_map, List.getElem?_range hil] at hi
      simp only [Option.map_some, Option.some.injEq] at hi
      have hfi := hf i hil
      refine ⟨rfl, ?_⟩
      obtain ⟨r1', r2', r3', r4'⟩ := a6 i hil
      by_cases q : (s_cv A.1 L (i / s_my L) (i % s_my L)).2.1 = 0
      · right
        rw [if_pos q] at hi
        have : it i = (s_cv A.1 L (i / s_my L) (i % s_my L)).1 := by show (if _ then _ else _) = _; rw [if_pos q]
        rw [hfi, this]
        refine ⟨hi.symm, ?_⟩
        have e3 := r3' q
        rw [e3] at r2'
        exact r2'
      · left
        rw [if_neg q] at hi
        have : it i = cNaN := by show (if _ then _ else _) = _; rw [if_neg q]
        exact ⟨hi.symm, by rw [hfi, this]⟩
    obtain ⟨P', σ', hp', c1, c2, c3⟩ := c_rset (a := nx) (s := 3) (q := s_flm A.1 L) (x := .inr (.inr (.inr (.inl f)))) hI1 (show (3 : Nat) = 3 from rfl) hr (by decide) (by rw [hlen]; omega) hit9 u1 u2 u3
    rw [hlen] at c1
    refine ⟨by omega, by omega, ?_⟩
    show K (nI (s_nc L)) (cput g x0 P (cuW σ1 (va_up σ1.2.2.2.2.2.2.2.2.2.1 r (some nx))) (va_up hp nx (some (.inl (g.2.1 (cSo 3), s_nc L, .inr (.inr (.inr (.inl f)))))))) _
    rw [c1]
    exact hK P' σ' hp' _ c3 c2 (by omega)
  · have hjN : j < s_nc L := by
      rcases Nat.lt_or_ge j (s_nc L) with q | q
      · exact q
      · exact absurd ((nI_leI (by omega) (by omega)).mpr q) w
    have cj : (nI j).toNatClampNeg = j := nI_clamp (by omega)
    have ij : vp_in (nI j) (cWd t) := by rw [wt]; exact vp_in_nI (by omega) (by decide)
    obtain ⟨r1', r2', r3', r4'⟩ := a6 j hjN
    refine cRS ht ?_
    rw [cs_errors ht7, csa_errors ht7]
    refine ⟨ij, ?_⟩
    intro x69 e69
    rw [cj, r1'] at e69
    subst e69
    refine ⟨fun r1 r2 k r3 k2 v h n' kc ks => r2 = some nx ∧ k = nI j ∧ r3 = some nx ∧ k2 = nI j ∧ v = it j ∧ h = cput g x0 P σ1 (va_up hp nx (some (.inl (g.2.1 1, s_nc L, .inr (.inr (.inr (.inl f))))))) ∧ n' = nx + 1 ∧ kc = 1 ∧ ks = s_nc L, ?_, fun q => ?_, fun q => ?_⟩
    · rintro r1 r2 k r3 k2 v h n' kc ks ⟨rfl, rfl, rfl, rfl, rfl, rfl, rfl, rfl, hks⟩
      rw [c_aD (cput_h hW1 ha1)]
      refine ⟨vp_in_nI hjN (by omega), u3, ?_⟩
      rintro _ rfl
      rintro _ rfl
      refine ⟨64 - (j + 1), by omega, j + 1, va_up f j (it j), rfl, by omega, rfl, nI_1 j, ?_, rfl, rfl, hks, fun i hi => ?_⟩
      · rw [cj, cput_hq u1, cva_uu]
      · by_cases y : i = j
        · subst y; rw [va_s]
        · rw [va_o y]; exact hf i (by omega)
    · refine cRS ht ?_
      rw [cs_results ht7, csa_results ht7]
      refine ⟨ij, ?_⟩
      intro x101 e101
      rw [cj] at e101
      have e101 := e101.trans (r3' q)
      refine ⟨rfl, rfl, rfl, rfl, ?_, rfl, rfl, rfl, hks⟩
      rw [e101]
      show _ = (if _ then _ else _)
      rw [if_pos (show (s_cv A.1 L (j / s_my L) (j % s_my L)).2.1 = 0 from q)]
      rfl
    · refine ⟨rfl, rfl, rfl, rfl, ?_, rfl, rfl, rfl, hks⟩
      show _ = (if _ then _ else _)
      rw [if_neg (show ¬ (s_cv A.1 L (j / s_my L) (j % s_my L)).2.1 = 0 from q)]
end RO
