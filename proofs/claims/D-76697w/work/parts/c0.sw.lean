set_option maxRecDepth 100000
/-! a cell gives way to another object; made, like, kind -/
section SW
variable {l : Launch} {g : zG} {d x0 : Nat} {P : cP} {σ σ' : cS} {hp hp' : zHp} {nx M M' : Nat} {A : sV} {S : sSt} {fm : sF} {ly : sY} {kd : Nat → Int32} {mc ms kc ks : Nat}
def cPc (P : cP) (c a ci : Nat) : cP := (va_up P.1 c a, va_up P.2.1 c ci, P.2.2)
def cSc (σ : cS) (c : Nat) (f : Option Nat) (v : UInt64) : cS := cuO (cuF σ (va_up σ.2.2.2.2.2.2.2.2.2.2.1 c f)) c v
def cHc (P : cP) (σ : cS) (hp : zHp) (c a : Nat) : zHp := va_up (va_up hp a none) (P.1 c) (some (cpl P σ c))
theorem cSwW {c a ci : Nat} (hW : cW g x0 P hp) (hc : c < 24) (hq : ¬ cOv x0 P a) (hz : zB g ≤ a) (hci : ci ∈ [2, 6, 7, 8, 9, 10]) : cW g x0 (cPc P c a ci) (cHc P σ hp c a) := by
  obtain ⟨w1, w2, w3, w4, w5, w6⟩ := hW
  have na : ∀ e, e < 24 → P.1 e ≠ a := fun e he z => hq (Or.inr (Or.inl ⟨e, he, z⟩))
  have hx : ∀ q, q ≠ a → q ≠ P.1 c → cHc P σ hp c a q = hp q := fun q z1 z2 => by unfold cHc; rw [va_o z2, va_o z1]
  have ha : cHc P σ hp c a a = none := by unfold cHc; rw [va_o (fun z => na c hc z.symm), va_s]
  have p1 : (cPc P c a ci).1 = va_up P.1 c a := rfl
  have p2 : (cPc P c a ci).2.1 = va_up P.2.1 c ci := rfl
  refine ⟨w1, fun q h => ?_, fun e he => ?_, fun e f he hf h => ?_, fun r b t n hr h => ?_, w6⟩
  · rw [hx q (fun z => hq (Or.inl (by rw [← z]; exact h))) (fun z => (w3 c hc).1 (by rw [← z]; exact h))]
    exact w2 q h
  · rw [p1, p2]
    by_cases q : e = c
    · subst q
      rw [va_s, va_s]
      exact ⟨fun z => hq (Or.inl z), ha, hz, hci⟩
    · rw [va_o q, va_o q, hx _ (na e he) (fun z => q (w4 _ _ he hc z))]
      exact w3 e he
  · rw [p1] at h
    by_cases q1 : e = c
    · by_cases q2 : f = c
      · rw [q1, q2]
      · rw [q1, va_s, va_o q2] at h
        exact absurd h.symm (na f hf)
    · by_cases q2 : f = c
      · rw [q2, va_s, va_o q1] at h
        exact absurd h (na e he)
      · rw [va_o q1, va_o q2] at h
        exact w4 _ _ he hf h
  · obtain ⟨y1, y2, y3, y4⟩ := w5 r b t n hr h
    have z1 : b ≠ a := fun z => hq (Or.inr (Or.inr ⟨r, t, n, hr, by rw [← z]; exact h⟩))
    refine ⟨y1, ?_, y3, fun e he => ?_⟩
    · rw [hx b z1 (fun z => y4 c hc z.symm)]; exact y2
    · rw [p1]
      by_cases q : e = c
      · subst q; rw [va_s]; exact fun z => z1 z.symm
      · rw [va_o q]; exact y4 e he
theorem cSwE {c a ci : Nat} {f : Option Nat} {v : UInt64} (hW : cW g x0 P hp) (hc : c < 24) (hq : ¬ cOv x0 P a) (ha : hp a = some (.inr (ci, [.int (nI c), va_rf f, .double v]))) (hz : zB g ≤ a) (hci : ci ∈ [2, 6, 7, 8, 9, 10]) : cput g x0 P σ hp = cput g x0 (cPc P c a ci) (cSc σ c f v) (cHc P σ hp c a) := by
  have hW' := cSwW (σ := σ) hW hc hq hz hci
  have na : ∀ e, e < 24 → P.1 e ≠ a := fun e he z => hq (Or.inr (Or.inl ⟨e, he, z⟩))
  have hx : ∀ q, q ≠ a → q ≠ P.1 c → cHc P σ hp c a q = hp q := fun q z1 z2 => by unfold cHc; rw [va_o z2, va_o z1]
  funext y
  by_cases hi : cIn x0 y
  · unfold cput
    rw [s_if_p hi, s_if_p hi]
    rfl
  by_cases hr : ∃ r t n, r < 4 ∧ P.2.2 r = some (y, t, n)
  · obtain ⟨r, t, n, hr, e⟩ := hr
    rw [cput_r hW hr e, cput_r hW' hr (show (cPc P c a ci).2.2 r = some (y, t, n) from e)]
    rfl
  by_cases hya : y = a
  · subst hya
    rw [cput_h hW ha]
    have h1 : (cPc P c y ci).1 c = y := by show va_up P.1 c y c = y; exact va_s
    have := cput_c (σ := cSc σ c f v) hW' hc
    rw [h1] at this
    rw [this]
    unfold cpl cSc cuO cuF cuX cPc
    simp only [va_s]
  by_cases hyc : ∃ e, e < 24 ∧ P.1 e = y
  · obtain ⟨e, he, rfl⟩ := hyc
    by_cases q : e = c
    · subst q
      rw [cput_c hW he]
      have : cHc P σ hp e a (P.1 e) = some (cpl P σ e) := by unfold cHc; rw [va_s]
      rw [cput_h hW' this]
    · rw [cput_c hW he]
      have h1 : (cPc P c a ci).1 e = P.1 e := by show va_up P.1 c a e = _; exact va_o q
      have := cput_c (σ := cSc σ c f v) hW' he
      rw [h1] at this
      rw [this]
      unfold cpl cSc cuO cuF cuX cPc
      simp only [va_o q]
  · have hyc' : ¬ ∃ e, e < 24 ∧ (cPc P c a ci).1 e = y := by
      rintro ⟨e, he, h⟩
      by_cases q : e = c
      · subst q
        exact hya (h.symm.trans va_s)
      · exact hyc ⟨e, he, by rw [← h]; exact (va_o q).symm⟩
    unfold cput cRoH cPlH
    rw [s_if_n hi, s_if_n hi, s_if_n hr, s_if_n (show ¬ ∃ r t n, r < 4 ∧ (cPc P c a ci).2.2 r = some (y, t, n) from hr), s_if_n hyc, s_if_n hyc', hx y hya (fun z => hyc ⟨c, hc, z.symm⟩)]
theorem cSwL {c a : Nat} {hp0 : zHp} (h : hLe hp0 hp) (h1 : hp0 a = none) (h2 : hp0 (P.1 c) = none) : hLe hp0 (cHc P σ hp c a) := fun q e z => by
  have z1 : q ≠ a := fun y => by rw [y, h1] at z; cases z
  have z2 : q ≠ P.1 c := fun y => by rw [y, h2] at z; cases z
  unfold cHc
  rw [va_o z2, va_o z1]
  exact h q e z
/-- the invariant behind it -/
theorem cINV.sw (h : cINV g x0 P hp σ A M) {c a ci : Nat} {v : UInt64} (hc : c < 24) (hl : hLe hp hp') (hW' : cW g x0 (cPc P c a ci) hp') {ow : sO} (how : cOW A.1.1 (s_up A.1.2.2.1 c (cKi ci)) (va_up σ.2.2.2.1 c v) ow) (hn : A.1.1 c ≠ [] → v = cNaN) : cINV g x0 (cPc P c a ci) hp' (cSc (cuR σ 0 (va_up (σ.2.2.2.2.2.2.1 0) c (some a))) c (σ.2.2.2.2.2.2.2.2.2.2.1 c) v) ((A.1.1, A.1.2.1, s_up A.1.2.2.1 c (cKi ci), ow), A.2) M := by
  obtain ⟨i1, i2, i3, i4, i5, ⟨j1, j2, j3, j4⟩, i7, i8, i9, i10⟩ := h
  have eF : va_up σ.2.2.2.2.2.2.2.2.2.2.1 c (σ.2.2.2.2.2.2.2.2.2.2.1 c) = σ.2.2.2.2.2.2.2.2.2.2.1 := cva_id
  have j1m := j1.mo hl
  refine ⟨hW', i2.mo hl, i3, i4, i5, ⟨⟨fun e he => ?_, fun e he => ?_, fun e he => ?_, fun t ht => ?_⟩, j2, how, fun e he hne => ?_⟩, ?_, i8, i9, i10⟩
  · show va_up σ.2.2.2.2.2.2.1 0 (va_up (σ.2.2.2.2.2.2.1 0) c (some a)) 0 e = some (va_up P.1 c a e)
    rw [va_s]
    by_cases q : e = c
    · subst q; rw [va_s, va_s]
    · rw [va_o q, va_o q]; exact j1.1 e he
  · show s_up A.1.2.2.1 c (cKi ci) e = cKi (va_up P.2.1 c ci e)
    by_cases q : e = c
    · subst q; rw [s_up_s, va_s]
    · rw [s_up_o q, va_o q]; exact j1.2.1 e he
  · show cFm g x0 hp' (va_up σ.2.2.2.2.2.2.2.2.2.2.1 c (σ.2.2.2.2.2.2.2.2.2.2.1 c) e) (A.1.1 e)
    rw [eF]
    exact j1m.2.2.1 e he
  · show cLy g hp' t (va_up σ.2.2.2.2.2.2.1 0 (va_up (σ.2.2.2.2.2.2.1 0) c (some a)) 1 t) (A.1.2.1 t)
    rw [va_o (by decide)]
    exact j1m.2.2.2 t ht
  · show va_up σ.2.2.2.1 c v e = cNaN
    by_cases q : e = c
    · subst q; rw [va_s]; exact hn hne
    · rw [va_o q]; exact j4 e he hne
  · have i7m := i7.mo hl
    unfold cIm at i7m ⊢
    have q26 : (cSc (cuR σ 0 (va_up (σ.2.2.2.2.2.2.1 0) c (some a))) c (σ.2.2.2.2.2.2.2.2.2.2.1 c) v).2.2.2.2.2.2.1 26 = σ.2.2.2.2.2.2.1 26 := by show va_up σ.2.2.2.2.2.2.1 0 (va_up (σ.2.2.2.2.2.2.1 0) c (some a)) 26 = _; exact va_o (by decide)
    have q27 : (cSc (cuR σ 0 (va_up (σ.2.2.2.2.2.2.1 0) c (some a))) c (σ.2.2.2.2.2.2.2.2.2.2.1 c) v).2.2.2.2.2.2.1 27 = σ.2.2.2.2.2.2.1 27 := by show va_up σ.2.2.2.2.2.2.1 0 (va_up (σ.2.2.2.2.2.2.1 0) c (some a)) 27 = _; exact va_o (by decide)
    rw [q26, q27]
    exact i7m
/-- a new cell of a kind -/
def cCl (k : Nat) : Nat := if k = 0 then 2 else if k = 1 then 6 else if k = 2 then 7 else if k = 3 then 8 else if k = 4 then 9 else 10
theorem cCl_in {k : Nat} : cCl k ∈ [2, 6, 7, 8, 9, 10] := by unfold cCl; (repeat' split) <;> decide
theorem cCl_ki {k : Nat} (h : k ≤ 5) : cKi (cCl k) = nI k := by
  have : ∀ k, k < 6 → cKi (cCl k) = nI k := by decide
  exact this k (by omega)
theorem c_made {c k : Nat} (hW : cW g x0 P hp) (hk : k ≤ 5) (hd : 5 ≤ d) (hmc : 1 ≤ mc) (hms : 3 ≤ ms) {K : Option Nat → zHp → Nat → Prop} (hK : ¬ cOv x0 P nx → hp nx = none → zB g ≤ nx → K (some nx) (cput g x0 P σ (va_up hp nx (some (.inr (cCl k, [.int (nI c), va_rf none, .double cNaN]))))) (nx + 1)) : zMt l g yX0_made cX0_made 2 (some (.object "WhatIfSheet$Plain")) d mc ms [.int (nI c), .int (nI k)] (cput g x0 P σ hp) nx (zQq g K) := by
  obtain ⟨d, rfl⟩ := Nat.exists_eq_add_of_le' (show 1 ≤ d by omega)
  apply met_X0_made
  unfold wp_X0_made
  have ek : ∀ j, j < 6 → (nI k = nI j ↔ k = j) := fun j hj => nI_eq (by omega) (by omega)
  refine ⟨fun e => ?_, fun e => ?_, fun e => ?_, fun e => ?_, fun e => ?_, fun e => ?_⟩
  · have e := (ek 0 (by decide)).mp e
    subst e
    refine c_nw hW (by omega) (by rw [zNn_2]; omega) (fun u1 u2 u3 u4 => ?_)
    rw [zNf_2]
    rintro _ _ _ rfl rfl rfl
    refine ⟨by omega, by rw [zNn_2]; omega, x2_2 (cput_h (cW_hq u1 hW) va_s) u3 (by omega) ?_⟩
    rw [c_put2 u1]
    exact ⟨by omega, by rw [zNn_2]; omega, hK u1 u2 u3⟩
  · have e := (ek 1 (by decide)).mp e
    subst e
    refine c_nw hW (by omega) (by rw [zNn_6]; omega) (fun u1 u2 u3 u4 => ?_)
    rw [zNf_6]
    rintro _ _ _ rfl rfl rfl
    refine ⟨by omega, by rw [zNn_6]; omega, x6_6 (cput_h (cW_hq u1 hW) va_s) u3 (by omega) ?_⟩
    rw [c_put2 u1]
    exact ⟨by omega, by rw [zNn_6]; omega, hK u1 u2 u3⟩
  · have e := (ek 2 (by decide)).mp e
    subst e
    refine c_nw hW (by omega) (by rw [zNn_7]; omega) (fun u1 u2 u3 u4 => ?_)
    rw [zNf_7]
    rintro _ _ _ rfl rfl rfl
    refine ⟨by omega, by rw [zNn_7]; omega, x7_7 (cput_h (cW_hq u1 hW) va_s) u3 (by omega) ?_⟩
    rw [c_put2 u1]
    exact ⟨by omega, by rw [zNn_7]; omega, hK u1 u2 u3⟩
  · have e := (ek 3 (by decide)).mp e
    subst e
    refine c_nw hW (by omega) (by rw [zNn_8]; omega) (fun u1 u2 u3 u4 => ?_)
    rw [zNf_8]
    rintro _ _ _ rfl rfl rfl
    refine ⟨by omega, by rw [zNn_8]; omega, x8_8 (cput_h (cW_hq u1 hW) va_s) u3 (by omega) ?_⟩
    rw [c_put2 u1]
    exact ⟨by omega, by rw [zNn_8]; omega, hK u1 u2 u3⟩
  · have e := (ek 4 (by decide)).mp e
    subst e
    refine c_nw hW (by omega) (by rw [zNn_9]; omega) (fun u1 u2 u3 u4 => ?_)
    rw [zNf_9]
    rintro _ _ _ rfl rfl rfl
    refine ⟨by omega, by rw [zNn_9]; omega, x9_9 (cput_h (cW_hq u1 hW) va_s) u3 (by omega) ?_⟩
    rw [c_put2 u1]
    exact ⟨by omega, by rw [zNn_9]; omega, hK u1 u2 u3⟩
  · obtain ⟨e0, e1, e2, e3, e4⟩ := e
    have e : k = 5 := by
      have h0 : k ≠ 0 := fun z => e0 (by rw [z]; rfl)
      have h1 : k ≠ 1 := fun z => e1 (by rw [z]; rfl)
      have h2 : k ≠ 2 := fun z => e2 (by rw [z]; rfl)
      have h3 : k ≠ 3 := fun z => e3 (by rw [z]; rfl)
      have h4 : k ≠ 4 := fun z => e4 (by rw [z]; rfl)
      omega
    subst e
    refine c_nw hW (by omega) (by rw [zNn_10]; omega) (fun u1 u2 u3 u4 => ?_)
    rw [zNf_10]
    rintro _ _ _ rfl rfl rfl
    refine ⟨by omega, by rw [zNn_10]; omega, x10_10 (cput_h (cW_hq u1 hW) va_s) u3 (by omega) ?_⟩
    rw [c_put2 u1]
    exact ⟨by omega, by rw [zNn_10]; omega, hK u1 u2 u3⟩
theorem x_isEmpty {b cb : Nat} {u w : Value} {v : UInt64} (h : hp b = some (.inr (cb, [u, w, .double v]))) (hcb : cb ∈ [2, 6, 7, 8, 9, 10]) (hd : 1 ≤ d) {K : Int32 → zHp → Nat → Prop} (h1 : ¬ s_eq v v → K 1 hp nx) (h0 : s_eq v v → K 0 hp nx) : zMt l g yX2_isEmpty cX2_isEmpty 1 (some .boolean) d 0 0 [.ref b] hp nx (zQi g K) := by
  obtain ⟨d, rfl⟩ := Nat.exists_eq_add_of_le' (show 1 ≤ d by omega)
  apply met_X2_isEmpty
  unfold wp_X2_isEmpty
  rw [hz_D h (x := v) rfl hcb, hz_D h (x := v) rfl hcb]
  refine ⟨_, fun _ h => h, ?_⟩
  exact ⟨fun z => ⟨Or.inl rfl, h0 (fc_l0.mp z)⟩, fun z => ⟨Or.inr rfl, h1 (fun y => z (fc_l0.mpr y))⟩⟩
/-- takes over what another one has: what becomes of its number -/
noncomputable def cLk1 (k : Int32) (w : UInt64) : UInt64 := s_if (s_eq w w) (s_kp k w) cNaN
theorem x_like {a b ci cb : Nat} {n m : Value} {f : Option Nat} {u : Value} {w y : UInt64} (ha : hp a = some (.inr (ci, [n, u, .double y]))) (hb : hp b = some (.inr (cb, [m, va_rf f, .double w]))) (hab : a ≠ b) (hci : ci ∈ [2, 6, 7, 8, 9, 10]) (hcb : cb ∈ [2, 6, 7, 8, 9, 10]) (hz : zB g ≤ a) (hw : w = cNaN ∨ s_B w) (hd : 7 ≤ d) {K : Option Nat → zHp → Nat → Prop} (hK : K (some a) (va_up hp a (some (.inr (ci, [n, va_rf f, .double (cLk1 (cKi ci) w)])))) nx) : zMt l g yX2_like cX2_like 2 (some (.object "WhatIfSheet$Plain")) d 0 0 [.ref a, va_rf (some b)] hp nx (zQq g K) := by
  obtain ⟨d, rfl⟩ := Nat.exists_eq_add_of_le' (show 1 ≤ d by omega)
  have sa : ∀ {fs : List Value}, va_up hp a (some (.inr (ci, fs))) a = some (.inr (ci, fs)) := fun {fs} => va_s
  have sb : ∀ {e : Option va_E}, va_up hp a e b = some (.inr (cb, [m, va_rf f, .double w])) := fun {e} => by rw [va_o (fun z => hab z.symm)]; exact hb
  apply met_X2_like
  unfold wp_X2_like
  rw [hz_R hb (r := f) rfl hcb, hz_p ha hci (by simp)]
  refine ⟨hz, ?_⟩
  rw [hz_o sb hcb]
  have ee : s_eq w w → s_B w := fun q => by
    rcases hw with rfl | q2
    · exact absurd q (by unfold s_eq; decide +kernel)
    · exact q2
  refine ⟨fun x h n' => ((x = 1 ∧ ¬ s_eq w w) ∨ (x = 0 ∧ s_eq w w)) ∧ h = va_up hp a (some (.inr (ci, [n, va_rf f, .double y]))) ∧ nx = n', ?_, x_isEmpty sb hcb (by omega) (fun z => ⟨Or.inl ⟨rfl, z⟩, rfl, rfl⟩) (fun z => ⟨Or.inr ⟨rfl, z⟩, rfl, rfl⟩)⟩
  rintro x h n' ⟨hx, rfl, rfl⟩
  refine ⟨fun r x h n' => r = some a ∧ x = cLk1 (cKi ci) w ∧ h = va_up hp a (some (.inr (ci, [n, va_rf f, .double y]))) ∧ nx = n', ?_, fun z => ?_, fun z => ?_⟩
  · rintro r x h n' ⟨rfl, rfl, rfl, rfl⟩
    rw [hz_p sa hci (by simp)]
    refine ⟨hz, ?_⟩
    rw [cva_uu]
    exact hK
  · have q : s_eq w w := by
      rcases hx with ⟨e, -⟩ | ⟨-, q⟩
      · rw [e] at z; exact absurd z (by decide)
      · exact q
    rw [hz_D sb (x := w) rfl hcb, hz_o sa hci]
    refine ⟨fun v h n' => v = s_kp (cKi ci) w ∧ h = va_up hp a (some (.inr (ci, [n, va_rf f, .double y]))) ∧ nx = n', ?_, c_kept sa hci (by omega) (ee q) ⟨rfl, rfl, rfl⟩⟩
    rintro v h n' ⟨rfl, rfl, rfl⟩
    exact ⟨rfl, by unfold cLk1; rw [s_if_p q], rfl, rfl⟩
  · have q : ¬ s_eq w w := by
      rcases hx with ⟨-, q⟩ | ⟨e, -⟩
      · exact q
      · exact absurd e z
    exact ⟨rfl, by unfold cLk1; rw [s_if_n q], rfl, rfl⟩
/-- what a cell owns: nothing, or a number as it's kept -/
theorem cOW.own {own : Nat → UInt64} {ow : sO} (h : cOW fm kd own ow) (hn : ∀ c, c < 24 → fm c ≠ [] → own c = cNaN) {c : Nat} (hc : c < 24) : own c = cNaN ∨ s_B (own c) := by
  by_cases q : fm c = []
  · rcases h.2 c hc q with ⟨-, e⟩ | ⟨v, -, e, hB⟩
    · exact Or.inl e
    · rw [e]; exact Or.inr (fb_kp hB)
  · exact Or.inl (hn c hc q)
theorem cNaN_ne : ¬ s_eq cNaN cNaN := by unfold s_eq; decide +kernel
theorem s_eq_B {w : UInt64} (h : s_B w) : s_eq w w := fc_self h.f
theorem cOW.kind {own : Nat → UInt64} {ow : sO} (h : cOW fm kd own ow) (hn : ∀ c, c < 24 → fm c ≠ [] → own c = cNaN) (hx : ∀ c, c < 24 → fm c ≠ [] → ow c = none) (hk : ∀ c, c < 24 → ∀ v, ow c = some v → s_kp (kd c) v = v) {c : Nat} {k : Int32} : cOW fm (s_up kd c k) (va_up own c (cLk1 k (own c))) (s_up ow c ((ow c).map (s_kp k))) := by
  refine ⟨fun x w hx' => ?_, fun e he hf => ?_⟩
  · by_cases q : x = c
    · subst q
      rw [s_up_s] at hx'
      cases hv : ow x with
      | none => rw [hv] at hx'; cases hx'
      | some v => rw [hv] at hx'; cases hx'; exact fb_kp (h.1 x v hv)
    · rw [s_up_o q] at hx'; exact h.1 x w hx'
  · by_cases q : e = c
    · subst q
      rw [s_up_s, s_up_s, va_s]
      rcases h.2 e he hf with ⟨e1, e2⟩ | ⟨v, e1, e2, hB⟩
      · left
        rw [e1, e2]
        unfold cLk1
        rw [s_if_n cNaN_ne]
        exact ⟨rfl, rfl⟩
      · right
        rw [e1, e2, hk e he v e1]
        unfold cLk1
        rw [s_if_p (s_eq_B hB)]
        exact ⟨s_kp k v, rfl, (fb_kp_kp hB).symm, fb_kp hB⟩
    · rw [s_up_o q, s_up_o q, va_o q]; exact h.2 e he hf
/-- kind -/
theorem co_kind (hV : sOK A.1) (hI : cINV g x0 P hp σ A M) (hd : 30 ≤ d) (hmc : 1 ≤ mc) (hms : 3 ≤ ms) {x k : Int32} {K : Int32 → zHp → Nat → Prop} (hK : ∀ P' σ' hp' nx', cINV g x0 P' hp' σ' (o_kind A x k).2 M → hLe hp hp' → nx ≤ nx' → K (o_kind A x k).1 (cput g x0 P' σ' hp') nx') : zMt l g yX0_kind cX0_kind 4 (some .int) d mc ms [.ref x0, .int x, .int k] (cput g x0 P σ hp) nx (zQi g K) := by
  obtain ⟨d, rfl⟩ := Nat.exists_eq_add_of_le' (show 1 ≤ d by omega)
  have hI' := hI
  obtain ⟨i1, i2, i3, i4, i5, i6, i7⟩ := hI
  have h0 := hK P σ hp nx
  have hB0 := i1.1
  apply met_X0_kind
  unfold wp_X0_kind
  refine ⟨Nat.zero_le _, Nat.zero_le _, ?_⟩
  have m19 : ∀ h n kc ks, (o_kind A x k = (-2, A) ∧ h = cput g x0 P σ hp ∧ nx = n ∧ kc = 0 ∧ ks = 0) → kc ≤ mc ∧ ks ≤ ms ∧ K (-2) h n := by
    rintro h n kc ks ⟨e, rfl, rfl, rfl, rfl⟩
    rw [e] at h0
    exact ⟨Nat.zero_le _, Nat.zero_le _, h0 hI' hLe.rf (Nat.le_refl _)⟩
  refine c_isCell (by omega) (fun e => ?_) (fun c hc ex e => ?_)
  · exact ⟨fun h n kc ks => o_kind A x k = (-2, A) ∧ h = cput g x0 P σ hp ∧ nx = n ∧ kc = 0 ∧ ks = 0, m19, fun _ => ⟨by unfold o_kind; rw [e], rfl, rfl, rfl, rfl⟩, fun z => absurd rfl z⟩
  refine ⟨fun h n kc ks => o_kind A x k = (-2, A) ∧ h = cput g x0 P σ hp ∧ nx = n ∧ kc = 0 ∧ ks = 0, m19, fun z => absurd z (by decide), fun _ => ⟨Nat.zero_le _, Nat.zero_le _, ?_⟩⟩
  subst ex
  refine c_inn (a := 0) (b := 5) (by decide) (by decide) (by omega) (fun z => ⟨fun _ => ⟨by unfold o_kind; rw [e]; simp only [if_pos z], rfl, rfl, rfl, rfl⟩, fun y => absurd rfl y⟩) (fun hw => ⟨fun y => absurd y (by decide), fun _ => ?_⟩)
  obtain ⟨f, hf, rfl⟩ : ∃ j, j < 6 ∧ k = nI j := by
    rcases s_x_of (x := k) (M := 5) (n := 5) (by decide) with q | q
    · exact absurd q hw
    · exact q
  clear h0 m19
  have eo : o_kind A (nI c) (nI f) = (A.1.2.2.1 c, (A.1.1, A.1.2.1, s_up A.1.2.2.1 c (nI f), s_up A.1.2.2.2 c ((A.1.2.2.2 c).map (s_kp (nI f)))), A.2) := by
    unfold o_kind; rw [e]; simp only [if_neg hw]
  rw [eo] at hK
  have cc : (nI c).toNatClampNeg = c := nI_clamp (by omega)
  have ic : vp_in (nI c) 24 := vp_in_nI hc (by decide)
  refine cRC (S := A.1) i6.1 hc ?_
  refine ⟨Nat.zero_le _, Nat.zero_le _, ?_⟩
  rw [cc_o i1 hc]
  refine ⟨fun q h n => q = A.1.2.2.1 c ∧ h = cput g x0 P σ hp ∧ nx = n, ?_, c_kd (i1.2.2.1 c hc).2.2.2 (by omega) ⟨(i6.1.2.1 c hc).symm, rfl, rfl⟩⟩
  rintro q h n ⟨rfl, rfl, rfl⟩
  rw [cg_cells]
  refine ⟨1, 3, by omega, by omega, ?_⟩
  refine c_made i1 (by omega) (by omega) (by omega) (by omega) (fun u1 u2 u3 => ?_)
  obtain ⟨hp1, e1⟩ : ∃ hp1, hp1 = va_up hp nx (some (.inr (cCl f, [.int (nI c), va_rf none, .double cNaN]))) := ⟨_, rfl⟩
  rw [← e1]
  have w1 : cW g x0 P hp1 := by rw [e1]; exact cW_hq u1 i1
  have n1 : hp1 nx = some (.inr (cCl f, [.int (nI c), va_rf none, .double cNaN])) := by rw [e1, va_s]
  have hne : nx ≠ P.1 c := fun z => u1 (Or.inr (Or.inl ⟨c, hc, z.symm⟩))
  have l1 : hLe hp hp1 := by rw [e1]; exact hLe.up u2
  refine cRC (S := A.1) (i6.1.mo l1) hc ?_
  refine ⟨by omega, by omega, ?_⟩
  rw [ch_o w1 n1 cCl_in]
  obtain ⟨v, ev⟩ : ∃ v, v = cLk1 (nI f) (σ.2.2.2.1 c) := ⟨_, rfl⟩
  obtain ⟨hp2, e2⟩ : ∃ hp2, hp2 = va_up hp nx (some (.inr (cCl f, [.int (nI c), va_rf (σ.2.2.2.2.2.2.2.2.2.2.1 c), .double v]))) := ⟨_, rfl⟩
  have w2 : cW g x0 P hp2 := by rw [e2]; exact cW_hq u1 i1
  have n2 : hp2 nx = some (.inr (cCl f, [.int (nI c), va_rf (σ.2.2.2.2.2.2.2.2.2.2.1 c), .double v])) := by rw [e2, va_s]
  refine ⟨fun r h n => r = some nx ∧ h = cput g x0 P σ hp2 ∧ n = nx + 1, ?_, x_like (cput_h w1 n1) (cput_c w1 hc) hne cCl_in (i1.2.2.1 c hc).2.2.2 u3 (i6.2.2.1.own i6.2.2.2 hc) (by omega) ⟨rfl, ?_, rfl⟩⟩
  rotate_left
  · rw [e1, c_put2 u1, e2, ev, cCl_ki (by omega)]
  rintro r h n ⟨rfl, rfl, rfl⟩
  rw [ca_cells]
  refine ⟨ic, by omega, ?_, ?_⟩
  · intro a ea
    cases ea
    exact ⟨_, _, cput_h w2 n2, cCl_in⟩
  rintro _ rfl
  rw [cc, cu_cells]
  refine ⟨by omega, by omega, ?_⟩
  have hW3 := cSwW (σ := cuR σ 0 (va_up (σ.2.2.2.2.2.2.1 0) c (some nx))) w2 hc u1 u3 (cCl_in (k := f))
  rw [cSwE (σ := cuR σ 0 (va_up (σ.2.2.2.2.2.2.1 0) c (some nx))) w2 hc u1 n2 u3 cCl_in]
  have hl3 : hLe hp (cHc P (cuR σ 0 (va_up (σ.2.2.2.2.2.2.1 0) c (some nx))) hp2 c nx) := cSwL (by rw [e2]; exact hLe.up u2) u2 (i1.2.2.1 c hc).2.1
  refine hK _ _ _ _ ?_ hl3 (by omega)
  have hx := hV.2.2.2.2.2.2
  have := hI'.sw (a := nx) (ci := cCl f) (v := v) (ow := s_up A.1.2.2.2 c ((A.1.2.2.2 c).map (s_kp (nI f)))) hc hl3 hW3 (by rw [cCl_ki (by omega), ev]; exact i6.2.2.1.kind i6.2.2.2 hx.2.1 hx.2.2.1) (fun hne => by
    rw [ev, i6.2.2.2 c hc hne]
    unfold cLk1
    rw [s_if_n cNaN_ne])
  rw [cCl_ki (by omega)] at this
  exact this
end SW
