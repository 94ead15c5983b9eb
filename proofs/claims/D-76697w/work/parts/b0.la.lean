set_option maxRecDepth 100000
/-! the sheet is laid anew: clear, lays, drop -/
section LA
variable {l : Launch} {g : zG} {d x0 : Nat} {P : cP} {σ σ' : cS} {hp hp' : zHp} {nx M M' : Nat} {A : sV} {S : sSt} {fm : sF} {ly : sY} {kd : Nat → Int32} {mc ms : Nat}
/-- the invariant but for the weights -/
def cIV0 (g : zG) (x0 : Nat) (P : cP) (hp : zHp) (σ : cS) (A : sV) (M : Nat) : Prop := cW g x0 P hp ∧ cIc g hp ∧ σ.2.1 = none ∧ cBk σ.2.2.2.2 ∧ cDw σ.2.2.2.2.2.2.2.2.1 ∧ (cS0 g x0 P hp σ.2.2.2.2 A.1.1 A.1.2.1 A.1.2.2.1 ∧ cOW A.1.1 A.1.2.2.1 σ.2.2.2.1 A.1.2.2.2 ∧ ∀ c, c < 24 → A.1.1 c ≠ [] → σ.2.2.2.1 c = cNaN) ∧ cIm g x0 hp σ A.2.1 ∧ cTp σ A.2.2.1 ∧ cRw P σ A.2.2.2 ∧ cSt σ M
theorem cINV.v0 (h : cINV g x0 P hp σ A M) : cIV0 g x0 P hp σ A M := by
  obtain ⟨i1, i2, i3, i4, i5, i6, i7⟩ := h
  exact ⟨i1, i2, i3, i4, i5, ⟨i6.1, i6.2.2.1, i6.2.2.2⟩, i7⟩
theorem cIV0.w (h : cIV0 g x0 P hp σ A M) (hw : ∀ q, q < 30 → cWg σ.2.2.2.2 A.1.1 A.1.2.1 q) : cINV g x0 P hp σ A M := by
  obtain ⟨i1, i2, i3, i4, i5, i6, i7⟩ := h
  exact ⟨i1, i2, i3, i4, i5, ⟨i6.1, hw, i6.2.1, i6.2.2⟩, i7⟩
theorem cIm.mo (h : hLe hp hp') {o : Option sSt} (z : cIm g x0 hp σ o) : cIm g x0 hp' σ o := by
  rcases z with z | ⟨z1, S, z2, z3, z4, z5, z6⟩
  · exact Or.inl z
  · exact Or.inr ⟨z1, S, z2, z3, fun c hc => (z4 c hc).mo h, fun t ht => (z5 t ht).mo h, z6⟩
theorem cIV0.mo (hl : hLe hp hp') (hW : cW g x0 P hp') (h : cIV0 g x0 P hp σ A M) : cIV0 g x0 P hp' σ A M := by
  obtain ⟨i1, i2, i3, i4, i5, i6, i7, i8⟩ := h
  exact ⟨hW, i2.mo hl, i3, i4, i5, ⟨i6.1.mo hl, i6.2⟩, i7.mo hl, i8⟩
theorem cIV0.fo (h : cIV0 g x0 P hp σ A M) (hf : cFo σ σ') (hk : cBk σ'.2.2.2.2) (hq : cDw σ'.2.2.2.2.2.2.2.2.1) : cIV0 g x0 P hp σ' A M := by
  obtain ⟨i1, i2, i3, i4, i5, i6, i7, i8, i9, i10⟩ := h
  obtain ⟨f1, f2, f3, f4, f5, f6, f7, f8⟩ := hf
  refine ⟨i1, i2, f2.trans i3, hk, hq, ⟨i6.1.fo ⟨f1, f2, f3, f4, f5, f6, f7, f8⟩, by rw [f4]; exact i6.2.1, by rw [f4]; exact i6.2.2⟩, ?_, ?_, ?_, ?_⟩
  · unfold cIm at i7 ⊢
    rw [f1, f5 24 (by decide) (by decide) (by decide) (by decide), f6, f7]
    exact i7
  · unfold cTp at i8 ⊢
    rw [f1, f5 19 (by decide) (by decide) (by decide) (by decide)]
    exact i8
  · unfold cRw at i9 ⊢
    rw [f8]
    exact i9
  · unfold cSt at i10 ⊢
    rw [f3]
    exact i10
theorem cWg.tm {X : cX} (h : ∀ q, q < 30 → cWg X fm ly q) : ¬ s_tm fm ly := by
  rintro (⟨c, hc, hb⟩ | ⟨t, ht, L, hl, hb⟩)
  · have := ((h c (by omega)).1 hc).2.2.2
    omega
  · have := ((h (24 + t) (by omega)).2 (by omega)).2
    rw [show 24 + t - 24 = t by omega, s_tb_s hl] at this
    omega
/-- orders, over the invariant -/
theorem c_ord (h : cIV0 g x0 P hp σ A M) (hM : sMr A.1.1) (hd : 13 ≤ d) {K : Int32 → zHp → Nat → Prop}
    (hK : ∀ x σ' hp' nx', cIV0 g x0 P hp' σ' A M → cFo σ σ' → hLe hp hp' → nx ≤ nx' → ((x = 1 ∧ (∃ rk, s_rk A.1.1 A.1.2.1 rk) ∧ ¬ s_tm A.1.1 A.1.2.1 ∧ cINV g x0 P hp' σ' A M) ∨ (x = -5 ∧ ¬ ∃ rk, s_rk A.1.1 A.1.2.1 rk) ∨ (x = -4 ∧ (∃ rk, s_rk A.1.1 A.1.2.1 rk) ∧ s_tm A.1.1 A.1.2.1)) → K x (cput g x0 P σ' hp') nx') : zMtW l g yX0_orders cX0_orders 2 (some .int) [(0, 11, 12, 333)] d 122 734 [.ref x0] (cput g x0 P σ hp) nx (zQi g K) := by
  have h' := h
  obtain ⟨i1, i2, i3, i4, i5, i6, i7⟩ := h
  refine c_orders i1 i2 i6.1 hM i4 i5 hd (fun x σ' hp' nx' a1 a2 a3 a4 a5 a6 a7 => ?_)
  have hv := (h'.mo a5 a4).fo a1 a2 a3
  refine hK x σ' hp' nx' hv a1 a5 a6 ?_
  rcases a7 with ⟨b1, b2, b3⟩ | b | b
  · exact Or.inl ⟨b1, b2, cWg.tm b3, hv.w b3⟩
  · exact Or.inr (Or.inl b)
  · exact Or.inr (Or.inr b)
/-- a sheet that stands: orders says so -/
theorem c_ord1 (h : cIV0 g x0 P hp σ A M) (hM : sMr A.1.1) (hr : ∃ rk, s_rk A.1.1 A.1.2.1 rk) (ht : ¬ s_tm A.1.1 A.1.2.1) (hd : 13 ≤ d) {K : Int32 → zHp → Nat → Prop}
    (hK : ∀ σ' hp' nx', cINV g x0 P hp' σ' A M → cFo σ σ' → hLe hp hp' → nx ≤ nx' → K 1 (cput g x0 P σ' hp') nx') : zMtW l g yX0_orders cX0_orders 2 (some .int) [(0, 11, 12, 333)] d 122 734 [.ref x0] (cput g x0 P σ hp) nx (zQi g K) := by
  refine c_ord h hM hd (fun x σ' hp' nx' _ a1 a2 a3 a4 => ?_)
  rcases a4 with ⟨rfl, -, -, b⟩ | ⟨-, b⟩ | ⟨-, -, b⟩
  · exact hK σ' hp' nx' b a1 a2 a3
  · exact absurd hr b
  · exact absurd b ht
/-- the formula of a cell, what it's given is changed -/
theorem cS0.f (h : cS0 g x0 P hp σ.2.2.2.2 fm ly kd) {c : Nat} {r : Option Nat} {m : List sM} (hm : cFm g x0 hp r m) : cS0 g x0 P hp (cuF σ (va_up σ.2.2.2.2.2.2.2.2.2.2.1 c r)).2.2.2.2 (s_up fm c m) ly kd := by
  refine ⟨h.1, h.2.1, fun e he => ?_, h.2.2.2⟩
  show cFm g x0 hp (va_up σ.2.2.2.2.2.2.2.2.2.2.1 c r e) _
  by_cases q : e = c
  · subst q; rw [va_s, s_up_s]; exact hm
  · rw [va_o q, s_up_o q]; exact h.2.2.1 e he
theorem cOW.f {own : Nat → UInt64} {ow : sO} (h : cOW fm kd own ow) {c : Nat} {m : List sM} : cOW (s_up fm c m) kd (va_up own c cNaN) (s_up ow c none) := by
  refine ⟨fun x w hx => ?_, fun e he hf => ?_⟩
  · unfold s_up at hx
    by_cases q : x = c
    · rw [if_pos q] at hx; cases hx
    · rw [if_neg q] at hx; exact h.1 x w hx
  · by_cases q : e = c
    · subst q; rw [va_s, s_up_s]; exact Or.inl ⟨rfl, rfl⟩
    · rw [s_up_o q] at hf
      rw [va_o q, s_up_o q]
      exact h.2 e he hf
theorem cIV0.f (h : cIV0 g x0 P hp σ A M) {c : Nat} {r : Option Nat} {m : List sM} (hm : cFm g x0 hp r m) : cIV0 g x0 P hp (cuO (cuF σ (va_up σ.2.2.2.2.2.2.2.2.2.2.1 c r)) c cNaN) ((s_up A.1.1 c m, A.1.2.1, A.1.2.2.1, s_up A.1.2.2.2 c none), A.2) M := by
  obtain ⟨i1, i2, i3, i4, i5, i6, i7, i8, i9, i10⟩ := h
  refine ⟨i1, i2, i3, i4, i5, ⟨i6.1.f hm, i6.2.1.f, fun e he hne => ?_⟩, i7, i8, i9, i10⟩
  show va_up σ.2.2.2.1 c cNaN e = cNaN
  by_cases q : e = c
  · subst q; exact va_s
  · rw [va_o q]
    refine i6.2.2 e he (fun z => hne ?_)
    show s_up A.1.1 c m e = []
    rw [s_up_o q]; exact z
theorem sMr.f {c : Nat} {m : List sM} (h : sMr fm) (h1 : s_mo (s_up fm c m)) (h2 : m.length ≤ 96) : sMr (s_up fm c m) := ⟨h1, fun e he => by
  by_cases q : e = c
  · subst q; rw [s_up_s]; exact h2
  · rw [s_up_o q]; exact h.2 e he⟩
theorem s_mo.up {c : Nat} {m : List sM} (h : s_mo fm) (h1 : c < 24 → ∀ x ∈ m, 300 ≤ x.1 → x.1 % 10 < 6) : s_mo (s_up fm c m) := fun e he => by
  by_cases q : e = c
  · subst q; rw [s_up_s]; exact h1 he
  · rw [s_up_o q]; exact h e he
theorem s_less1 {c : Nat} : ∀ y, s_up fm c [] y = fm y ∨ s_up fm c [] y = [] := fun y => by
  by_cases e : y = c
  · subst e; exact Or.inr s_up_s
  · exact Or.inl (s_up_o e)
theorem s_less2 {t : Nat} : ∀ y, s_up ly t none y = ly y ∨ s_up ly t none y = none := fun y => by
  by_cases e : y = t
  · subst e; exact Or.inr s_up_s
  · exact Or.inl (s_up_o e)
/-- clear -/
theorem co_clear (hV : sOK A.1) (hI : cINV g x0 P hp σ A M) (hd : 30 ≤ d) (hmc : 122 ≤ mc) (hms : 734 ≤ ms) {x : Int32} {K : Int32 → zHp → Nat → Prop} (hK : ∀ σ' hp' nx', cINV g x0 P hp' σ' (o_clear A x).2 M → hLe hp hp' → nx ≤ nx' → K (o_clear A x).1 (cput g x0 P σ' hp') nx') : zMt l g yX0_clear cX0_clear 2 (some .int) d mc ms [.ref x0, .int x] (cput g x0 P σ hp) nx (zQi g K) := by
  obtain ⟨d, rfl⟩ := Nat.exists_eq_add_of_le' (show 1 ≤ d by omega)
  have hI' := hI
  obtain ⟨i1, i2, i3, i4, i5, i6, i7, i8, i9, i10⟩ := hI
  apply met_X0_clear
  unfold wp_X0_clear
  refine ⟨Nat.zero_le _, Nat.zero_le _, c_isCell (by omega) (fun e => ?_) (fun c hc ex e => ?_)⟩
  · have h0 := hK σ hp nx
    unfold o_clear at h0
    rw [e] at h0
    exact ⟨fun _ => ⟨Nat.zero_le _, Nat.zero_le _, h0 hI' hLe.rf (Nat.le_refl _)⟩, fun z => absurd rfl z⟩
  · subst ex
    have eo : o_clear A (nI c) = (1, (s_up A.1.1 c [], A.1.2.1, A.1.2.2.1, s_up A.1.2.2.2 c none), A.2) := by unfold o_clear; rw [e]
    rw [eo] at hK
    refine ⟨fun z => absurd z (by decide), fun _ => ?_⟩
    refine cRC (S := A.1) i6.1 hc ?_
    rw [cc_pf i1 hc]
    refine cRC (S := (s_up A.1.1 c [], A.1.2)) (σ := cuF σ (va_up σ.2.2.2.2.2.2.2.2.2.2.1 c none)) (i6.1.f (c := c) (Or.inl ⟨rfl, rfl⟩)) hc ?_
    rw [cc_pw i1 hc]
    refine ⟨122, 734, by omega, by omega, ?_⟩
    rw [cz_o]
    refine c_ord1 (A := ((s_up A.1.1 c [], A.1.2.1, A.1.2.2.1, s_up A.1.2.2.2 c none), A.2)) (hI'.v0.f (c := c) (r := none) (m := []) (Or.inl ⟨rfl, rfl⟩)) (hV.mr.f (hV.mr.1.up (fun _ x h => by cases h)) (Nat.zero_le _)) ?_ (s_tm_less s_less1 (fun _ => Or.inl rfl) hV.tm) (by omega) (fun σ' hp' nx' a1 a2 a3 a4 => ⟨by omega, by omega, hK σ' hp' nx' a1 a3 a4⟩)
    obtain ⟨⟨rk, hr⟩, -⟩ := hV
    exact ⟨rk, s_rk_less hr s_less1 (fun _ => Or.inl rfl)⟩
/-! tables -/
theorem cS0.t (h : cS0 g x0 P hp σ.2.2.2.2 fm ly kd) {t : Nat} {r : Option Nat} {o : Option sL} (hm : cLy g hp t r o) : cS0 g x0 P hp (cuR σ 1 (va_up (σ.2.2.2.2.2.2.1 1) t r)).2.2.2.2 fm (s_up ly t o) kd := by
  refine ⟨fun c hc => ?_, h.2.1, h.2.2.1, fun e he => ?_⟩
  · show va_up σ.2.2.2.2.2.2.1 1 (va_up (σ.2.2.2.2.2.2.1 1) t r) 0 c = _
    rw [va_o (by decide)]
    exact h.1 c hc
  · show cLy g hp e (va_up σ.2.2.2.2.2.2.1 1 (va_up (σ.2.2.2.2.2.2.1 1) t r) 1 e) _
    rw [va_s]
    by_cases q : e = t
    · subst q; rw [va_s, s_up_s]; exact hm
    · rw [va_o q, s_up_o q]; exact h.2.2.2 e he
theorem cIV0.t (h : cIV0 g x0 P hp σ A M) {t : Nat} {r : Option Nat} {o : Option sL} (hm : cLy g hp t r o) : cIV0 g x0 P hp (cuR σ 1 (va_up (σ.2.2.2.2.2.2.1 1) t r)) ((A.1.1, s_up A.1.2.1 t o, A.1.2.2.1, A.1.2.2.2), A.2) M := by
  obtain ⟨i1, i2, i3, i4, i5, i6, i7, i8, i9, i10⟩ := h
  refine ⟨i1, i2, i3, i4, i5, ⟨i6.1.t hm, i6.2.1, i6.2.2⟩, ?_, i8, i9, i10⟩
  have q26 : (cuR σ 1 (va_up (σ.2.2.2.2.2.2.1 1) t r)).2.2.2.2.2.2.1 26 = σ.2.2.2.2.2.2.1 26 := by show va_up σ.2.2.2.2.2.2.1 1 (va_up (σ.2.2.2.2.2.2.1 1) t r) 26 = _; exact va_o (by decide)
  have q27 : (cuR σ 1 (va_up (σ.2.2.2.2.2.2.1 1) t r)).2.2.2.2.2.2.1 27 = σ.2.2.2.2.2.2.1 27 := by show va_up σ.2.2.2.2.2.2.1 1 (va_up (σ.2.2.2.2.2.2.1 1) t r) 27 = _; exact va_o (by decide)
  unfold cIm at i7 ⊢
  rw [q26, q27]
  exact i7
theorem s_up_id {α : Type} {f : Nat → α} {k : Nat} {v : α} : s_up (s_up f k v) k (f k) = f := by
  funext x
  unfold s_up
  by_cases e : x = k
  · rw [if_pos e, e]
  · rw [if_neg e, if_neg e]
theorem cLy.ca {t : Nat} {r : Option Nat} {o : Option sL} (h : cLy g hp t r o) (hW : cW g x0 P hp) : zCa (cput g x0 P σ hp) r [31] := by
  intro a e
  rcases h with ⟨-, q⟩ | ⟨a', L, -, q2, ⟨a1, r2, q3, -⟩, -⟩
  · rw [q] at e; cases e
  · rw [q2] at e; cases e
    exact ⟨31, _, cput_h hW q3, by decide⟩
/-- a table is laid, or all is as it was -/
theorem c_lays (hV : sOK A.1) (hI : cINV g x0 P hp σ A M) {t : Nat} (ht : t < 6) {r : Option Nat} {o : Option sL} (hl : cLy g hp t r o) (hd : 20 ≤ d) (hmc : 244 ≤ mc) (hms : 1468 ≤ ms) {K : Int32 → zHp → Nat → Prop}
    (hK : ∀ x A' σ' hp' nx', cINV g x0 P hp' σ' A' M → hLe hp hp' → nx ≤ nx' → ((x = 1 ∧ A' = ((A.1.1, s_up A.1.2.1 t o, A.1.2.2.1, A.1.2.2.2), A.2) ∧ (∃ rk, s_rk A.1.1 (s_up A.1.2.1 t o) rk) ∧ ¬ s_tm A.1.1 (s_up A.1.2.1 t o)) ∨ (x = -5 ∧ A' = A ∧ ¬ ∃ rk, s_rk A.1.1 (s_up A.1.2.1 t o) rk) ∨ (x = -4 ∧ A' = A ∧ (∃ rk, s_rk A.1.1 (s_up A.1.2.1 t o) rk) ∧ s_tm A.1.1 (s_up A.1.2.1 t o))) → K x (cput g x0 P σ' hp') nx') : zMtW l g yX0_lays cX0_lays 7 (some .int) [(10, 27, 48, 0), (48, 50, 48, 0)] d mc ms [.ref x0, .int (nI t), va_rf r] (cput g x0 P σ hp) nx (zQi g K) := by
  obtain ⟨d, rfl⟩ := Nat.exists_eq_add_of_le' (show 1 ≤ d by omega)
  have hI' := hI
  obtain ⟨i1, i2, i3, i4, i5, i6, i7⟩ := hI
  have hB0 := i1.1
  have ct : (nI t).toNatClampNeg = t := nI_clamp (by omega)
  have it : vp_in (nI t) 6 := vp_in_nI ht (by decide)
  apply met_X0_lays
  unfold wp_X0_lays
  rw [cg_tables, ca_tables]
  refine ⟨it, ?_⟩
  intro r8 e8
  rw [ct] at e8
  rw [cg_tables, ca_tables]
  refine ⟨it, by omega, hl.ca i1, ?_⟩
  intro hp16 e16
  rw [ct, cu_tables] at e16
  subst e16
  refine ⟨122, 734, by omega, by omega, ?_⟩
  rw [cz_o]
  refine c_ord (hI'.v0.t hl) hV.mr (by omega) (fun x σ1 hp1 nx1 a1 a2 a3 a4 a5 => ?_)
  refine ⟨fun _ _ x24 hp25 nx26 kc ks => x24 = x ∧ kc ≤ 244 ∧ ks ≤ 1468 ∧ K x hp25 nx26, ?_, fun e => ?_, fun e => ?_⟩
  · rintro _ _ x24 hp25 nx26 kc ks ⟨rfl, b1, b2, b3⟩
    exact ⟨by omega, by omega, b3⟩
  · subst e
    rcases a5 with ⟨-, b1, b2, b3⟩ | ⟨b, -⟩ | ⟨b, -⟩
    · exact ⟨rfl, by omega, by omega, hK 1 _ σ1 hp1 nx1 b3 a3 a4 (Or.inl ⟨rfl, rfl, b1, b2⟩)⟩
    · exact absurd b (by decide)
    · exact absurd b (by decide)
  · have ho := (i6.1.2.2.2 t ht).mo a3
    rw [← e8] at ho
    rw [cg_tables, ca_tables]
    refine ⟨it, by omega, ho.ca a1.1, ?_⟩
    intro hp36 e36
    rw [ct, cu_tables] at e36
    subst e36
    refine ⟨122, 734, by omega, by omega, ?_⟩
    rw [cz_o]
    have hb := a1.t ho
    have eA : (((A.1.1, s_up A.1.2.1 t o, A.1.2.2.1, A.1.2.2.2), A.2) : sV).1.1 = A.1.1 := rfl
    have e2 : s_up (s_up A.1.2.1 t o) t (A.1.2.1 t) = A.1.2.1 := s_up_id
    dsimp only at hb
    rw [e2] at hb
    obtain ⟨⟨rk, hr⟩, -⟩ := id hV
    refine c_ord1 (A := A) hb hV.mr ⟨rk, hr⟩ hV.tm (by omega) (fun σ2 hp2 nx2 c1 c2 c3 c4 => ⟨rfl, by omega, by omega, hK x A σ2 hp2 nx2 c1 (a3.tr c3) (by omega) ?_⟩)
    rcases a5 with ⟨b, -⟩ | ⟨b1, b2⟩ | ⟨b1, b2, b3⟩
    · exact absurd b e
    · exact Or.inr (Or.inl ⟨b1, rfl, b2⟩)
    · exact Or.inr (Or.inr ⟨b1, rfl, b2, b3⟩)
/-- drop -/
theorem co_drop (hV : sOK A.1) (hI : cINV g x0 P hp σ A M) (hd : 30 ≤ d) (hmc : 244 ≤ mc) (hms : 1468 ≤ ms) {x : Int32} {K : Int32 → zHp → Nat → Prop} (hK : ∀ σ' hp' nx', cINV g x0 P hp' σ' (o_drop A x).2 M → hLe hp hp' → nx ≤ nx' → K (o_drop A x).1 (cput g x0 P σ' hp') nx') : zMt l g yX0_drop cX0_drop 2 (some .int) d mc ms [.ref x0, .int x] (cput g x0 P σ hp) nx (zQi g K) := by
  obtain ⟨d, rfl⟩ := Nat.exists_eq_add_of_le' (show 1 ≤ d by omega)
  have hI' := hI
  obtain ⟨i1, i2, i3, i4, i5, i6, i7⟩ := hI
  have h0 := hK σ hp nx
  apply met_X0_drop
  unfold wp_X0_drop
  refine ⟨Nat.zero_le _, Nat.zero_le _, c_isTable (by omega) (fun e => ?_) (fun t ht ex e => ?_)⟩
  · unfold o_drop at h0
    rw [e] at h0
    exact ⟨fun _ => ⟨Nat.zero_le _, Nat.zero_le _, h0 hI' hLe.rf (Nat.le_refl _)⟩, fun z => absurd rfl z⟩
  · subst ex
    have ct : (nI t).toNatClampNeg = t := nI_clamp (by omega)
    have it : vp_in (nI t) 6 := vp_in_nI ht (by decide)
    refine ⟨fun z => absurd z (by decide), fun _ => ?_⟩
    rw [cg_tables, ca_tables]
    refine ⟨it, ?_⟩
    intro r er
    rw [ct] at er
    have hl := i6.1.2.2.2 t ht
    rw [← er] at hl
    refine ⟨fun z => ?_, fun z => ?_⟩
    · have hn : A.1.2.1 t = none := by
        rcases hl with ⟨q, -⟩ | ⟨a, L, -, q, -⟩
        · exact q
        · rw [z] at q; cases q
      unfold o_drop at h0
      rw [e] at h0
      simp only [hn] at h0
      exact ⟨Nat.zero_le _, Nat.zero_le _, h0 hI' hLe.rf (Nat.le_refl _)⟩
    · obtain ⟨L, hn⟩ : ∃ L, A.1.2.1 t = some L := by
        rcases hl with ⟨-, q⟩ | ⟨a, L, q, -⟩
        · exact absurd q z
        · exact ⟨L, q⟩
      have eo : o_drop A (nI t) = (1, (A.1.1, s_up A.1.2.1 t none, A.1.2.2.1, A.1.2.2.2), A.2) := by unfold o_drop; rw [e]; simp only [hn]
      rw [eo] at hK
      refine ⟨244, 1468, by omega, by omega, ?_⟩
      rw [cz_o]
      refine c_lays hV hI' ht (r := none) (o := none) (Or.inl ⟨rfl, rfl⟩) (by omega) (by omega) (by omega) (fun x A' σ' hp' nx' a1 a2 a3 a4 => ⟨by omega, by omega, ?_⟩)
      rcases a4 with ⟨rfl, rfl, -⟩ | ⟨-, -, b⟩ | ⟨-, -, -, b⟩
      · exact hK σ' hp' nx' a1 a2 a3
      · obtain ⟨⟨rk, hr⟩, -⟩ := hV
        exact absurd ⟨rk, s_rk_less hr (fun _ => Or.inl rfl) s_less2⟩ b
      · exact absurd b (s_tm_less (fun _ => Or.inl rfl) s_less2 hV.tm)
end LA
