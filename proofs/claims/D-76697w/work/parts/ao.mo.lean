set_option maxRecDepth 100000
/-! what never changes only grows -/
section MO
variable {l : Launch} {g : zG} {d x0 : Nat} {P : cP} {σ : cS} {hp hp' hp2 : zHp} {nx : Nat} {fm : sF} {ly : sY} {kd : Nat → Int32} {X : cX}
def hLe (hp hp' : zHp) : Prop := ∀ q e, hp q = some e → hp' q = some e
theorem hLe.rf : hLe hp hp := fun _ _ h => h
theorem hLe.tr (h : hLe hp hp') (h2 : hLe hp' hp2) : hLe hp hp2 := fun q e z => h2 q e (h q e z)
theorem hLe.up {q : Nat} {v : Option va_E} (h : hp q = none) : hLe hp (va_up hp q v) := fun y e z => by
  by_cases e : y = q
  · rw [e, h] at z; cases z
  · rw [va_o e]; exact z
theorem cLk.mo {R R' : Nat → List sM → Prop} (hR : ∀ b ps, R b ps → R' b ps) (h : hLe hp hp') {tm : Bool} : ∀ k r ms, cLk R hp tm k r ms → cLk R' hp' tm k r ms := by
  intro k
  induction k with
  | zero => intro r ms z; exact z
  | succ k ih =>
    intro r ms z
    rcases z with z | ⟨a, sg, b, r2, m, ps, rest, h1, h2, h3, h4, h5, h6⟩
    · exact Or.inl z
    · exact Or.inr ⟨a, sg, b, r2, m, ps, rest, h1, h _ _ h2, hR _ _ h3, h4, ih _ _ h5, h6⟩
theorem cNd.mo (h : hLe hp hp') : ∀ n a ms, cNd hp x0 n a ms → cNd hp' x0 n a ms := by
  intro n
  induction n with
  | zero => intro a ms z; exact z
  | succ n ih =>
    intro a ms z
    have hk : ∀ {tm : Bool} {k : Nat} {r : Option Nat} {ms : List sM}, cLk (cNd hp x0 n) hp tm k r ms → cLk (cNd hp' x0 n) hp' tm k r ms := fun {tm k r ms} z => cLk.mo ih h k r ms z
    rcases z with ⟨v, m, ha, m1⟩ | ⟨c, hc, ha, m1⟩ | ⟨b, ps, ha, hb, m1⟩ | ⟨b, hd, la, ps, qs, ha, hb, hL, m1⟩ | ⟨b, hd, la, ps, qs, ha, hb, hL, m1⟩ | ⟨b, e, ps, qs, ha, hb, he, m1⟩ | ⟨b, e, ps, qs, ha, hb, he, m1⟩ | ⟨b, e, ps, qs, z, m, ha, hb, he, m1⟩ | ⟨b, e, f, ps, qs, rs, ha, hb, he, hg, m1⟩ | ⟨ci, t, c1, c2, ht, ha, m1⟩
    · exact Or.inl ⟨v, m, h _ _ ha, m1⟩
    · exact Or.inr (Or.inl ⟨c, hc, h _ _ ha, m1⟩)
    · exact Or.inr (Or.inr (Or.inl ⟨b, ps, h _ _ ha, ih _ _ hb, m1⟩))
    · exact Or.inr (Or.inr (Or.inr (Or.inl ⟨b, hd, la, ps, qs, h _ _ ha, ih _ _ hb, hk hL, m1⟩)))
    · exact Or.inr (Or.inr (Or.inr (Or.inr (Or.inl ⟨b, hd, la, ps, qs, h _ _ ha, ih _ _ hb, hk hL, m1⟩))))
    · exact Or.inr (Or.inr (Or.inr (Or.inr (Or.inr (Or.inl ⟨b, e, ps, qs, h _ _ ha, ih _ _ hb, ih _ _ he, m1⟩)))))
    · exact Or.inr (Or.inr (Or.inr (Or.inr (Or.inr (Or.inr (Or.inl ⟨b, e, ps, qs, h _ _ ha, ih _ _ hb, ih _ _ he, m1⟩))))))
    · exact Or.inr (Or.inr (Or.inr (Or.inr (Or.inr (Or.inr (Or.inr (Or.inl ⟨b, e, ps, qs, z, m, h _ _ ha, ih _ _ hb, ih _ _ he, m1⟩)))))))
    · exact Or.inr (Or.inr (Or.inr (Or.inr (Or.inr (Or.inr (Or.inr (Or.inr (Or.inl ⟨b, e, f, ps, qs, rs, h _ _ ha, ih _ _ hb, ih _ _ he, ih _ _ hg, m1⟩))))))))
    · exact Or.inr (Or.inr (Or.inr (Or.inr (Or.inr (Or.inr (Or.inr (Or.inr (Or.inr ⟨ci, t, c1, c2, ht, h _ _ ha, m1⟩))))))))
theorem cAx.mo (h : hLe hp hp') {a c : Nat} {ns : List UInt64} (z : cAx g hp a c ns) : cAx g hp' a c ns := by
  obtain ⟨b, f, h1, h2, h3⟩ := z
  exact ⟨b, f, h _ _ h1, h _ _ h2, h3⟩
theorem cTb.mo (h : hLe hp hp') {a t : Nat} {L : sL} (z : cTb g hp a t L) : cTb g hp' a t L := by
  obtain ⟨a1, r2, h1, h2, h3⟩ := z
  exact ⟨a1, r2, h _ _ h1, h2.mo h, h3.imp id (fun ⟨b, a2, q1, q2, q3⟩ => ⟨b, a2, q1, q2, q3.mo h⟩)⟩
theorem cNe.mo (h : hLe hp hp') : ∀ (ts : List Nat) (r : Option Nat), cNe hp r ts → cNe hp' r ts := by
  intro ts
  induction ts with
  | nil => intro r z; exact z
  | cons t ts ih =>
    rintro r ⟨a, b, r2, pv, h1, h2, h3, h4⟩
    exact ⟨a, b, r2, pv, h1, h _ _ h2, h _ _ h3, ih _ h4⟩
theorem cAs.mo (h : hLe hp hp') {a : Nat} {ts : List Nat} (z : cAs hp a ts) : cAs hp' a ts := by
  obtain ⟨md, r, la, h1, h2, h3⟩ := z
  exact ⟨md, r, la, h _ _ h1, cNe.mo h _ _ h2, h3⟩
theorem cBo.mo (h : hLe hp hp') {a : Nat} {w : Int64} (z : cBo g hp a w) : cBo g hp' a w := by
  obtain ⟨b, f, h1, h2, h3⟩ := z
  exact ⟨b, f, h _ _ h1, h _ _ h2, h3⟩
theorem cFx.mo (h : hLe hp hp') {nb as : Nat} {ms : List sM} (z : cFx g hp nb as ms) : cFx g hp' nb as ms := by
  obtain ⟨⟨w, h1, h2⟩, h3⟩ := z
  exact ⟨⟨w, h1.mo h, h2⟩, h3.mo h⟩
theorem cFm.mo (h : hLe hp hp') {r : Option Nat} {ms : List sM} (z : cFm g x0 hp r ms) : cFm g x0 hp' r ms := by
  rcases z with z | ⟨a, root, nb, as, n, h1, h2, h3, h4, h5, h6⟩
  · exact Or.inl z
  · exact Or.inr ⟨a, root, nb, as, n, h1, h2, h _ _ h3, h4, cNd.mo h _ _ _ h5, h6.mo h⟩
theorem cLy.mo (h : hLe hp hp') {t : Nat} {r : Option Nat} {o : Option sL} (z : cLy g hp t r o) : cLy g hp' t r o := by
  rcases z with z | ⟨a, L, h1, h2, h3, h4⟩
  · exact Or.inl z
  · exact Or.inr ⟨a, L, h1, h2, h3.mo h, h4⟩
theorem cSH.mo (h : hLe hp hp') (z : cSH g x0 P hp X fm ly kd) : cSH g x0 P hp' X fm ly kd := ⟨z.1, z.2.1, fun c hc => (z.2.2.1 c hc).mo h, fun t ht => (z.2.2.2.1 t ht).mo h, z.2.2.2.2⟩
/-- places that the world holds -/
def cOv (x0 : Nat) (P : cP) (q : Nat) : Prop := cIn x0 q ∨ (∃ c, c < 24 ∧ P.1 c = q) ∨ ∃ r t n, r < 4 ∧ P.2.2 r = some (q, t, n)
theorem cput_hq {q : Nat} {v : Option va_E} (hq : ¬ cOv x0 P q) : va_up (cput g x0 P σ hp) q v = cput g x0 P σ (va_up hp q v) := by
  funext y
  by_cases e : y = q
  · subst e
    rw [va_s]
    unfold cput cRoH cPlH
    rw [s_if_n (fun z => hq (Or.inl z)), s_if_n (fun z => hq (Or.inr (Or.inr z))), s_if_n (fun z => hq (Or.inr (Or.inl z))), va_s]
  · rw [va_o e]
    unfold cput cRoH cPlH
    rw [va_o e]
theorem cW_hq {q : Nat} {v : Option va_E} (hq : ¬ cOv x0 P q) (hW : cW g x0 P hp) : cW g x0 P (va_up hp q v) := by
  obtain ⟨w1, w2, w3, w4, w5, w6⟩ := hW
  refine ⟨w1, fun y hy => ?_, fun c hc => ⟨(w3 c hc).1, ?_, (w3 c hc).2.2⟩, w4, fun r a t n hr e => ⟨(w5 r a t n hr e).1, ?_, (w5 r a t n hr e).2.2⟩, w6⟩
  · rw [va_o (fun z => hq (by rw [← z]; exact Or.inl hy))]; exact w2 y hy
  · rw [va_o (fun z => hq (by rw [← z]; exact Or.inr (Or.inl ⟨c, hc, rfl⟩)))]; exact (w3 c hc).2.1
  · rw [va_o (fun z => hq (by rw [← z]; exact Or.inr (Or.inr ⟨r, t, n, hr, e⟩)))]; exact (w5 r a t n hr e).2.1
theorem cOv_some (hW : cW g x0 P hp) {q : Nat} (h : cOv x0 P q) : ∃ e, cput g x0 P σ hp q = some e := by
  rcases h with h | ⟨c, hc, rfl⟩ | ⟨r, t, n, hr, e⟩
  · have hl : q - x0 < cwL.length := by rw [cwL_len]; exact h.2.1
    have h1 := (cwL_fx (List.getElem?_eq_getElem hl)).mpr h.2
    have := cput_x (g := g) (x0 := x0) (P := P) (σ := σ) (hp := hp) (List.getElem?_eq_getElem hl) h1
    rw [show x0 + (q - x0) = q by have := h.1; omega] at this
    exact ⟨_, this⟩
  · exact ⟨_, cput_c hW hc⟩
  · exact ⟨_, cput_r hW hr e⟩
theorem c_fresh (hW : cW g x0 P hp) (hf : ∀ (a : Nat) (e : va_E), cput g x0 P σ hp a = some e → a < nx) : ¬ cOv x0 P nx ∧ hp nx = none := by
  refine ⟨fun h => ?_, ?_⟩
  · obtain ⟨e, he⟩ := cOv_some (σ := σ) hW h
    exact Nat.lt_irrefl _ (hf nx e he)
  · cases h : hp nx with
    | none => rfl
    | some e => exact absurd (hf nx e (cput_h hW h)) (Nat.lt_irrefl _)
end MO
