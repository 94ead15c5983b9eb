set_option maxRecDepth 100000
/-! THE REFERENCE's operations: back -/
section UQ
variable {l : Launch} {g : zG} {d m0 : Nat} {τ τ' τm τ1 τ2 : tS} {hp : zHp} {nx : Nat}
def tNx (F : sF) (τ : tS) (c : Nat) : Prop := (∀ k, bs (τ.2.2.1 12 0 c) k = true ↔ (k < 24 ∧ ∃ m ∈ F c, m.1 = k)) ∧ ∀ t, t < 6 → τ.2.2.1 13 c t = nI (s_tt (F c) t)
/-- copied so far out of the image -/
def tCb (N : Nat) (P Q : Nat → Nat → Nat → Prop) (τ τ1 : tS) : Prop := τ1.1 = τ.1 ∧ τ1.2.1 = τ.2.1 ∧ (∀ k, ¬ tvI k → k ≠ 12 → k ≠ 13 → τ1.2.2.1 k = τ.2.2.1 k) ∧ (∀ k, ¬ tvD k → τ1.2.2.2 k = τ.2.2.2 k) ∧ (∀ k, tvI k → ∀ i j, P k i j → τ1.2.2.1 k i j = τ.2.2.1 (tiI k) i j) ∧ (∀ k, tvD k → ∀ i j, Q k i j → τ1.2.2.2 k i j = τ.2.2.2 (tiD k) i j) ∧ (∀ x, 24 ≤ x → τ1.2.2.1 1 0 x = τ.2.2.1 1 0 x ∧ τ1.2.2.2 2 0 x = τ.2.2.2 2 0 x) ∧ ∀ c, c < N → tNx (tfm (tim τ)) τ1 c
theorem tCb.z : tCb 0 (fun _ _ _ => False) (fun _ _ _ => False) τ τ := ⟨rfl, rfl, fun _ _ _ _ => rfl, fun _ _ => rfl, fun _ _ _ _ h => h.elim, fun _ _ _ _ h => h.elim, fun _ _ => ⟨rfl, rfl⟩, fun c h => absurd h (by omega)⟩
theorem tCb.mono {N : Nat} {P Q P' Q' : Nat → Nat → Nat → Prop} (h : tCb N P Q τ τ1) (hP : ∀ k i j, P' k i j → P k i j) (hQ : ∀ k i j, Q' k i j → Q k i j) : tCb N P' Q' τ τ1 := by
  obtain ⟨h1, h2, h3, h4, h5, h6, h7, h8⟩ := h
  exact ⟨h1, h2, h3, h4, fun k v i j q => h5 k v i j (hP k i j q), fun k v i j q => h6 k v i j (hQ k i j q), h7, h8⟩
theorem tvI_no {k : Nat} (h : 58 ≤ k) : ¬ tvI k := by unfold tvI; omega
theorem tvD_no {k : Nat} (h : 58 ≤ k) : ¬ tvD k := by unfold tvD; omega
theorem tCb.I {N : Nat} {P Q : Nat → Nat → Nat → Prop} (h : tCb N P Q τ τ1) (k i n : Nat) (hk : tvI k) (hn : k = 1 → n ≤ 24) : tCb N (fun k' i' j' => P k' i' j' ∨ (k' = k ∧ i' = i ∧ j' < n)) Q τ (taI τ1 k i (va_cpy (τ1.2.2.1 (tiI k) i) (τ1.2.2.1 k i) 0 0 n)) := by
  obtain ⟨h1, h2, h3, h4, h5, h6, h7, h8⟩ := h
  have lt := tiI_lt hk
  have e58 := h3 (tiI k) (tvI_no lt.1) (by omega) (by omega)
  have n12 : 12 ≠ k := fun e => by unfold tvI at hk; omega
  have n13 : 13 ≠ k := fun e => by unfold tvI at hk; omega
  have val : ∀ j, (taI τ1 k i (va_cpy (τ1.2.2.1 (tiI k) i) (τ1.2.2.1 k i) 0 0 n)).2.2.1 k i j = if j < n then τ.2.2.1 (tiI k) i j else τ1.2.2.1 k i j := fun j => by rw [tqa, s_cpy0, e58]
  refine ⟨h1, h2, fun k' q q1 q2 => ?_, h4, fun k' v i' j' q => ?_, h6, fun x hx => ⟨?_, (h7 x hx).2⟩, fun c hc => ?_⟩
  · rw [tqc (fun e => q (by rw [e]; exact hk))]; exact h3 k' q q1 q2
  · by_cases e : k' = k
    · subst e
      by_cases ei : i' = i
      · subst ei
        rw [val]
        by_cases ej : j' < n
        · rw [if_pos ej]
        · rw [if_neg ej]
          exact h5 k' v i' j' (q.resolve_right (fun z => ej z.2.2))
      · rw [tqb ei]
        exact h5 k' v i' j' (q.resolve_right (fun z => ei z.2.1))
    · rw [tqc e]
      exact h5 k' v i' j' (q.resolve_right (fun z => e z.1))
  · by_cases e : 1 = k
    · subst e
      by_cases ei : 0 = i
      · subst ei
        rw [val x, if_neg (by have := hn rfl; omega)]
        exact (h7 x hx).1
      · rw [tqb ei]; exact (h7 x hx).1
    · rw [tqc e]; exact (h7 x hx).1
  · unfold tNx
    rw [tqc n12, tqc n13]
    exact h8 c hc
theorem tCb.D {N : Nat} {P Q : Nat → Nat → Nat → Prop} (h : tCb N P Q τ τ1) (k i n : Nat) (hk : tvD k) (hn : k = 2 → n ≤ 24) : tCb N P (fun k' i' j' => Q k' i' j' ∨ (k' = k ∧ i' = i ∧ j' < n)) τ (taD τ1 k i (va_cpy (τ1.2.2.2 (tiD k) i) (τ1.2.2.2 k i) 0 0 n)) := by
  obtain ⟨h1, h2, h3, h4, h5, h6, h7, h8⟩ := h
  have lt := tiD_lt hk
  have e58 := h4 (tiD k) (tvD_no lt.1)
  have val : ∀ j, (taD τ1 k i (va_cpy (τ1.2.2.2 (tiD k) i) (τ1.2.2.2 k i) 0 0 n)).2.2.2 k i j = if j < n then τ.2.2.2 (tiD k) i j else τ1.2.2.2 k i j := fun j => by rw [tqh, s_cpy0, e58]
  refine ⟨h1, h2, h3, fun k' q => ?_, h5, fun k' v i' j' q => ?_, fun x hx => ⟨(h7 x hx).1, ?_⟩, h8⟩
  · rw [tqj (fun e => q (by rw [e]; exact hk))]; exact h4 k' q
  · by_cases e : k' = k
    · subst e
      by_cases ei : i' = i
      · subst ei
        rw [val]
        by_cases ej : j' < n
        · rw [if_pos ej]
        · rw [if_neg ej]
          exact h6 k' v i' j' (q.resolve_right (fun z => ej z.2.2))
      · rw [tqi ei]
        exact h6 k' v i' j' (q.resolve_right (fun z => ei z.2.1))
    · rw [tqj e]
      exact h6 k' v i' j' (q.resolve_right (fun z => e z.1))
  · by_cases e : 2 = k
    · subst e
      by_cases ei : 0 = i
      · subst ei
        rw [val x, if_neg (by have := hn rfl; omega)]
        exact (h7 x hx).2
      · rw [tqi ei]; exact (h7 x hx).2
    · rw [tqj e]; exact (h7 x hx).2
theorem tCb.nf {N : Nat} {P Q : Nat → Nat → Nat → Prop} (h : tCb N P Q τ τ1) (hf : tnf N τ1 τ2) (hN : tNc τ2 N) (e : tfm τ1 N = tfm (tim τ) N) : tCb (N + 1) P Q τ τ2 := by
  obtain ⟨h1, h2, h3, h4, h5, h6, h7, h8⟩ := h
  refine ⟨hf.1.trans h1, hf.2.1.trans h2, fun k q q1 q2 => (hf.k k q1 q2).trans (h3 k q q1 q2), fun k q => by rw [hf.2.2.1]; exact h4 k q, fun k v i j q => by rw [hf.k k (fun z => by unfold tvI at v; omega) (fun z => by unfold tvI at v; omega)]; exact h5 k v i j q, fun k v i j q => by rw [hf.2.2.1]; exact h6 k v i j q, fun x hx => by rw [hf.k 1 (by decide) (by decide), hf.2.2.1]; exact h7 x hx, fun c hc => ?_⟩
  by_cases ec : c = N
  · subst ec
    unfold tNc at hN
    rw [hf.fm, e] at hN
    exact hN
  · have := h8 c (by omega)
    unfold tNx at this ⊢
    rw [hf.2.2.2 12 0 c (by omega) (by omega), show τ2.2.2.1 13 c = τ1.2.2.1 13 c from funext fun j => hf.2.2.2 13 c j (by omega) (by omega)]
    exact this
end UQ
