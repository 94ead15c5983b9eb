set_option maxRecDepth 100000
/-! THE SPEC, third: rings, what is too much -/
section RG
def s_up {α : Type} (f : Nat → α) (k : Nat) (v : α) : Nat → α := fun x => if x = k then v else f x
theorem s_up_s {α : Type} {f : Nat → α} {k : Nat} {v : α} : s_up f k v k = v := by simp [s_up]
theorem s_up_o {α : Type} {f : Nat → α} {k x : Nat} {v : α} (h : x ≠ k) : s_up f k v x = f x := by simp [s_up, h]
/-- closed under what is named -/
def s_cl (fm : sF) (ly : sY) (S : Nat → Prop) : Prop :=
  (∀ c, c < 24 → S c → ∀ m ∈ fm c, m.1 < 24 → S m.1) ∧
  (∀ c, c < 24 → S c → ∀ m ∈ fm c, 300 ≤ m.1 → S (24 + m.1 % 10)) ∧
  (∀ t, t < 6 → S (24 + t) → ∀ L, ly t = some L → S L.1)
/-- it holds what marks name -/
def s_nm (ms : List sM) (S : Nat → Prop) : Prop := ∀ m ∈ ms, (m.1 < 24 → S m.1) ∧ (300 ≤ m.1 → S (24 + m.1 % 10))
theorem s_ring_no {fm : sF} {ly : sY} {rk : Nat → Nat} (hr : s_rk fm ly rk) (hb : ∀ x, x < 30 → rk x < 30) (hmo : s_mo fm) {S : Nat → Prop} (hS : s_cl fm ly S) {cell : Nat} {ms : List sM} (hms : s_nm ms S) (hmo' : ∀ m ∈ ms, 300 ≤ m.1 → m.1 % 10 < 6) (hc : ¬ S cell) : ∃ rk', s_rk (s_up fm cell ms) ly rk' := by
  refine ⟨fun x => s_if (S x) (rk x) (rk x + 30), ?_, ?_, ?_⟩
  · intro c hcc m hm h24
    by_cases e : c = cell
    · subst e
      rw [s_up_s] at hm
      simp only [s_if_p ((hms m hm).1 h24), s_if_n hc]
      have := hb m.1 (by omega)
      omega
    · rw [s_up_o e] at hm
      have h1 := hr.1 c hcc m hm h24
      by_cases hs : S c
      · simp only [s_if_p hs, s_if_p (hS.1 c hcc hs m hm h24)]
        exact h1
      · have := hb m.1 (by omega)
        by_cases hs2 : S m.1
        · simp only [s_if_n hs, s_if_p hs2]; omega
        · simp only [s_if_n hs, s_if_n hs2]; omega
  · intro c hcc m hm h3
    by_cases e : c = cell
    · subst e
      rw [s_up_s] at hm
      simp only [s_if_p ((hms m hm).2 h3), s_if_n hc]
      have := hb (24 + m.1 % 10) (by have := hmo' m hm h3; omega)
      omega
    · rw [s_up_o e] at hm
      have h1 := hr.2.1 c hcc m hm h3
      by_cases hs : S c
      · simp only [s_if_p hs, s_if_p (hS.2.1 c hcc hs m hm h3)]
        exact h1
      · have := hb (24 + m.1 % 10) (by have := hmo c hcc m hm h3; omega)
        by_cases hs2 : S (24 + m.1 % 10)
        · simp only [s_if_n hs, s_if_p hs2]; omega
        · simp only [s_if_n hs, s_if_n hs2]; omega
  · intro t ht L hL
    have h1 := hr.2.2 t ht L hL
    refine ⟨h1.1, ?_⟩
    by_cases hs : S (24 + t)
    · simp only [s_if_p hs, s_if_p (hS.2.2 t ht hs L hL)]
      exact h1.2
    · have := hb L.1 (by omega)
      by_cases hs2 : S L.1
      · simp only [s_if_n hs, s_if_p hs2]; omega
      · simp only [s_if_n hs, s_if_n hs2]; omega
theorem s_ring_yes {fm : sF} {ly : sY} {cell : Nat} {ms : List sM} {rk : Nat → Nat} (hcc : cell < 24) (hr : s_rk (s_up fm cell ms) ly rk) {S : Nat → Prop} (hS : ∀ P : Nat → Prop, s_cl fm ly P → s_nm ms P → ∀ x, S x → P x) : ¬ S cell := by
  intro h
  refine Nat.lt_irrefl _ (hS (fun x => rk x < rk cell) ⟨?_, ?_, ?_⟩ ?_ cell h)
  · intro c hc hs m hm h24
    have e : c ≠ cell := fun e => by subst e; exact Nat.lt_irrefl _ hs
    exact Nat.lt_trans (hr.1 c hc m (by rw [s_up_o e]; exact hm) h24) hs
  · intro c hc hs m hm h3
    have e : c ≠ cell := fun e => by subst e; exact Nat.lt_irrefl _ hs
    exact Nat.lt_trans (hr.2.1 c hc m (by rw [s_up_o e]; exact hm) h3) hs
  · intro t ht hs L hL
    exact Nat.lt_trans (hr.2.2 t ht L hL).2 hs
  · intro m hm
    exact ⟨fun h24 => hr.1 cell hcc m (by rw [s_up_s]; exact hm) h24, fun h3 => hr.2.1 cell hcc m (by rw [s_up_s]; exact hm) h3⟩
theorem s_tring_no {fm : sF} {ly : sY} {rk : Nat → Nat} (hr : s_rk fm ly rk) (hb : ∀ x, x < 30 → rk x < 30) (hmo : s_mo fm) {S : Nat → Prop} {t : Nat} (hS : s_cl fm (s_up ly t none) S) {L : sL} (hL : L.1 < 24) (ho : S L.1) (hc : ¬ S (24 + t)) : ∃ rk', s_rk fm (s_up ly t (some L)) rk' := by
  refine ⟨fun x => s_if (S x) (rk x) (rk x + 30), ?_, ?_, ?_⟩
  · intro c hcc m hm h24
    have h1 := hr.1 c hcc m hm h24
    by_cases hs : S c
    · simp only [s_if_p hs, s_if_p (hS.1 c hcc hs m hm h24)]
      exact h1
    · have := hb m.1 (by omega)
      by_cases hs2 : S m.1
      · simp only [s_if_n hs, s_if_p hs2]; omega
      · simp only [s_if_n hs, s_if_n hs2]; omega
  · intro c hcc m hm h3
    have h1 := hr.2.1 c hcc m hm h3
    by_cases hs : S c
    · simp only [s_if_p hs, s_if_p (hS.2.1 c hcc hs m hm h3)]
      exact h1
    · have := hb (24 + m.1 % 10) (by have := hmo c hcc m hm h3; omega)
      by_cases hs2 : S (24 + m.1 % 10)
      · simp only [s_if_n hs, s_if_p hs2]; omega
      · simp only [s_if_n hs, s_if_n hs2]; omega
  · intro u hu M hM
    by_cases e : u = t
    · subst e
      rw [s_up_s] at hM
      obtain rfl := Option.some.inj hM
      refine ⟨hL, ?_⟩
      simp only [s_if_p ho, s_if_n hc]
      have := hb L.1 (by omega)
      omega
    · rw [s_up_o e] at hM
      have h1 := hr.2.2 u hu M hM
      refine ⟨h1.1, ?_⟩
      by_cases hs : S (24 + u)
      · simp only [s_if_p hs, s_if_p (hS.2.2 u hu hs M (by rw [s_up_o e]; exact hM))]
        exact h1.2
      · have := hb M.1 (by omega)
        by_cases hs2 : S M.1
        · simp only [s_if_n hs, s_if_p hs2]; omega
        · simp only [s_if_n hs, s_if_n hs2]; omega
theorem s_tring_yes {fm : sF} {ly : sY} {t : Nat} {L : sL} {rk : Nat → Nat} (ht : t < 6) (hr : s_rk fm (s_up ly t (some L)) rk) {S : Nat → Prop} (hS : ∀ P : Nat → Prop, s_cl fm (s_up ly t none) P → P L.1 → ∀ x, S x → P x) : ¬ S (24 + t) := by
  intro h
  refine Nat.lt_irrefl _ (hS (fun x => rk x < rk (24 + t)) ⟨?_, ?_, ?_⟩ ?_ (24 + t) h)
  · intro c hc hs m hm h24
    exact Nat.lt_trans (hr.1 c hc m hm h24) hs
  · intro c hc hs m hm h3
    exact Nat.lt_trans (hr.2.1 c hc m hm h3) hs
  · intro u hu hs M hM
    by_cases e : u = t
    · subst e; rw [s_up_s] at hM; cases hM
    · rw [s_up_o e] at hM
      exact Nat.lt_trans (hr.2.2 u hu M (by rw [s_up_o e]; exact hM)).2 hs
  · exact (hr.2.2 t ht L s_up_s).2
/-- less is named: the rank stands -/
theorem s_rk_less {fm fm' : sF} {ly ly' : sY} {rk : Nat → Nat} (hr : s_rk fm ly rk) (h1 : ∀ c, fm' c = fm c ∨ fm' c = []) (h2 : ∀ t, ly' t = ly t ∨ ly' t = none) : s_rk fm' ly' rk := by
  refine ⟨fun c hc m hm h => ?_, fun c hc m hm h => ?_, fun t ht L hL => ?_⟩
  · rcases h1 c with e | e
    · exact hr.1 c hc m (e ▸ hm) h
    · rw [e] at hm; cases hm
  · rcases h1 c with e | e
    · exact hr.2.1 c hc m (e ▸ hm) h
    · rw [e] at hm; cases hm
  · rcases h2 t with e | e
    · exact hr.2.2 t ht L (e ▸ hL)
    · rw [e] at hL; cases hL
theorem s_re_less {fm fm' : sF} (h1 : ∀ c, fm' c = fm c ∨ fm' c = []) : ∀ (n c x : Nat), s_re fm' n c x → s_re fm n c x := by
  intro n
  induction n with
  | zero => intro c x h; exact h
  | succ n ih =>
    intro c x h
    rcases h with e | ⟨m, a, b, e⟩
    · exact Or.inl e
    · rcases h1 c with q | q
      · exact Or.inr ⟨m, q ▸ a, b, ih _ _ e⟩
      · rw [q] at a; cases a
theorem s_sum_le {α : Type} {f h : α → Nat} : ∀ {l : List α}, (∀ x ∈ l, f x ≤ h x) → (l.map f).sum ≤ (l.map h).sum := by
  intro l
  induction l with
  | nil => intro _; exact Nat.le_refl _
  | cons a l ih =>
    intro e
    simp only [List.map_cons, List.sum_cons]
    have h1 := e a (List.mem_cons_self ..)
    have h2 := ih (fun x hx => e x (List.mem_cons_of_mem _ hx))
    omega
theorem s_bu_less {fm fm' : sF} {ly ly' : sY} (h1 : ∀ c, fm' c = fm c ∨ fm' c = []) (h2 : ∀ t, ly' t = ly t ∨ ly' t = none) : ∀ (n c : Nat), s_bu fm' ly' n c ≤ s_bu fm ly n c := by
  intro n
  induction n with
  | zero => intro c; exact Nat.le_refl _
  | succ n ih =>
    intro c
    show s_bs _ fm' ly' c ≤ s_bs _ fm ly c
    refine s_sm_le (fun k hk => ?_)
    by_cases hx : s_RE fm' c k ∧ fm' k ≠ []
    · have e : fm' k = fm k := (h1 k).elim id (fun q => absurd q hx.2)
      have hx2 : s_RE fm c k ∧ fm k ≠ [] := ⟨s_re_less h1 31 c k hx.1, e ▸ hx.2⟩
      simp only [s_if_p hx, s_if_p hx2]
      unfold s_ld
      rw [e]
      refine Nat.add_le_add_left (s_sum_le (fun m hm => ?_)) 1
      by_cases h3 : 300 ≤ m.1
      · simp only [if_pos h3]
        rcases h2 (m.1 % 10) with q | q
        · rw [q]
          cases ly (m.1 % 10) with
          | none => exact Nat.le_refl _
          | some L => exact Nat.mul_le_mul_right _ (ih L.1)
        · rw [q]; exact Nat.zero_le _
      · simp only [if_neg h3]; exact Nat.le_refl _
    · simp only [s_if_n hx]; exact Nat.zero_le _
/-- it's too much -/
def s_tm (fm : sF) (ly : sY) : Prop := (∃ c, c < 24 ∧ 2000 < s_BU fm ly c) ∨ ∃ t, t < 6 ∧ ∃ L, ly t = some L ∧ 2000 < s_BU fm ly L.1 * s_nc L
theorem s_tm_less {fm fm' : sF} {ly ly' : sY} (h1 : ∀ c, fm' c = fm c ∨ fm' c = []) (h2 : ∀ t, ly' t = ly t ∨ ly' t = none) (h : ¬ s_tm fm ly) : ¬ s_tm fm' ly' := by
  rintro (⟨c, hc, hb⟩ | ⟨t, ht, L, hL, hb⟩)
  · exact h (Or.inl ⟨c, hc, Nat.lt_of_lt_of_le hb (s_bu_less h1 h2 31 c)⟩)
  · rcases h2 t with q | q
    · exact h (Or.inr ⟨t, ht, L, q ▸ hL, Nat.lt_of_lt_of_le hb (Nat.mul_le_mul_right _ (s_bu_less h1 h2 31 L.1))⟩)
    · rw [q] at hL; cases hL
end RG
