set_option maxRecDepth 100000
/-! THE PARSER as a function of the tape (no program in sight). A token: 0 end, 1 a cell, 2 a number, 3 a sign, 4 a word, 5 a word that is none -/
section PS
abbrev pT : Type := Nat × Nat × Option Nat
/-- behind the token, where it begins, the token, how many are open, how many numbers were read -/
abbrev pS : Type := Nat × Nat × pT × Nat × Nat
abbrev pQ : Type := Nat ⊕ (pS × List sM)
def p_bd {α β : Type} (r : Nat ⊕ α) (f : α → Nat ⊕ β) : Nat ⊕ β := match r with | .inl b => .inl b | .inr a => f a
theorem p_bd_r {α β : Type} {r : Nat ⊕ α} {f : α → Nat ⊕ β} {b : β} (h : p_bd r f = .inr b) : ∃ a, r = .inr a ∧ f a = .inr b := by
  cases r with
  | inl x => cases h
  | inr a => exact ⟨a, rfl, h⟩
def p_run (P : Nat → Bool) (t : List Nat) (k : Nat) : Nat := k + ((t.drop k).takeWhile P).length
theorem p_run_s {P : Nat → Bool} {t : List Nat} {k : Nat} {b : Nat} (h : t[k]? = some b) (hP : P b = true) : p_run P t k = p_run P t (k + 1) := by
  unfold p_run
  have hk : k < t.length := by
    rcases Nat.lt_or_ge k t.length with h1 | h1
    · exact h1
    · rw [List.getElem?_eq_none h1] at h; cases h
  have hb : t[k] = b := by
    rw [List.getElem?_eq_getElem hk] at h
    exact Option.some.inj h
  rw [List.drop_eq_getElem_cons hk, hb, List.takeWhile_cons, if_pos hP, List.length_cons]
  omega
theorem p_run_e {P : Nat → Bool} {t : List Nat} {k : Nat} (h : ∀ b, t[k]? = some b → P b = false) : p_run P t k = k := by
  unfold p_run
  rcases Nat.lt_or_ge k t.length with h1 | h1
  · have := h t[k] (List.getElem?_eq_getElem h1)
    rw [List.drop_eq_getElem_cons h1, List.takeWhile_cons, this]
    rfl
  · rw [List.drop_eq_nil_of_le h1]
    rfl
theorem p_run_ge {P : Nat → Bool} {t : List Nat} {k : Nat} : k ≤ p_run P t k := Nat.le_add_right _ _
theorem p_run_le {P : Nat → Bool} {t : List Nat} {k : Nat} (h : k ≤ t.length) : p_run P t k ≤ t.length := by
  unfold p_run
  have h1 := (List.takeWhile_sublist (l := t.drop k) P).length_le
  rw [List.length_drop] at h1
  omega
theorem p_run_m {P : Nat → Bool} {t : List Nat} : ∀ {n k : Nat}, n = p_run P t k - k → ∀ j, k ≤ j → j < p_run P t k → ∃ b, t[j]? = some b ∧ P b = true := by
  intro n
  induction n with
  | zero => intro k hn j h1 h2; omega
  | succ n ih =>
    intro k hn j h1 h2
    have hk : ∃ b, t[k]? = some b ∧ P b = true := by
      cases hb : t[k]? with
      | none =>
        have := p_run_e (P := P) (t := t) (k := k) (fun b h => by rw [hb] at h; cases h)
        omega
      | some b =>
        cases hP : P b with
        | true => exact ⟨b, rfl, hP⟩
        | false =>
          have := p_run_e (P := P) (t := t) (k := k) (fun b' h => by rw [hb] at h; cases h; exact hP)
          omega
    obtain ⟨b, hb, hP⟩ := hk
    have e := p_run_s hb hP
    by_cases hj : j = k
    · subst hj; exact ⟨b, hb, hP⟩
    · rw [e] at h2 hn
      exact ih (k := k + 1) (by omega) j (by omega) h2
/-- the run ends where it ends -/
theorem p_run_x {P : Nat → Bool} {t : List Nat} : ∀ {n k : Nat}, n = p_run P t k - k → ∀ b, t[p_run P t k]? = some b → P b = false := by
  intro n
  induction n with
  | zero =>
    intro k hn b hb
    have e : p_run P t k = k := by have := p_run_ge (P := P) (t := t) (k := k); omega
    rw [e] at hb
    cases hP : P b with
    | false => rfl
    | true =>
      have e1 := p_run_s hb hP
      have e2 := p_run_ge (P := P) (t := t) (k := k + 1)
      omega
  | succ n ih =>
    intro k hn b hb
    obtain ⟨c, hc, hP⟩ := p_run_m rfl k (Nat.le_refl _) (show k < p_run P t k by omega)
    have e := p_run_s hc hP
    rw [e] at hb hn
    exact ih (k := k + 1) (by omega) b hb
def p_sp (b : Nat) : Bool := b == 32 || b == 10
def p_az (b : Nat) : Bool := decide (97 ≤ b) && decide (b ≤ 122)
def p_09 (b : Nat) : Bool := decide (48 ≤ b) && decide (b ≤ 57)
def p_sg (b : Nat) : Bool := [40, 41, 44, 43, 45, 42, 47, 37, 60, 61].contains b
/-- what so many digits from b on are worth -/
def p_val (t : List Nat) (b : Nat) : Nat → Nat
  | 0 => 0
  | n + 1 => 10 * p_val t b n + (t.getD (b + n) 0 - 48)
def p_kw (w : List Nat) : Option Nat := if w = [115, 117, 109] then some 0 else if w = [109, 101, 97, 110] then some 1 else if w = [108, 101, 97, 115, 116] then some 2 else if w = [109, 111, 115, 116] then some 3 else if w = [102, 97, 105, 108, 115] then some 4 else if w = [112, 105, 99, 107] then some 5 else if w = [109, 105, 110] then some 6 else if w = [109, 97, 120] then some 7 else none
def p_word (t : List Nat) (b : Nat) : pT := if p_run p_az t b = b + 1 ∧ t.getD b 0 ≤ 120 then (1, t.getD b 0 - 97, none) else match p_kw ((t.drop b).take (p_run p_az t b - b)) with | some w => (4, w, none) | none => (5, 0, none)
def p_tok (t : List Nat) (b : Nat) : Option (Nat × pT) := match t[b]? with
  | none => some (b, 0, 0, none)
  | some c =>
    if p_az c = true then some (p_run p_az t b, p_word t b)
    else if p_09 c = true then
      (if t[p_run p_09 t b]? = some 46 then
        (if p_run p_09 t b - b ≤ 4 ∧ 1 ≤ p_run p_09 t (p_run p_09 t b + 1) - (p_run p_09 t b + 1) ∧ p_run p_09 t (p_run p_09 t b + 1) - (p_run p_09 t b + 1) ≤ 3 then
          some (p_run p_09 t (p_run p_09 t b + 1), 2, p_val t b (p_run p_09 t b - b), some (p_val t (p_run p_09 t b + 1) (p_run p_09 t (p_run p_09 t b + 1) - (p_run p_09 t b + 1)) * 10 ^ (3 - (p_run p_09 t (p_run p_09 t b + 1) - (p_run p_09 t b + 1)))))
        else none)
      else if p_run p_09 t b - b ≤ 4 then some (p_run p_09 t b, 2, p_val t b (p_run p_09 t b - b), none) else none)
    else if p_sg c = true then some (b + 1, 3, c, none) else none
def p_next (t : List Nat) (k : Nat) : Nat ⊕ (Nat × Nat × pT) := match p_tok t (p_run p_sp t k) with
  | none => .inl (p_run p_sp t k)
  | some q => .inr (q.1, p_run p_sp t k, q.2)
def p_nx (t : List Nat) (st : pS) : Nat ⊕ pS := p_bd (p_next t st.1) fun q => .inr (q.1, q.2.1, q.2.2, st.2.2.2)
def p_is (st : pS) (c : Nat) : Bool := st.2.2.1.1 == 3 && st.2.2.1.2.1 == c
def p_fig (w : Nat) (b : Option Nat) : UInt64 := match b with | none => FP.i2d (nI w) | some x => FP.ddiv (FP.i2d (nI (1000 * w + x))) 4652007308841189376
/-- so many open, so many numbers -/
def p_wo (st : pS) (o f : Nat) : pS := (st.1, st.2.1, st.2.2.1, o, f)
def p_op (t : List Nat) (st : pS) : Nat ⊕ pS := if st.2.2.2.1 = 4 then .inl st.2.1 else p_nx t (p_wo st (st.2.2.2.1 + 1) st.2.2.2.2)
def p_one (R : Nat → pS → pQ) (t : List Nat) (st : pS) : pQ :=
  if st.2.2.1.1 = 2 then p_bd (p_nx t (p_wo st st.2.2.2.1 (st.2.2.2.2 + 1))) fun s => .inr (s, [(100 + st.2.2.2.2, p_fig st.2.2.1.2.1 st.2.2.1.2.2)])
  else if st.2.2.1.1 = 1 then p_bd (p_nx t st) fun s => .inr (s, [(st.2.2.1.2.1, 0)])
  else if st.2.2.1.1 = 4 then
    (if st.2.2.1.2.1 < 5 then p_bd (p_nx t st) fun s => if s.2.2.1.1 = 2 ∧ s.2.2.1.2.2 = none ∧ s.2.2.1.2.1 < 6 then p_bd (p_nx t s) fun s2 => .inr (s2, [(300 + 10 * st.2.2.1.2.1 + s.2.2.1.2.1, 0)]) else .inl s.2.1
     else p_bd (p_nx t st) fun s => p_bd (R (if st.2.2.1.2.1 = 5 then 13 else 12) s) fun q => .inr (q.1, q.2 ++ [(if st.2.2.1.2.1 = 5 then 210 else if st.2.2.1.2.1 = 6 then 208 else 209, 0)]))
  else if p_is st 45 = true then p_bd (p_op t st) fun s => p_bd (R 0 s) fun q => .inr (p_wo q.1 (q.1.2.2.2.1 - 1) q.1.2.2.2.2, q.2 ++ [(200, 0)])
  else if p_is st 40 = true then R 11 st
  else .inl st.2.1
def p_prt (R : Nat → pS → pQ) (t : List Nat) (m : Nat) (st : pS) : pQ :=
  if p_is st 40 = true then p_bd (p_op t st) fun s => p_bd (R (20 + m) s) fun q => if p_is q.1 41 = true then p_bd (p_nx t (p_wo q.1 (q.1.2.2.2.1 - 1) q.1.2.2.2.2)) fun s2 => .inr (s2, q.2) else .inl q.1.2.1
  else .inl st.2.1
def p_lst (R : Nat → pS → pQ) (t : List Nat) (m : Nat) (st : pS) : pQ :=
  p_bd (R 5 st) fun q => if m = 1 then .inr q else if p_is q.1 44 = true then p_bd (p_nx t q.1) fun s => p_bd (R (20 + (m - 1)) s) fun q2 => .inr (q2.1, q.2 ++ q2.2) else .inl q.1.2.1
def p_mu (st : pS) : Option Nat := if p_is st 42 = true then some 203 else if p_is st 47 = true then some 204 else if p_is st 37 = true then some 205 else none
def p_ad (st : pS) : Option Nat := if p_is st 43 = true then some 201 else if p_is st 45 = true then some 202 else none
def p_cm (st : pS) : Option Nat := if p_is st 60 = true then some 206 else if p_is st 61 = true then some 207 else none
def p_chn (R : Nat → pS → pQ) (a b : Nat) (st : pS) : pQ := p_bd (R a st) fun q => p_bd (R b q.1) fun q2 => .inr (q2.1, q.2 ++ q2.2)
def p_lnk (R : Nat → pS → pQ) (t : List Nat) (o : Option Nat) (a b : Nat) (st : pS) : pQ := match o with
  | none => .inr (st, [])
  | some m => p_bd (p_nx t st) fun s => p_bd (R a s) fun q => p_bd (R b q.1) fun q2 => .inr (q2.1, q.2 ++ (m, 0) :: q2.2)
def p_all (R : Nat → pS → pQ) (t : List Nat) (st : pS) : pQ := p_bd (R 3 st) fun q => match p_cm q.1 with
  | none => .inr q
  | some m => p_bd (p_nx t q.1) fun s => p_bd (R 3 s) fun q2 => .inr (q2.1, q.2 ++ (q2.2 ++ [(m, 0)]))
/-- 0 one, 1 term, 2 its further ones, 3 sum, 4 its further ones, 5 all, 10 + m parts in brackets, 20 + m parts -/
def p_P (t : List Nat) : Nat → Nat → pS → pQ
  | 0, _, _ => .inl 0
  | n + 1, c, st =>
    if c = 0 then p_one (p_P t n) t st
    else if c = 1 then p_chn (p_P t n) 0 2 st
    else if c = 2 then p_lnk (p_P t n) t (p_mu st) 0 2 st
    else if c = 3 then p_chn (p_P t n) 1 4 st
    else if c = 4 then p_lnk (p_P t n) t (p_ad st) 1 4 st
    else if c = 5 then p_all (p_P t n) t st
    else if c < 20 then p_prt (p_P t n) t (c - 10) st
    else p_lst (p_P t n) t (c - 20) st
def p_read (t : List Nat) : Nat ⊕ List sM := p_bd (p_next t 0) fun q => p_bd (p_P t 800 5 (q.1, q.2.1, q.2.2, 0, 0)) fun r => if r.1.2.2.1.1 = 0 then .inr r.2 else .inl r.1.2.1
/-! well formed states -/
def p_wf (t : List Nat) (st : pS) : Prop := p_tok t st.2.1 = some (st.1, st.2.2.1) ∧ st.2.1 ≤ t.length ∧ st.2.2.2.1 ≤ 4 ∧ st.2.2.2.2 ≤ st.2.1
theorem p_09_96 {t : List Nat} {b n : Nat} : (∀ j, j < n → ∃ c, t[b + j]? = some c ∧ p_09 c = true) → p_val t b n < 10 ^ n := by
  induction n with
  | zero => intro _; exact Nat.one_pos
  | succ n ih =>
    intro h
    have h1 := ih (fun j hj => h j (by omega))
    obtain ⟨c, hc, hP⟩ := h n (Nat.lt_succ_self n)
    have hg : t.getD (b + n) 0 = c := by rw [List.getD_eq_getElem?_getD, hc]; rfl
    unfold p_val
    rw [hg, Nat.pow_succ]
    unfold p_09 at hP
    simp only [Bool.and_eq_true, decide_eq_true_eq] at hP
    omega
/-- what a token is made of -/
theorem p_tok_ok {t : List Nat} {b a : Nat} {k : pT} (hb : b ≤ t.length) (h : p_tok t b = some (a, k)) : b ≤ a ∧ a ≤ t.length ∧ (k.1 ≠ 0 → b < a) ∧ (k.1 = 0 → a = b ∧ b = t.length) ∧ k.1 ≤ 5 ∧ (k.1 = 1 → k.2.1 < 24) ∧ (k.1 = 4 → k.2.1 < 8) ∧ (k.1 = 2 → k.2.1 < 10000 ∧ ∀ x, k.2.2 = some x → x < 1000) := by
  unfold p_tok at h
  cases hc : t[b]? with
  | none =>
    rw [hc] at h
    cases h
    have : t.length ≤ b := List.getElem?_eq_none_iff.mp hc
    exact ⟨Nat.le_refl _, hb, fun h => absurd rfl h, fun _ => ⟨rfl, by omega⟩, by decide, fun h => (by cases h), fun h => (by cases h), fun h => (by cases h)⟩
  | some c =>
    have hl : b < t.length := by
      rcases Nat.lt_or_ge b t.length with h1 | h1
      · exact h1
      · rw [List.getElem?_eq_none h1] at hc; cases hc
    rw [hc] at h
    simp only at h
    by_cases h1 : p_az c = true
    · rw [if_pos h1] at h
      cases h
      have e := p_run_s hc h1
      have g := p_run_ge (P := p_az) (t := t) (k := b + 1)
      have hg : t.getD b 0 = c := by rw [List.getD_eq_getElem?_getD, hc]; rfl
      unfold p_az at h1
      simp only [Bool.and_eq_true, decide_eq_true_eq] at h1
      have hw : (p_word t b).1 ≠ 0 ∧ (p_word t b).1 ≤ 5 ∧ ((p_word t b).1 = 1 → (p_word t b).2.1 < 24) ∧ ((p_word t b).1 = 4 → (p_word t b).2.1 < 8) ∧ (p_word t b).1 ≠ 2 := by
        unfold p_word
        rw [hg]
        split
        · next q => exact ⟨(by decide : (1 : Nat) ≠ 0), (by decide : (1 : Nat) ≤ 5), fun _ => (by have := q.2; show c - 97 < 24; omega), fun h => (by cases h), (by decide : (1 : Nat) ≠ 2)⟩
        · split
          · next w hw =>
            refine ⟨(by decide : (4 : Nat) ≠ 0), (by decide : (4 : Nat) ≤ 5), fun h => (by cases h), fun _ => ?_, (by decide : (4 : Nat) ≠ 2)⟩
            show w < 8
            unfold p_kw at hw
            repeat' (first | (split at hw; (cases hw; decide)) | cases hw)
          · exact ⟨by decide, by decide, fun h => (by cases h), fun h => (by cases h), by decide⟩
      exact ⟨by omega, p_run_le hb, fun _ => by omega, fun h => absurd h hw.1, hw.2.1, hw.2.2.1, hw.2.2.2.1, fun h => absurd h hw.2.2.2.2⟩
    · rw [if_neg h1] at h
      by_cases h2 : p_09 c = true
      · rw [if_pos h2] at h
        have e := p_run_s hc h2
        have g := p_run_ge (P := p_09) (t := t) (k := b + 1)
        have le := p_run_le (P := p_09) hb
        have hv : ∀ k n, (∀ j, k ≤ j → j < k + n → ∃ c, t[j]? = some c ∧ p_09 c = true) → p_val t k n < 10 ^ n := fun k n hh => p_09_96 fun j hj => hh (k + j) (by omega) (by omega)
        have hm := p_run_m (P := p_09) (t := t) (k := b) rfl
        by_cases h3 : t[p_run p_09 t b]? = some 46
        · rw [if_pos h3] at h
          have hl2 : p_run p_09 t b < t.length := by
            rcases Nat.lt_or_ge (p_run p_09 t b) t.length with h4 | h4
            · exact h4
            · rw [List.getElem?_eq_none h4] at h3; cases h3
          have g2 := p_run_ge (P := p_09) (t := t) (k := p_run p_09 t b + 1)
          have le2 := p_run_le (P := p_09) (t := t) (k := p_run p_09 t b + 1) hl2
          have hm2 := p_run_m (P := p_09) (t := t) (k := p_run p_09 t b + 1) rfl
          split at h
          · next q =>
            cases h
            refine ⟨by omega, le2, fun _ => by omega, fun h => (by cases h), (by decide : 2 ≤ 5), fun h => (by cases h), fun h => (by cases h), fun _ => ⟨?_, ?_⟩⟩
            · show p_val t b (p_run p_09 t b - b) < 10000
              refine Nat.lt_of_lt_of_le (hv b _ fun j a1 a2 => hm j a1 (by omega)) ?_
              exact Nat.pow_le_pow_right (by decide) q.1
            · intro x hx
              cases hx
              have h5 := hv (p_run p_09 t b + 1) (p_run p_09 t (p_run p_09 t b + 1) - (p_run p_09 t b + 1)) fun j a1 a2 => hm2 j a1 (by omega)
              generalize p_run p_09 t (p_run p_09 t b + 1) - (p_run p_09 t b + 1) = n at h5 q ⊢
              generalize p_val t (p_run p_09 t b + 1) n = v at h5 ⊢
              have h6 : 10 ^ n * 10 ^ (3 - n) = 1000 := by rw [← Nat.pow_add, show n + (3 - n) = 3 by omega]
              have h7 := Nat.mul_lt_mul_of_pos_right h5 (Nat.pow_pos (n := 3 - n) (show 0 < 10 by decide))
              omega
          · cases h
        · rw [if_neg h3] at h
          split at h
          · next q =>
            cases h
            refine ⟨by omega, le, fun _ => by omega, fun h => (by cases h), (by decide : 2 ≤ 5), fun h => (by cases h), fun h => (by cases h), fun _ => ⟨?_, fun x hx => (by cases hx)⟩⟩
            show p_val t b (p_run p_09 t b - b) < 10000
            refine Nat.lt_of_lt_of_le (hv b _ fun j a1 a2 => hm j a1 (by omega)) ?_
            exact Nat.pow_le_pow_right (by decide) q
          · cases h
      · rw [if_neg h2] at h
        split at h
        · cases h
          exact ⟨by omega, by omega, fun _ => by omega, fun h => (by cases h), (by decide : 3 ≤ 5), fun h => (by cases h), fun h => (by cases h), fun h => (by cases h)⟩
        · cases h
end PS
