set_option maxRecDepth 100000
/-! what is told is bounded; how high the heap of told ones stands -/
section BD
/-- an entry of the heap: if it has no error, it's bounded -/
def s_Be (a : sT) : Prop := a.2.1 = 0 → s_B a.1
theorem s_two_B {c act : Nat} {a b : sT} (ha : s_Be a) (hb : s_Be b) : s_Be (s_two c act a b) := by
  unfold s_two
  by_cases h1 : a.2.1 ≠ 0
  · rw [if_pos h1]; exact ha
  · rw [if_neg h1]
    have h1 : a.2.1 = 0 := Classical.not_not.mp h1
    by_cases h2 : b.2.1 ≠ 0
    · rw [if_pos h2]; intro h; exact absurd h h2
    · rw [if_neg h2]
      have h2 : b.2.1 = 0 := Classical.not_not.mp h2
      by_cases h3 : (act = 4 ∨ act = 5) ∧ s_eq b.1 0
      · rw [s_if_p h3]; intro h; exact absurd (show (2 : Int32) = 0 from h) (by decide)
      · rw [s_if_n h3]
        by_cases h4 : act ≤ 4 ∧ s_far (s_op act a.1 b.1)
        · rw [s_if_p h4]; intro h; exact absurd (show (3 : Int32) = 0 from h) (by decide)
        · rw [s_if_n h4]
          intro _
          exact fb_opB (ha h1) (hb h2) (fun h e => h3 ⟨h, e⟩) (fun h e => h4 ⟨h, e⟩)
theorem s_pick_B {x y z : sT} (hx : s_Be x) (hy : s_Be y) (hz : s_Be z) : s_Be (s_pick x y z) := by
  unfold s_pick s_if
  split
  · exact hx
  · split
    · exact hz
    · exact hy
theorem s_act_B {cv : Nat → sT} {tv : Nat → Nat → UInt64 × Int32} {c : Nat} {m : sM} {st : List sT} (h1 : m.1 < 24 → s_Be (cv m.1)) (h2 : 300 ≤ m.1 → ∀ f, (tv (m.1 % 10) f).2 = 0 → s_B (tv (m.1 % 10) f).1) (h3 : s_B m.2) (hs : ∀ a ∈ st, s_Be a) : ∀ a ∈ s_act cv tv c m st, s_Be a := by
  unfold s_act
  by_cases a1 : m.1 < 24
  · rw [if_pos a1]
    intro a ha
    rcases List.mem_cons.mp ha with rfl | ha
    · exact h1 a1
    · exact hs a ha
  · rw [if_neg a1]
    by_cases a2 : m.1 < 200
    · rw [if_pos a2]
      intro a ha
      rcases List.mem_cons.mp ha with rfl | ha
      · exact fun _ => h3
      · exact hs a ha
    · rw [if_neg a2]
      by_cases a3 : 300 ≤ m.1
      · rw [if_pos a3]
        intro a ha
        rcases List.mem_cons.mp ha with rfl | ha
        · exact h2 a3 _
        · exact hs a ha
      · rw [if_neg a3]
        by_cases a4 : m.1 = 200
        · rw [if_pos a4]
          match st, hs with
          | [], _ => intro a ha; cases ha
          | x :: r, hs =>
            intro a ha
            rcases List.mem_cons.mp ha with rfl | ha
            · exact fun h => fb_neg (hs x (List.mem_cons_self ..) h)
            · exact hs a (List.mem_cons_of_mem _ ha)
        · rw [if_neg a4]
          by_cases a5 : m.1 = 210
          · rw [if_pos a5]
            match st, hs with
            | [], _ => intro a ha; cases ha
            | [_], _ => intro a ha; cases ha
            | [_, _], _ => intro a ha; cases ha
            | z :: y :: x :: r, hs =>
              intro a ha
              rcases List.mem_cons.mp ha with rfl | ha
              · exact s_pick_B (hs x (by simp)) (hs y (by simp)) (hs z (by simp))
              · exact hs a (by simp [ha])
          · rw [if_neg a5]
            match st, hs with
            | [], _ => intro a ha; cases ha
            | [_], _ => intro a ha; cases ha
            | y :: x :: r, hs =>
              intro a ha
              rcases List.mem_cons.mp ha with rfl | ha
              · exact s_two_B (hs x (by simp)) (hs y (by simp))
              · exact hs a (by simp [ha])
theorem s_run_B {cv : Nat → sT} {tv : Nat → Nat → UInt64 × Int32} {c : Nat} : ∀ {ms : List sM} {st : List sT}, (∀ m ∈ ms, m.1 < 24 → s_Be (cv m.1)) → (∀ m ∈ ms, 300 ≤ m.1 → ∀ f, (tv (m.1 % 10) f).2 = 0 → s_B (tv (m.1 % 10) f).1) → (∀ m ∈ ms, s_B m.2) → (∀ a ∈ st, s_Be a) → ∀ a ∈ s_run cv tv c ms st, s_Be a := by
  intro ms
  induction ms with
  | nil => intro st _ _ _ h; exact h
  | cons m ms ih =>
    intro st h1 h2 h3 h4
    rw [s_run_cons]
    exact ih (fun n hn => h1 n (List.mem_cons_of_mem _ hn)) (fun n hn => h2 n (List.mem_cons_of_mem _ hn)) (fun n hn => h3 n (List.mem_cons_of_mem _ hn)) (s_act_B (h1 m (List.mem_cons_self ..)) (h2 m (List.mem_cons_self ..)) (h3 m (List.mem_cons_self ..)) h4)
/-! sums -/
theorem s_ac_B {r : Nat → sT} {N : Nat} (hr : ∀ k, k < N → s_Be (r k)) : ∀ n, n ≤ N → n ≤ 800 → s_Bn (40 + n) (s_ac r n).1 ∧ (¬ (s_ac r n).2.1 → s_B (s_ac r n).1) ∧ s_B (s_ac r n).2.2.1 ∧ s_B (s_ac r n).2.2.2.1 ∧ (s_ac r n).2.2.2.2.1 + (s_ac r n).2.2.2.2.2 = n := by
  intro n
  induction n with
  | zero => intro _ _; exact ⟨fk_B0, fun _ => fk_B0, fk_B0, fk_B0, rfl⟩
  | succ n ih =>
    intro hn hn2
    obtain ⟨h1, h2, h3, h4, h5⟩ := ih (by omega) (by omega)
    by_cases he : (r n).2.1 ≠ 0
    · simp only [s_ac, if_pos he]
      exact ⟨h1.w (by omega), h2, h3, h4, by omega⟩
    · have he' : (r n).2.1 = 0 := Classical.not_not.mp he
      have hv := hr n (by omega) he'
      have ha := fb_addn (M := 40 + n) (by omega) h1 ((s_Bn40.mpr hv).w (by omega))
      simp only [s_ac, if_neg he]
      refine ⟨ha, fun hf => ?_, ?_, ?_, by omega⟩
      · exact fb_near (fb_Fn ha.f) (fun h => hf (Or.inr h))
      · unfold s_if; split
        · exact hv
        · exact h3
      · unfold s_if; split
        · exact hv
        · exact h4
theorem fb_divN {a : UInt64} (ha : s_B a) {n : Nat} (h0 : n ≠ 0) (h1 : n < 2 ^ 31) : s_B (FP.ddiv a (FP.i2d (nI n))) := by
  have e : FP.i2d (nI n) = UInt64.ofNat (FP.Core.fromInt FP.Core.b64 (n : Int)) := by
    show UInt64.ofNat (FP.Core.fromInt FP.Core.b64 (nI n).toInt) = _
    rw [nI_toInt h1]
  rw [e]
  exact fb_divI ha (by omega) (by omega)
theorem s_tv_B {r : Nat → sT} {n f : Nat} (hr : ∀ k, k < n → s_Be (r k)) (hn : n ≤ 64) : (s_tv r n f).2 = 0 → s_B (s_tv r n f).1 := by
  obtain ⟨h1, h2, h3, h4, h5⟩ := s_ac_B hr n (Nat.le_refl _) (by omega)
  unfold s_tv
  by_cases f0 : f = 0
  · rw [if_pos f0]
    intro h
    refine h2 (fun hf => ?_)
    simp only [s_if_p hf] at h
    exact absurd h (by decide)
  · rw [if_neg f0]
    by_cases f1 : f = 1
    · rw [if_pos f1]
      intro h
      by_cases hg : (s_ac r n).2.2.2.2.1 = 0
      · simp only [if_pos hg]; exact fk_B0
      · simp only [if_neg hg] at h ⊢
        refine fb_divN (h2 (fun hf => ?_)) hg (by omega)
        simp only [s_if_p hf] at h
        exact absurd h (by decide)
    · rw [if_neg f1]
      by_cases f2 : f = 2
      · rw [if_pos f2]; exact fun _ => h3
      · rw [if_neg f2]
        by_cases f3 : f = 3
        · rw [if_pos f3]; exact fun _ => h4
        · rw [if_neg f3]; exact fun _ => fb_i2d
/-! cells -/
def s_BO (ow : sO) : Prop := ∀ x v, ow x = some v → s_B v
def s_BF (fm : sF) : Prop := ∀ c, c < 24 → ∀ m ∈ fm c, s_B m.2
def s_BL (ly : sY) : Prop := ∀ t, t < 6 → ∀ L, ly t = some L → (∀ v ∈ L.2.2.2.1, s_B v) ∧ (∀ v ∈ L.2.2.2.2, s_B v) ∧ s_nc L ≤ 64
theorem s_BgetD {l : List UInt64} (h : ∀ v ∈ l, s_B v) (i : Nat) : s_B (l.getD i 0) := by
  rw [List.getD_eq_getElem?_getD]
  cases hi : l[i]? with
  | none => exact fk_B0
  | some v => exact h v (List.mem_of_getElem? hi)
theorem s_bi_B {L : sL} {ow : sO} {i j : Nat} (ho : s_BO ow) (h1 : ∀ v ∈ L.2.2.2.1, s_B v) (h2 : ∀ v ∈ L.2.2.2.2, s_B v) : s_BO (s_bi L ow i j) := by
  intro x v hv
  unfold s_bi at hv
  split at hv
  · cases hv; exact s_BgetD h1 i
  · split at hv
    · cases hv; exact s_BgetD h2 j
    · exact ho x v hv
theorem s_EV_B {fm : sF} {ly : sY} {kd : Nat → Int32} {rk : Nat → Nat} (hr : s_rk fm ly rk) (hm : s_mo fm) (hb : ∀ x, x < 30 → rk x < 30) (hF : s_BF fm) (hL : s_BL ly) : ∀ (n c : Nat), rk c < n → c < 24 → ∀ ow : sO, s_BO ow → s_B (s_EV fm ly kd ow c).1 := by
  intro n
  induction n with
  | zero => intro c h; exact absurd h (Nat.not_lt_zero _)
  | succ n ih =>
    intro c hn hc ow ho
    rw [s_EV_st hr hm hb hc]
    unfold s_st
    by_cases he : fm c = []
    · rw [if_pos he]
      unfold s_in
      cases hv : ow c with
      | none => exact fk_B0
      | some v => exact fb_kp (ho c v hv)
    · rw [if_neg he]
      have hrun := s_run_B (cv := s_EV fm ly kd ow) (tv := fun t f => match ly t with | none => (0, 4) | some L => s_tv (fun k => s_EV fm ly kd (s_bi L ow (k / s_my L) (k % s_my L)) L.1) (s_nc L) f) (c := c) (ms := fm c) (st := [])
        (fun m hm1 h24 _ => ih m.1 (by have := hr.1 c hc m hm1 h24; omega) h24 ow ho)
        (fun m hm1 h3 f => by
          have a := hr.2.1 c hc m hm1 h3
          have b := hm c hc m hm1 h3
          cases hl : ly (m.1 % 10) with
          | none => intro h; exact absurd (show (4 : Int32) = 0 from h) (by decide)
          | some L =>
            obtain ⟨q1, q2, q3⟩ := hL _ b L hl
            have q4 := hr.2.2 _ b L hl
            exact s_tv_B (fun k _ _ => ih L.1 (by omega) q4.1 _ (s_bi_B ho q1 q2)) q3)
        (hF c hc) (fun a ha => by cases ha)
      unfold s_fn
      generalize s_run _ _ c (fm c) [] = st at hrun
      match st, hrun with
      | [], _ => exact fk_B0
      | a :: r, hrun =>
        simp only
        by_cases h0 : a.2.1 = 0
        · rw [if_pos h0]; exact fb_kp (hrun a (List.mem_cons_self ..) h0)
        · rw [if_neg h0]; exact fk_B0
/-! heights -/
def s_h1 (m n : Nat) : Option Nat := if m < 200 ∨ 300 ≤ m then some (n + 1) else if m = 200 then (if 1 ≤ n then some n else none) else if m = 210 then (if 3 ≤ n then some (n - 2) else none) else (if 2 ≤ n then some (n - 1) else none)
def s_ht : List sM → Nat → Option Nat
  | [], n => some n
  | m :: ms, n => (s_h1 m.1 n).bind (s_ht ms)
theorem s_act_len {cv : Nat → sT} {tv : Nat → Nat → UInt64 × Int32} {c : Nat} {m : sM} {st : List sT} {k : Nat} (h : s_h1 m.1 st.length = some k) : (s_act cv tv c m st).length = k := by
  unfold s_h1 at h
  unfold s_act
  by_cases a1 : m.1 < 24
  · rw [if_pos (Or.inl (by omega))] at h
    cases h
    rw [if_pos a1]; rfl
  · rw [if_neg a1]
    by_cases a2 : m.1 < 200
    · rw [if_pos (Or.inl a2)] at h
      cases h
      rw [if_pos a2]; rfl
    · rw [if_neg a2]
      by_cases a3 : 300 ≤ m.1
      · rw [if_pos (Or.inr a3)] at h
        cases h
        rw [if_pos a3]; rfl
      · rw [if_neg a3]
        rw [if_neg (by omega)] at h
        by_cases a4 : m.1 = 200
        · rw [if_pos a4] at h ⊢
          match st, h with
          | [], h => simp at h
          | x :: r, h => simp at h; simpa using h
        · rw [if_neg a4] at h ⊢
          by_cases a5 : m.1 = 210
          · rw [if_pos a5] at h ⊢
            match st, h with
            | [], h => simp at h
            | [_], h => simp at h
            | [_, _], h => simp at h
            | z :: y :: x :: r, h => simp at h ⊢; omega
          · rw [if_neg a5] at h ⊢
            match st, h with
            | [], h => simp at h
            | [_], h => simp at h
            | y :: x :: r, h => simp at h ⊢; omega
theorem s_run_len {cv : Nat → sT} {tv : Nat → Nat → UInt64 × Int32} {c : Nat} : ∀ {ms : List sM} {st : List sT} {k : Nat}, s_ht ms st.length = some k → (s_run cv tv c ms st).length = k := by
  intro ms
  induction ms with
  | nil => intro st k h; cases h; rfl
  | cons m ms ih =>
    intro st k h
    simp only [s_ht] at h
    cases hm : s_h1 m.1 st.length with
    | none => rw [hm] at h; cases h
    | some j =>
      rw [hm] at h
      rw [s_run_cons]
      refine ih ?_
      rw [s_act_len hm]
      exact h
theorem s_ht_append : ∀ {a b : List sM} {n : Nat}, s_ht (a ++ b) n = (s_ht a n).bind (s_ht b) := by
  intro a
  induction a with
  | nil => intro b n; rfl
  | cons m a ih =>
    intro b n
    show (s_h1 m.1 n).bind (s_ht (a ++ b)) = ((s_h1 m.1 n).bind (s_ht a)).bind (s_ht b)
    cases s_h1 m.1 n with
    | none => rfl
    | some j => exact ih
theorem s_ht_le : ∀ {a : List sM} {n k : Nat}, s_ht a n = some k → k ≤ n + a.length := by
  intro a
  induction a with
  | nil => intro n k h; cases h; simp
  | cons m a ih =>
    intro n k h
    simp only [s_ht] at h
    cases hm : s_h1 m.1 n with
    | none => rw [hm] at h; cases h
    | some j =>
      rw [hm] at h
      have h2 := ih h
      have h3 : j ≤ n + 1 := by
        unfold s_h1 at hm
        split at hm
        · cases hm; omega
        · split at hm
          · split at hm
            · cases hm; omega
            · cases hm
          · split at hm
            · split at hm
              · cases hm; omega
              · cases hm
            · split at hm
              · cases hm; omega
              · cases hm
      simp only [List.length_cons]
      omega
end BD
