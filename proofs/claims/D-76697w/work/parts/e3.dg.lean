set_option maxRecDepth 100000
/-! the Reader: digits -/
section DG
variable {l : Launch} {g : zG} {d x0 : Nat} {P : cP} {σ σ' : cS} {hp hp' : zHp} {nx M M' : Nat} {A : sV} {S : sSt} {mc ms kc ks : Nat} {tp : List Nat}
theorem r_dg {i : Nat} (h256 : ∀ b, tp[i]? = some b → b < 256) : ¬ (r_at tp i < 48 ∨ 57 < r_at tp i) ↔ p_at p_09 tp i = true := by
  unfold r_at p_at
  cases hb : tp[i]? with
  | none => exact ⟨fun h => absurd (Or.inl (by decide)) h, fun h => by cases h⟩
  | some b =>
    have hl := h256 b hb
    have e1 : (48 : Int32) ≤ nI b ↔ 48 ≤ b := nI_leI (a := 48) (by omega) (by omega)
    have e2 : nI b ≤ (57 : Int32) ↔ b ≤ 57 := nI_leI (b := 57) (by omega) (by omega)
    simp only [p_09, Bool.and_eq_true, decide_eq_true_eq]
    rw [← e1, ← e2]
    constructor
    · intro h
      exact ⟨Int32.not_lt.mp fun z => h (Or.inl z), Int32.not_lt.mp fun z => h (Or.inr z)⟩
    · rintro ⟨a, b⟩ (z | z)
      · exact Int32.not_lt.mpr a z
      · exact Int32.not_lt.mpr b z
theorem r_dv {i : Nat} (h : p_at p_09 tp i = true) : ∃ c, tp.getD i 0 = 48 + c ∧ c < 10 ∧ r_at tp i = nI (48 + c) := by
  obtain ⟨b, hb, hP⟩ := p_at_s.mp h
  unfold p_09 at hP
  simp only [Bool.and_eq_true, decide_eq_true_eq] at hP
  refine ⟨b - 48, ?_, by omega, ?_⟩
  · rw [List.getD_eq_getElem?_getD, hb]
    show b = _
    omega
  · unfold r_at
    rw [hb]
    show nI b = _
    rw [show 48 + (b - 48) = b by omega]
theorem c_digits {q k fr most n : Nat} {fs : List Value} (hW : cW g x0 P hp) (hT : cTp σ tp) (hq : ¬ cOv x0 P q) (hz : zB g ≤ q) (hR : hp q = some (.inr (11, .int (nI k) :: fs))) (h1 : fs[0]? = some (.int (nI fr))) (h9 : fs[8]? = some (va_rf (some x0))) (hk : k ≤ tp.length) (hm : most = 3 ∨ most = 4) (en : n = p_run p_09 tp k - k) (hd : 10 ≤ d) (hmc : 1 ≤ mc) (hms : 7 ≤ ms) {K : Int32 → zHp → Nat → Prop} {KX : Nat → zHp → Nat → Prop}
    (hK : 1 ≤ n → n ≤ most → K (nI (if most = 3 then p_val tp k n * 10 ^ (3 - n) else p_val tp k n)) (cput g x0 P σ (va_up hp q (some (.inr (11, .int (nI (k + n)) :: fs))))) nx)
    (hX : ∀ k2 fs', ¬ (1 ≤ n ∧ n ≤ most) → fs'[6]? = some (.int (nI fr)) → ¬ cOv x0 P nx → hp nx = none → nx ≠ q → KX nx (cput g x0 P σ (va_up (va_up hp q (some (.inr (11, .int (nI k2) :: fs)))) nx (some (.inr (12, fs'))))) (nx + 1)) :
    zMx l g yX11_digits cX11_digits 4 (some .int) d mc ms [.ref q, .int (nI most)] (cput g x0 P σ hp) nx (zQi g K) "WhatIfSheet$Fault" KX := by
  obtain ⟨d, rfl⟩ := Nat.exists_eq_add_of_le' (show 1 ≤ d by omega)
  have hge := p_run_ge (P := p_09) (t := tp) (k := k)
  have hen : p_run p_09 tp k = k + n := by omega
  have hle : k + n ≤ tp.length := by rw [← hen]; exact p_run_le hk
  have hl96 := hT.2.1
  have dg : ∀ j, j ≤ n → (p_at p_09 tp (k + j) = true ↔ j < n) := by
    intro j hj
    constructor
    · intro h
      rcases Nat.lt_or_ge j n with y | y
      · exact y
      · have e : j = n := by omega
        subst e
        exfalso
        obtain ⟨b, b1, b2⟩ := p_at_s.mp h
        have h3 := p_run_x (P := p_09) (t := tp) (k := k) rfl b (by rw [hen]; exact b1)
        rw [h3] at b2
        cases b2
    · intro h
      obtain ⟨b, b1, b2⟩ := p_run_m (P := p_09) (t := tp) (k := k) rfl (k + j) (by omega) (by omega)
      exact p_at_s.mpr ⟨b, b1, b2⟩
  have h256 : ∀ i b, tp[i]? = some b → b < 256 := fun i b h => (hT.2.2 i b h).1
  have Wj : ∀ j : Nat, cW g x0 P (va_up hp q (some (.inr (11, .int (nI (k + j)) :: fs)))) := fun j => cW_hq hq hW
  have Rj : ∀ j : Nat, va_up hp q (some (.inr (11, .int (nI (k + j)) :: fs))) q = some (.inr (11, .int (nI (k + j)) :: fs)) := fun j => va_s
  have g1 : ∀ j : Nat, ((.int (nI (k + j)) :: fs : List Value))[1]? = some (.int (nI fr)) := fun j => by rw [List.getElem?_cons_succ]; exact h1
  have g9 : ∀ j : Nat, ((.int (nI (k + j)) :: fs : List Value))[9]? = some (va_rf (some x0)) := fun j => by rw [List.getElem?_cons_succ]; exact h9
  have nq : ∀ j : Nat, va_up hp q (some (.inr (11, .int (nI (k + j)) :: fs))) nx = none → nx ≠ q ∧ hp nx = none := fun j h => by
    have h2 : nx ≠ q := fun z => by rw [z, va_s] at h; cases h
    rw [va_o h2] at h
    exact ⟨h2, h⟩
  apply met_X11_digits
  unfold wp_X11_digits
  refine ⟨fun m v i h n' kc ks => ∃ j, m = n - j ∧ j ≤ n ∧ j ≤ most ∧ v = nI (p_val tp k j) ∧ i = nI j ∧ h = cput g x0 P σ (va_up hp q (some (.inr (11, .int (nI (k + j)) :: fs)))) ∧ nx = n' ∧ kc = 0 ∧ ks = 0, ⟨n, 0, rfl, Nat.zero_le _, Nat.zero_le _, rfl, rfl, ?_, rfl, rfl, rfl⟩, ?_⟩
  · rw [Nat.add_zero, ← hR, cva_id]
  rintro m v i h n' kc ks ⟨j, rfl, hj, hjm, rfl, rfl, rfl, rfl, rfl, rfl⟩
  refine ⟨Nat.zero_le _, Nat.zero_le _, ?_⟩
  rw [ch_o (Wj j) (Rj j) (by decide)]
  refine c_here (Wj j) hT (Rj j) rfl (g9 j) (by omega) (by omega) ⟨Nat.zero_le _, Nat.zero_le _, ?_⟩
  refine c_inn (a := 48) (b := 57) (by decide) (by decide) (by omega) (fun z => ⟨fun _ => ?_, fun y => absurd rfl y⟩) (fun z => ⟨fun y => absurd y (by decide), fun _ => ?_⟩)
  · have hjn : j = n := by
      rcases Nat.lt_or_ge j n with y | y
      · exact absurd z ((r_dg (h256 _)).mpr ((dg j hj).mpr y))
      · omega
    refine ⟨fun z0 => ?_, fun z0 => ?_⟩
    · have h0 : j = 0 := (nI_eq (b := 0) (by omega) (by decide)).mp z0
      refine ⟨1, 7, by omega, by omega, ?_⟩
      rw [ch_o (Wj j) (Rj j) (by decide)]
      refine c_fault (Wj j) (Rj j) (x := nI fr) (g1 j) (by omega) (by omega) (by omega) (fun fs' y1 y2 y3 y4 => ?_)
      rw [ch_o (cW_hq y2 (Wj j)) va_s (by decide)]
      exact ⟨by omega, by omega, hX _ fs' (by omega) y1 y2 (nq j y3).2 (nq j y3).1⟩
    · have hj0 : 1 ≤ j := by
        rcases Nat.eq_zero_or_pos j with y | y
        · subst y; exact absurd rfl z0
        · exact y
      refine ⟨fun m v i h n' kc ks => ∃ e, j ≤ e ∧ (most = 3 → e ≤ 3) ∧ (most ≠ 3 → e = j) ∧ m = 3 - e ∧ v = nI (p_val tp k j * 10 ^ (e - j)) ∧ i = nI e ∧ h = cput g x0 P σ (va_up hp q (some (.inr (11, .int (nI (k + j)) :: fs)))) ∧ nx = n' ∧ kc = 0 ∧ ks = 0, ⟨3 - j, j, Nat.le_refl _, fun y => by omega, fun _ => rfl, rfl, by rw [Nat.sub_self, Nat.pow_zero, Nat.mul_one], rfl, rfl, rfl, rfl, rfl⟩, ?_⟩
      rintro m v i h n' kc ks ⟨e, e1, e2, e3, rfl, rfl, rfl, rfl, rfl, rfl, rfl⟩
      refine ⟨fun v i h n' kc ks => v = nI (if most = 3 then p_val tp k j * 10 ^ (3 - j) else p_val tp k j) ∧ h = cput g x0 P σ (va_up hp q (some (.inr (11, .int (nI (k + j)) :: fs)))) ∧ nx = n' ∧ kc = 0 ∧ ks = 0, ?_, fun z3 => ⟨fun z4 => ?_, fun z4 => ?_⟩, fun z3 => ?_⟩
      · rintro v i h n' kc ks ⟨rfl, rfl, rfl, rfl, rfl⟩
        rw [hjn] at hj0 ⊢
        exact ⟨Nat.zero_le _, Nat.zero_le _, hK hj0 (by omega)⟩
      · have m3 : most = 3 := (nI_eq (b := 3) (by omega) (by decide)).mp z3
        have h3 : 3 ≤ e := (nI_leI (a := 3) (by decide) (by have := e2 m3; omega)).mp z4
        have ee : e = 3 := by have := e2 m3; omega
        subst ee
        exact ⟨by rw [if_pos m3], rfl, rfl, rfl, rfl⟩
      · have m3 : most = 3 := (nI_eq (b := 3) (by omega) (by decide)).mp z3
        have h3 : e < 3 := by
          rcases Nat.lt_or_ge e 3 with y | y
          · exact y
          · exact absurd ((nI_leI (a := 3) (by decide) (by have := e2 m3; omega)).mpr y) z4
        rintro _ rfl
        rintro _ rfl
        refine ⟨3 - (e + 1), by omega, e + 1, by omega, fun _ => by omega, fun y => absurd m3 y, rfl, ?_, nI_1 e, rfl, rfl, rfl, rfl⟩
        rw [show (10 : Int32) = nI 10 from rfl, pk_mul, show e + 1 - j = (e - j) + 1 by omega, Nat.pow_succ, Nat.mul_assoc]
      · have m3 : most ≠ 3 := fun y => z3 (by rw [y]; rfl)
        refine ⟨?_, rfl, rfl, rfl, rfl⟩
        rw [if_neg m3, e3 m3, Nat.sub_self, Nat.pow_zero, Nat.mul_one]
  · have hjn : j < n := (dg j hj).mp ((r_dg (h256 _)).mp z)
    refine ⟨fun z0 => ?_, fun z0 => ?_⟩
    · have h0 : j = most := (nI_eq (by omega) (by omega)).mp z0
      refine ⟨1, 7, by omega, by omega, ?_⟩
      rw [ch_o (Wj j) (Rj j) (by decide)]
      refine c_fault (Wj j) (Rj j) (x := nI fr) (g1 j) (by omega) (by omega) (by omega) (fun fs' y1 y2 y3 y4 => ?_)
      rw [ch_o (cW_hq y2 (Wj j)) va_s (by decide)]
      exact ⟨by omega, by omega, hX _ fs' (by omega) y1 y2 (nq j y3).2 (nq j y3).1⟩
    · have hjm2 : j < most := by
        rcases Nat.lt_or_ge j most with y | y
        · exact y
        · exact absurd (show nI j = nI most by rw [show j = most by omega]) z0
      refine ⟨Nat.zero_le _, Nat.zero_le _, ?_⟩
      rw [ch_o (Wj j) (Rj j) (by decide)]
      refine c_here (Wj j) hT (Rj j) rfl (g9 j) (by omega) (by omega) ?_
      rintro _ rfl
      rintro _ rfl
      rw [ch_I (Wj j) (Rj j) (x := nI (k + j)) rfl (by decide), hz_p (cput_h (Wj j) (Rj j)) (by decide) (by simp)]
      refine ⟨hz, ?_⟩
      rw [nI_1, c_put2 hq]
      obtain ⟨c, v1, v2, v3⟩ := r_dv ((dg j hj).mpr hjn)
      refine ⟨n - (j + 1), by omega, j + 1, rfl, by omega, by omega, ?_, rfl, by rw [nI_1]; rfl, rfl, rfl, rfl⟩
      rw [v3, show (10 : Int32) = nI 10 from rfl, show (48 : Int32) = nI 48 from rfl, pk_mul, nI_add, pk_sub (by omega)]
      congr 1
      show _ = 10 * p_val tp k j + (tp.getD (k + j) 0 - 48)
      rw [v1]
      omega
end DG
