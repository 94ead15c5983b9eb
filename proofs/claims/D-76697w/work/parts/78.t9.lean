set_option maxRecDepth 100000
/-! THE REFERENCE's contracts: what is named, what is reached -/
section T9
variable {l : Launch} {g : zG} {d m0 : Nat} {τ τ' τm τ2 : tS} {hp : zHp} {nx : Nat}
theorem t_namesCells' {c : Nat} (hd : 1 ≤ d) (hc : c < 24) {K : Int32 → zHp → Nat → Prop} (hK : K (τ.2.2.1 12 0 c) (tput g m0 τ hp) nx) : zMt l g yX5_namesCells cX5_namesCells 2 (some .int) d 0 0 [.ref m0, .int (nI c)] (tput g m0 τ hp) nx (zQi g K) := by
  obtain ⟨d, rfl⟩ := Nat.exists_eq_add_of_le' hd
  exact t_namesCells hc hK
theorem t_times' {c t : Nat} (hd : 1 ≤ d) (hc : c < 24) (ht : t < 6) {K : Int32 → zHp → Nat → Prop} (hK : K (τ.2.2.1 13 c t) (tput g m0 τ hp) nx) : zMt l g yX5_times cX5_times 3 (some .int) d 0 0 [.ref m0, .int (nI c), .int (nI t)] (tput g m0 τ hp) nx (zQi g K) := by
  obtain ⟨d, rfl⟩ := Nat.exists_eq_add_of_le' hd
  exact t_times hc ht hK
/-- the names of a formula are told right -/
def tNc (τ : tS) (c : Nat) : Prop := (∀ k, bs (τ.2.2.1 12 0 c) k = true ↔ (k < 24 ∧ ∃ m ∈ tfm τ c, m.1 = k)) ∧ ∀ t, t < 6 → τ.2.2.1 13 c t = nI (s_tt (tfm τ c) t)
def tNm (τ : tS) : Prop := ∀ c, c < 24 → tNc τ c
theorem tNm.pe (h : tpe τ τ') (hN : tNm τ) : tNm τ' := by
  intro c hc
  obtain ⟨h1, h2⟩ := hN c hc
  unfold tNc
  rw [h.1 12 (by decide), h.1 13 (by decide), h.fm]
  exact ⟨h1, h2⟩
/-- nothing but the names of c -/
def tnf (c : Nat) (τ τ' : tS) : Prop := τ'.1 = τ.1 ∧ τ'.2.1 = τ.2.1 ∧ τ'.2.2.2 = τ.2.2.2 ∧ ∀ k i j, ¬ (k = 12 ∧ i = 0 ∧ j = c) → ¬ (k = 13 ∧ i = c) → τ'.2.2.1 k i j = τ.2.2.1 k i j
theorem tnf.k {c : Nat} (h : tnf c τ τ') (k : Nat) (h1 : k ≠ 12) (h2 : k ≠ 13) : τ'.2.2.1 k = τ.2.2.1 k := funext fun i => funext fun j => h.2.2.2 k i j (fun q => h1 q.1) (fun q => h2 q.1)
theorem tnf.fm {c : Nat} (h : tnf c τ τ') : tfm τ' = tfm τ := by
  funext x
  unfold tfm
  rw [h.k 3 (by decide) (by decide)]
  congr 1
  funext k
  unfold tmk
  rw [h.k 4 (by decide) (by decide), h.2.2.1]
theorem tnf.a12 {c : Nat} {v : Int32} (h : tnf c τ τ') : tnf c τ (taI τ' 12 0 (va_up (τ'.2.2.1 12 0) c v)) := by
  refine ⟨h.1, h.2.1, h.2.2.1, fun k i j h1 h2 => ?_⟩
  rw [← h.2.2.2 k i j h1 h2]
  by_cases hk : k = 12
  · subst hk
    by_cases hi : i = 0
    · subst hi; rw [tqa, va_o (fun e => h1 ⟨rfl, rfl, e⟩)]
    · rw [tqb hi]
  · rw [tqc hk]
theorem tnf.a13 {c : Nat} {f : Nat → Int32} (h : tnf c τ τ') : tnf c τ (taI τ' 13 c f) := by
  refine ⟨h.1, h.2.1, h.2.2.1, fun k i j h1 h2 => ?_⟩
  rw [← h.2.2.2 k i j h1 h2]
  by_cases hk : k = 13
  · subst hk; rw [tqb (fun e => h2 ⟨rfl, e⟩)]
  · rw [tqc hk]
theorem t_tellNames {c s : Nat} {K : zHp → Nat → Prop} (hd : 1 ≤ d) (hB : zB g ≤ m0) (hc : c < 24) (hs96 : s ≤ 96) (hs : τ.2.2.1 3 0 c = nI s) (hmarks : ∀ k, k < s → ∃ m, tok m ∧ τ.2.2.1 4 c k = nI m) (hK : ∀ τ', tnf c τ τ' → tNc τ' c → K (tput g m0 τ' hp) nx) : zMt l g yX5_tellNames cX5_tellNames 3 none d 0 0 [.ref m0, .int (nI c)] (tput g m0 τ hp) nx (zQv g K) := by
  obtain ⟨d, rfl⟩ := Nat.exists_eq_add_of_le' hd
  apply met_X5_tellNames
  unfold wp_X5_tellNames
  have cc : (nI c).toNatClampNeg = c := nI_clamp (by omega)
  have ic : vp_in (nI c) 24 := vp_in_nI hc (by decide)
  have hB2 : ∀ n, zB g ≤ m0 + n := fun n => by omega
  have hB3 : ∀ a b n, zB g ≤ m0 + a + b + n := fun a b n => by omega
  simp only [tg_cellNames, ta_cellNames, tu_cellNames, cc, ic, hB2, true_implies, false_implies, implies_true, and_true, true_and, forall_eq]
  have hget : ∀ k, k < s → (tfm τ c)[k]? = some (tmk τ c k) := fun k hk => by
    rw [tfm_len hs hs96, List.getElem?_map, List.getElem?_range hk]
    rfl
  refine ⟨fun n x h => ∃ i τ1, i ≤ 6 ∧ n = 6 - i ∧ x = nI i ∧ h = tput g m0 τ1 hp ∧ tnf c τ τ1 ∧ τ1.2.2.1 12 0 c = 0 ∧ ∀ j, j < i → τ1.2.2.1 13 c j = 0, ⟨6, 0, _, by omega, rfl, rfl, rfl, tnf.a12 ⟨rfl, rfl, rfl, fun _ _ _ _ _ => rfl⟩, by simp only [tq1, tq3, tq4, tq5, tq7, tq8, tq9, tqa, tqc, tqd, tqe, tqf, tqg, tqh, tqj, va_s, ne_eq, reduceCtorEq, not_false_eq_true, not_true_eq_false, if_true, if_false, Nat.reduceEqDiff], fun j hj => absurd hj (by omega)⟩, ?_⟩
  rintro n _ _ ⟨i, τ1, hi, hn, rfl, rfl, f1, h12, h13⟩
  refine pk_le 6 i (fun hle => ?_) (fun hlt => ?_)
  · refine ⟨fun n x h => ∃ k τ2, k ≤ s ∧ n = s - k ∧ x = nI k ∧ h = tput g m0 τ2 hp ∧ tnf c τ τ2 ∧ (∀ y, bs (τ2.2.2.1 12 0 c) y = true ↔ (y < 24 ∧ ∃ m ∈ (tfm τ c).take k, m.1 = y)) ∧ ∀ t, t < 6 → τ2.2.2.1 13 c t = nI (s_tt ((tfm τ c).take k) t), ⟨s, 0, τ1, by omega, rfl, rfl, rfl, f1, ?_, ?_⟩, ?_⟩
    · intro y
      rw [h12, b_0]
      simp
    · intro t ht
      rw [h13 t (by omega)]
      rfl
    rintro n _ _ ⟨k, τ2, hk, hn, rfl, rfl, f2, h12, h13⟩
    have k3 : τ2.2.2.1 3 0 c = nI s := by rw [f2.k 3 (by decide) (by decide)]; exact hs
    simp only [tg_sizes, ta_sizes, tu_sizes, cc, ic, k3, true_implies, false_implies, implies_true, and_true, true_and, forall_eq]
    refine pk_le s k (fun hle => ?_) (fun hlt => ?_)
    · have hks : k = s := by omega
      have hl : (tfm τ c).take k = tfm τ c := List.take_of_length_le (by rw [tfm_len hs hs96, hks]; simp)
      rw [hl] at h12 h13
      refine hK τ2 f2 ⟨?_, ?_⟩
      · rw [f2.fm]; exact h12
      · rw [f2.fm]; exact h13
    · obtain ⟨m, htok, hmk⟩ := hmarks k hlt
      have hm350 : m < 350 := by unfold tok at htok; omega
      have e1 := tmk_1 htok hmk
      have ck : (nI k).toNatClampNeg = k := nI_clamp (by omega)
      have ik : vp_in (nI k) 96 := vp_in_nI (by omega) (by decide)
      have k4 : τ2.2.2.1 4 c k = nI m := by rw [f2.k 4 (by decide) (by decide)]; exact hmk
      have etake : (tfm τ c).take (k + 1) = (tfm τ c).take k ++ [tmk τ c k] := by
        rw [List.take_succ, hget k hlt]
        rfl
      have hmem : ∀ y, (∃ m ∈ (tfm τ c).take (k + 1), m.1 = y) ↔ ((∃ m ∈ (tfm τ c).take k, m.1 = y) ∨ m = y) := by
        intro y
        rw [etake]
        constructor
        · rintro ⟨x, hx, rfl⟩
          rcases List.mem_append.mp hx with h | h
          · exact Or.inl ⟨x, h, rfl⟩
          · right; rw [List.mem_singleton.mp h, e1]
        · rintro (⟨x, hx, rfl⟩ | rfl)
          · exact ⟨x, List.mem_append_left _ hx, rfl⟩
          · exact ⟨tmk τ c k, List.mem_append_right _ (List.mem_singleton.mpr rfl), e1⟩
      have htt : ∀ t, s_tt ((tfm τ c).take (k + 1)) t = s_tt ((tfm τ c).take k) t + if 300 ≤ m ∧ m % 10 = t then 1 else 0 := by
        intro t
        rw [etake, s_tt_append]
        simp only [s_tt, e1, Nat.zero_add]
      simp only [tg_marks, ta_marks, cc, ic, tb_marks hc, tv_marks hc, ck, ik, k4, true_implies, false_implies, implies_true, and_true, true_and, forall_eq]
      -- behind the first part: the cell is set
      refine ⟨fun x h => x = nI k ∧ ∃ τ3, h = tput g m0 τ3 hp ∧ tnf c τ τ3 ∧ (∀ y, bs (τ3.2.2.1 12 0 c) y = true ↔ (y < 24 ∧ ∃ m ∈ (tfm τ c).take (k + 1), m.1 = y)) ∧ ∀ t, t < 6 → τ3.2.2.1 13 c t = nI (s_tt ((tfm τ c).take k) t), ?_, ?_⟩
      · rintro _ _ ⟨rfl, τ3, rfl, f3, h12', h13'⟩
        have k4 : τ3.2.2.1 4 c k = nI m := by rw [f3.k 4 (by decide) (by decide)]; exact hmk
        simp only [tg_marks, ta_marks, cc, ic, tb_marks hc, tv_marks hc, ck, ik, k4, true_implies, false_implies, implies_true, and_true, true_and, forall_eq]
        refine ⟨fun x h => x = nI k ∧ ∃ τ4, h = tput g m0 τ4 hp ∧ tnf c τ τ4 ∧ (∀ y, bs (τ4.2.2.1 12 0 c) y = true ↔ (y < 24 ∧ ∃ m ∈ (tfm τ c).take (k + 1), m.1 = y)) ∧ ∀ t, t < 6 → τ4.2.2.1 13 c t = nI (s_tt ((tfm τ c).take (k + 1)) t), ?_, ?_⟩
        · rintro _ _ ⟨rfl, τ4, rfl, f4, h12'', h13''⟩
          exact ⟨_, by omega, k + 1, τ4, by omega, rfl, nI_1 k, rfl, f4, h12'', h13''⟩
        · refine pk_lt m 300 (fun h3 => ⟨rfl, τ3, rfl, f3, h12', fun t ht => ?_⟩) (fun h3 => ?_)
          · rw [htt, if_neg (by omega)]; exact h13' t ht
          · have h6 : m % 10 < 6 := by unfold tok at htok; omega
            have er : nI m - nI m / 10 * 10 = nI (m % 10) := pk_rem (a := m) (d := 10) (by omega) (by decide) (by decide)
            have ct : (nI (m % 10)).toNatClampNeg = m % 10 := nI_clamp (by omega)
            have it : vp_in (nI (m % 10)) 6 := vp_in_nI h6 (by decide)
            have n10 : ¬ (10 : Int32) = 0 := by decide
            simp only [tg_tableTimes, ta_tableTimes, tg_marks, ta_marks, cc, ic, tb_marks hc, tv_marks hc, tb_tableTimes hc, tv_tableTimes hc, ck, ik, k4, er, ct, it, n10, hB3, not_false_eq_true, true_implies, false_implies, implies_true, and_true, true_and, forall_eq]
            refine ⟨_, rfl, f3.a13, ?_, fun t ht => ?_⟩
            · simp only [tq1, tq3, tq4, tq5, tq7, tq8, tq9, tqa, tqc, tqd, tqe, tqf, tqg, tqh, tqj, va_s, ne_eq, reduceCtorEq, not_false_eq_true, not_true_eq_false, if_true, if_false, Nat.reduceEqDiff]; exact h12'
            · rw [tqa, htt]
              by_cases e : t = m % 10
              · subst e
                rw [va_s, h13' _ ht, if_pos ⟨h3, rfl⟩]
                exact nI_1 _
              · rw [va_o e, h13' t ht, if_neg (fun q => e q.2.symm)]
                rfl
      · refine pk_le 24 m (fun h24 => ⟨rfl, τ2, rfl, f2, fun y => ?_, h13⟩) (fun h24 => ?_)
        · rw [h12 y, hmem y]
          constructor
          · rintro ⟨a, b⟩; exact ⟨a, Or.inl b⟩
          · rintro ⟨a, b | b⟩
            · exact ⟨a, b⟩
            · omega
        · simp only [tg_marks, ta_marks, tg_cellNames, ta_cellNames, tu_cellNames, cc, ic, tb_marks hc, tv_marks hc, ck, ik, k4, hB2, true_implies, false_implies, implies_true, and_true, true_and, forall_eq]
          refine ⟨_, rfl, f2.a12, fun y => ?_, fun t ht => ?_⟩
          · rw [tqa, va_s, b_or, b_one (by omega), Bool.or_eq_true, h12 y, hmem y, decide_eq_true_eq]
            constructor
            · rintro (⟨a, b⟩ | b)
              · exact ⟨a, Or.inl b⟩
              · exact ⟨by omega, Or.inr b.symm⟩
            · rintro ⟨a, b | b⟩
              · exact Or.inl ⟨a, b⟩
              · exact Or.inr b.symm
          · rw [tqc (by decide)]; exact h13 t ht
  · have ci : (nI i).toNatClampNeg = i := nI_clamp (by omega)
    have ii : vp_in (nI i) 6 := vp_in_nI hlt (by decide)
    simp only [tg_tableTimes, ta_tableTimes, cc, ic, tb_tableTimes hc, tv_tableTimes hc, ci, ii, hB3, true_implies, false_implies, implies_true, and_true, true_and, forall_eq]
    refine ⟨_, by omega, i + 1, _, by omega, rfl, nI_1 i, rfl, f1.a13, ?_, fun j hj => ?_⟩
    · simp only [tq1, tq3, tq4, tq5, tq7, tq8, tq9, tqa, tqc, tqd, tqe, tqf, tqg, tqh, tqj, va_s, ne_eq, reduceCtorEq, not_false_eq_true, not_true_eq_false, if_true, if_false, Nat.reduceEqDiff]; exact h12
    · rw [tqa]
      by_cases e : j = i
      · rw [e, va_s]
      · rw [va_o e]; exact h13 j (by omega)
theorem t_varied {t : Nat} {L : sL} {K : Int32 → zHp → Nat → Prop} (hd : 1 ≤ d) (hW : tWt τ) (ht : t < 6) (hL : tly τ t = some L) (hK : ∀ v, (∀ k, bs v k = true ↔ s_va L k) → K v (tput g m0 τ hp) nx) : zMt l g yX5_varied cX5_varied 2 (some .int) d 0 0 [.ref m0, .int (nI t)] (tput g m0 τ hp) nx (zQi g K) := by
  obtain ⟨d, rfl⟩ := Nat.exists_eq_add_of_le' hd
  apply met_X5_varied
  unfold wp_X5_varied
  obtain ⟨h6, lo, la, e7, e8, ⟨hn1, hn8, e10⟩, eax, hot⟩ := tly_some hW ht hL
  have ct : (nI t).toNatClampNeg = t := nI_clamp (by omega)
  have it : vp_in (nI t) 6 := vp_in_nI ht (by decide)
  rcases hot with ⟨h9, n9, b9, my⟩ | ⟨b, hb, hba, my1, my8, h9, n9, e11, s9, eb⟩
  · simp only [tg_ones, ta_ones, tu_ones, tg_others, ta_others, tu_others, ct, it, e8, h9, not_true_eq_false, true_implies, false_implies, implies_true, and_true, true_and, forall_eq]
    refine ⟨_, fun _ _ h => h, ?_⟩
    refine hK _ fun k => ?_
    rw [b_or, b_one (by omega), b_0, Bool.or_false, decide_eq_true_eq]
    unfold s_va
    rw [n9]
    simp
  · have n9' : ¬ nI b = -1 := fun h => n9 (h9.trans h)
    simp only [tg_ones, ta_ones, tu_ones, tg_others, ta_others, tu_others, ct, it, e8, h9, n9', not_false_eq_true, true_implies, false_implies, implies_true, and_true, true_and, forall_eq]
    refine ⟨_, fun _ _ h => h, ?_⟩
    refine hK _ fun k => ?_
    rw [b_or, b_one (by omega), b_one (by omega), Bool.or_eq_true, decide_eq_true_eq, decide_eq_true_eq]
    unfold s_va
    rw [s9]
    simp [eq_comm]
theorem t_cases {t : Nat} {L : sL} {K : Int32 → zHp → Nat → Prop} (hd : 1 ≤ d) (hW : tWt τ) (ht : t < 6) (hL : tly τ t = some L) (hK : K (nI (s_nc L)) (tput g m0 τ hp) nx) : zMt l g yX5_cases cX5_cases 2 (some .int) d 0 0 [.ref m0, .int (nI t)] (tput g m0 τ hp) nx (zQi g K) := by
  obtain ⟨d, rfl⟩ := Nat.exists_eq_add_of_le' hd
  apply met_X5_cases
  unfold wp_X5_cases
  obtain ⟨h6, lo, la, e7, e8, ⟨hn1, hn8, e10⟩, eax, hot⟩ := tly_some hW ht hL
  have ct : (nI t).toNatClampNeg = t := nI_clamp (by omega)
  have it : vp_in (nI t) 6 := vp_in_nI ht (by decide)
  have e2 : (2 : Int32) * nI t = nI (2 * t) := pk_mul 2 t
  have e21 : nI (2 * t) + 1 = nI (2 * t + 1) := nI_1 _
  have c2 : (nI (2 * t)).toNatClampNeg = 2 * t := nI_clamp (by omega)
  have c21 : (nI (2 * t + 1)).toNatClampNeg = 2 * t + 1 := nI_clamp (by omega)
  have i2 : vp_in (nI (2 * t)) 12 := vp_in_nI (by omega) (by decide)
  have i21 : vp_in (nI (2 * t + 1)) 12 := vp_in_nI (by omega) (by decide)
  unfold s_nc at hK
  rcases hot with ⟨h9, n9, b9, my⟩ | ⟨b, hb, hba, my1, my8, h9, n9, e11, s9, eb⟩
  · simp only [tg_axisSizes, ta_axisSizes, tu_axisSizes, tg_others, ta_others, tu_others, ct, it, e2, c2, i2, e10, h9, not_true_eq_false, true_implies, false_implies, implies_true, and_true, true_and, forall_eq]
    refine ⟨_, fun _ _ h => h, ?_⟩
    rw [my, Nat.mul_one] at hK
    rw [show nI L.2.2.2.1.length * 1 = nI L.2.2.2.1.length from (pk_mul _ 1).trans (by rw [Nat.mul_one])]
    exact hK
  · have n9' : ¬ nI b = -1 := fun h => n9 (h9.trans h)
    simp only [tg_axisSizes, ta_axisSizes, tu_axisSizes, tg_others, ta_others, tu_others, ct, it, e2, e21, c2, c21, i2, i21, e10, e11, h9, n9', not_false_eq_true, true_implies, false_implies, implies_true, and_true, true_and, forall_eq]
    refine ⟨_, fun _ _ h => h, ?_⟩
    rw [pk_mul]
    exact hK
theorem t_reached {rk : Nat → Nat} {c : Nat} {K : Int32 → zHp → Nat → Prop} (hd : 2 ≤ d) (hr : s_rk (tfm τ) (tly τ) rk) (hb : ∀ x, x < 30 → rk x < 30) (hN : tNm τ) (hc : c < 24) (hK : K (s_ms (s_RE (tfm τ) c) 24) (tput g m0 τ hp) nx) : zMt l g yX5_reached cX5_reached 5 (some .int) d 0 0 [.ref m0, .int (nI c)] (tput g m0 τ hp) nx (zQi g K) := by
  obtain ⟨d, rfl⟩ := Nat.exists_eq_add_of_le' (show 1 ≤ d by omega)
  apply met_X5_reached
  unfold wp_X5_reached
  simp only [true_implies, false_implies, implies_true, and_true, true_and, forall_eq]
  refine ⟨fun n set was h nx' => h = tput g m0 τ hp ∧ nx = nx' ∧ n = s_cn (fun k => ¬ bs was k = true) 24 ∧ (∀ k, bs was k = true → bs set k = true) ∧ (∀ k, bs set k = true → k < 24 ∧ s_RE (tfm τ) c k) ∧ bs set c = true ∧ (∀ k, k < 24 → bs was k = true → ∀ m ∈ tfm τ k, m.1 < 24 → bs set m.1 = true), ⟨_, rfl, rfl, rfl, ?_, ?_, ?_, ?_⟩, ?_⟩
  · intro k h; rw [b_0] at h; cases h
  · intro k h
    rw [b_one (by omega), decide_eq_true_eq] at h
    subst h
    exact ⟨hc, s_RE_self⟩
  · rw [b_one (by omega), decide_eq_true_eq]
  · intro k _ h; rw [b_0] at h; cases h
  rintro n set was _ _ ⟨rfl, rfl, rfl, i1, i2, i3, i4⟩
  refine ⟨fun he => ?_, fun hne => ?_⟩
  · subst he
    have : set = s_ms (s_RE (tfm τ) c) 24 := by
      refine s_ms_eq (by decide) fun k => ⟨i2 k, fun h => ?_⟩
      exact s_RE_ind hr hb (P := fun k => bs set k = true) i4 _ c (Nat.lt_succ_self _) hc i3 k h.2
    rw [this]
    exact hK
  · have hlt : s_cn (fun k => ¬ bs set k = true) 24 < s_cn (fun k => ¬ bs was k = true) 24 := by
      have : ∃ j, bs set j = true ∧ ¬ bs was j = true := by
        apply Classical.byContradiction
        intro hno
        apply hne
        refine b_ext fun k _ => ?_
        have h1 := i1 k
        have h2 : bs set k = true → bs was k = true := fun h => Classical.byContradiction fun q => hno ⟨k, h, q⟩
        cases ha : bs set k <;> cases hb : bs was k <;> simp_all
      obtain ⟨j, hj1, hj2⟩ := this
      exact s_cn_lt (fun k _ h h2 => h (i1 k h2)) (i2 j hj1).1 hj2 (fun h => h hj1)
    refine ⟨fun n x was' i h nx' => ∃ ii, ii ≤ 24 ∧ n = 24 - ii ∧ i = nI ii ∧ set = was' ∧ h = tput g m0 τ hp ∧ nx = nx' ∧ (∀ k, bs set k = true → bs x k = true) ∧ (∀ k, bs x k = true → k < 24 ∧ s_RE (tfm τ) c k) ∧ (∀ k, k < ii → bs set k = true → ∀ m ∈ tfm τ k, m.1 < 24 → bs x m.1 = true), ⟨24, 0, by omega, rfl, rfl, rfl, rfl, rfl, fun _ h => h, i2, fun k hk => absurd hk (by omega)⟩, ?_⟩
    rintro n x _ _ _ _ ⟨ii, hii, hn, rfl, rfl, rfl, rfl, j1, j2, j3⟩
    refine pk_le 24 ii (fun hle => ?_) (fun hlt2 => ?_)
    · exact ⟨_, hlt, rfl, rfl, rfl, j1, j2, j1 c i3, fun k hk h => j3 k (by omega) h⟩
    · refine ⟨fun y was' i h nx' => i = nI ii ∧ set = was' ∧ h = tput g m0 τ hp ∧ nx = nx' ∧ (∀ k, bs set k = true → bs y k = true) ∧ (∀ k, bs y k = true → k < 24 ∧ s_RE (tfm τ) c k) ∧ (∀ k, k < ii + 1 → bs set k = true → ∀ m ∈ tfm τ k, m.1 < 24 → bs y m.1 = true), ?_, ?_⟩
      · rintro y _ _ _ _ ⟨rfl, rfl, rfl, rfl, q1, q2, q3⟩
        exact ⟨_, by omega, ii + 1, by omega, rfl, nI_1 ii, rfl, rfl, rfl, q1, q2, q3⟩
      · refine ⟨fun h => ?_, fun h => ?_⟩
        · have hin := (b_t1 (by omega)).mp h
          rw [tw_zo]
          refine t_namesCells' (by omega) hlt2 ?_
          refine ⟨rfl, rfl, rfl, rfl, fun k hk => ?_, fun k hk => ?_, fun k hk hs m hm h24 => ?_⟩
          · rw [b_or, j1 k hk]; rfl
          · rw [b_or, Bool.or_eq_true] at hk
            rcases hk with hk | hk
            · exact j2 k hk
            · obtain ⟨a, m, hm, e⟩ := ((hN ii hlt2).1 k).mp hk
              refine ⟨a, ?_⟩
              have hRE := (i2 ii hin).2
              refine s_RE_trans hr hb _ c ii k (Nat.lt_succ_self _) hc hRE ((s_RE_st hr hb hlt2 k).mpr (Or.inr ⟨m, hm, by omega, ?_⟩))
              rw [e]; exact s_RE_self
          · rw [b_or, Bool.or_eq_true]
            by_cases e : k = ii
            · subst e
              exact Or.inr (((hN k hlt2).1 m.1).mpr ⟨h24, m, hm, rfl⟩)
            · exact Or.inl (j3 k (by omega) hs m hm h24)
        · have hnin : ¬ bs set ii = true := fun q => h ((b_t1 (by omega)).mpr q)
          refine ⟨rfl, rfl, rfl, rfl, j1, j2, fun k hk hs m hm h24 => ?_⟩
          by_cases e : k = ii
          · subst e; exact absurd hs hnin
          · exact j3 k (by omega) hs m hm h24
end T9
