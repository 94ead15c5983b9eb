set_option maxRecDepth 100000
/-! THE REFERENCE's reader: isRead; isVaried, newNames -/
section PE
variable {l : Launch} {g : zG} {d m0 : Nat} {τ τ' τm τ1 τ2 : tS} {hp : zHp} {nx : Nat} {t : List Nat}
/-- what was read stands there -/
def tRd (τ : tS) (r : Nat ⊕ List sM) : Prop := match r with
  | .inl b => τ.1 40 = nI b
  | .inr ms => τ.1 37 = nI ms.length ∧ tMk τ ms
def p_yes (r : Nat ⊕ List sM) : Int32 := match r with | .inl _ => 0 | .inr _ => 1
theorem t_isRead {K : Int32 → zHp → Nat → Prop} (hd : 830 ≤ d) (ht : t.length ≤ 96) (hB : zB g ≤ m0) (hs : zStrs g m0 hp) (hT : tTt τ t) (hK : ∀ τ', tps τ τ' → tRd τ' (p_read t) → K (p_yes (p_read t)) (tput g m0 τ' hp) nx) : zMt l g yX5_isRead cX5_isRead 1 (some .boolean) d 0 0 [.ref m0] (tput g m0 τ hp) nx (zQi g K) := by
  obtain ⟨d, rfl⟩ := Nat.exists_eq_add_of_le' (show 1 ≤ d by omega)
  apply met_X5_isRead
  unfold wp_X5_isRead
  simp only [tg_at, tp_at, tg_newSize, tp_newSize, tg_newFigureMany, tp_newFigureMany, tg_opened, tp_opened, tg_isWrong, tp_isWrong, hB, true_and, tw_zo]
  obtain ⟨τ0, hτ0⟩ : ∃ τ0, τ0 = tsI (tsI (tsI (tsI (tsI τ 39 0) 37 0) 38 0) 45 0) 46 0 := ⟨_, rfl⟩
  rw [← hτ0]
  have x0 : tps τ τ0 := by rw [hτ0]; exact ((((tps.rf.sI (by omega)).sI (by omega)).sI (by omega)).sI (by omega)).sI (by omega)
  have c39 : τ0.1 39 = 0 := by rw [hτ0, tq2 (by decide), tq2 (by decide), tq2 (by decide), tq2 (by decide), tq1]
  have c37 : τ0.1 37 = 0 := by rw [hτ0, tq2 (by decide), tq2 (by decide), tq2 (by decide), tq1]
  have c38 : τ0.1 38 = 0 := by rw [hτ0, tq2 (by decide), tq2 (by decide), tq1]
  have c45 : τ0.1 45 = 0 := by rw [hτ0, tq2 (by decide), tq1]
  have c46 : τ0.1 46 = 0 := by rw [hτ0, tq1]
  obtain ⟨s0, hs0⟩ : ∃ s0 : pS, s0 = (0, 0, (0, 0, none), 0, 0) := ⟨_, rfl⟩
  have hnx : p_nx t s0 = p_bd (p_next t 0) fun q => .inr (q.1, q.2.1, q.2.2, 0, 0) := by rw [hs0]; rfl
  have hread : p_read t = p_bd (p_bd (p_nx t s0) fun s => p_P t 800 5 s) fun r => if r.1.2.2.1.1 = 0 then .inr r.2 else .inl r.1.2.1 := by
    rw [hnx]
    unfold p_read
    cases p_next t 0 with
    | inl b => rfl
    | inr q => rfl
  refine t_nextM (st := s0) (ms := []) (by omega) hB hs (hT.ps x0) (by rw [c39, hs0]; rfl) (by rw [hs0]; exact Nat.zero_le _) (by rw [hs0]; exact Nat.zero_le _) (by rw [hs0]; exact Nat.zero_le _) c46 (by rw [c45, hs0]; rfl) (by rw [c38, hs0]; rfl) (by rw [c37]; rfl) (fun k m hm => by cases hm) (by rw [hs0]; exact Nat.zero_le _) (fun m hm => by cases hm) fun τ1 x1 o1 => ?_
  have x01 := x0.tr x1
  rw [tw_zo]
  -- behind all: it's wrong, or in step
  have fin : ∀ τ2, tps τ τ2 → tOu τ2 t (p_bd (p_nx t s0) fun s => p_P t 800 5 s) [] → (zgI (tput g m0 τ2 hp) (some m0) [5] 46 fun x_28 => zgI (tput g m0 τ2 hp) (some m0) [5] 41 fun x_32 => (∃ P_50 : (Option Nat) → Int32 → Int32 → zHp → Nat → Prop, (∀ (r_33 : Option Nat) (x_34 : Int32) (x_35 : Int32) (hp_36 : zHp) (nx_37 : Nat), P_50 r_33 x_34 x_35 hp_36 nx_37 → (((x_34 ||| x_35) = 0 ∨ (x_34 ||| x_35) = 1) ∧ zpt g hp_36 r_33 [5] 46 (.int (x_34 ||| x_35)) fun hp_41 => (zgI hp_41 (some m0) [5] 46 fun x_45 => (∃ P_66 : Int32 → zHp → Nat → Prop, (∀ (x_46 : Int32) (hp_47 : zHp) (nx_48 : Nat), P_66 x_46 hp_47 nx_48 → (((x_46 = 0 ∨ x_46 = 1) ∧ K x_46 hp_47 nx_48))) ∧ ((x_45 = 0 → P_66 (1 : Int32) hp_41 nx_37) ∧ (¬ x_45 = 0 → P_66 (0 : Int32) hp_41 nx_37)))))) ∧ ((x_32 = 0 → P_50 (some m0) x_28 (0 : Int32) (tput g m0 τ2 hp) nx) ∧ (¬ x_32 = 0 → P_50 (some m0) x_28 (1 : Int32) (tput g m0 τ2 hp) nx)))) := by
    intro τ2 x2 o2
    have wrong : ∀ b, tWr τ2 b → p_read t = .inl b → (∃ P_50 : (Option Nat) → Int32 → Int32 → zHp → Nat → Prop, (∀ (r_33 : Option Nat) (x_34 : Int32) (x_35 : Int32) (hp_36 : zHp) (nx_37 : Nat), P_50 r_33 x_34 x_35 hp_36 nx_37 → (((x_34 ||| x_35) = 0 ∨ (x_34 ||| x_35) = 1) ∧ zpt g hp_36 r_33 [5] 46 (.int (x_34 ||| x_35)) fun hp_41 => (zgI hp_41 (some m0) [5] 46 fun x_45 => (∃ P_66 : Int32 → zHp → Nat → Prop, (∀ (x_46 : Int32) (hp_47 : zHp) (nx_48 : Nat), P_66 x_46 hp_47 nx_48 → (((x_46 = 0 ∨ x_46 = 1) ∧ K x_46 hp_47 nx_48))) ∧ ((x_45 = 0 → P_66 (1 : Int32) hp_41 nx_37) ∧ (¬ x_45 = 0 → P_66 (0 : Int32) hp_41 nx_37)))))) ∧ ((τ2.1 41 = 0 → P_50 (some m0) (τ2.1 46) (0 : Int32) (tput g m0 τ2 hp) nx) ∧ (¬ τ2.1 41 = 0 → P_50 (some m0) (τ2.1 46) (1 : Int32) (tput g m0 τ2 hp) nx))) := by
      intro b hw hr
      rw [hw.1]
      refine ⟨fun r a c h n' => r = some m0 ∧ a = 1 ∧ (c = 0 ∨ c = 1) ∧ h = tput g m0 τ2 hp ∧ nx = n', ?_, fun _ => ⟨rfl, rfl, Or.inl rfl, rfl, rfl⟩, fun _ => ⟨rfl, rfl, Or.inr rfl, rfl, rfl⟩⟩
      rintro _ _ c _ _ ⟨rfl, rfl, hc, rfl, rfl⟩
      have e1 : (1 : Int32) ||| c = 1 := by rcases hc with rfl | rfl <;> decide
      rw [e1]
      refine ⟨Or.inr rfl, ?_⟩
      simp only [tg_isWrong, tp_isWrong, hB, true_and, tq1]
      refine ⟨_, fun _ _ _ h => h, fun h => absurd h (by decide), fun _ => ⟨Or.inl rfl, ?_⟩⟩
      have := hK _ (x2.sI (k := 46) (v := 1) (by omega)) (by rw [hr]; show (tsI τ2 46 1).1 40 = nI b; rw [tq2 (by decide)]; exact hw.2)
      rw [hr] at this
      exact this
    simp only [tg_isWrong, tp_isWrong, tg_token, tp_token]
    cases hr : (p_bd (p_nx t s0) fun s => p_P t 800 5 s) with
    | inl b =>
      rw [hr] at o2 hread
      exact wrong b o2 hread
    | inr q =>
      rw [hr] at o2 hread
      have M2 : tM τ2 t q.1 q.2 := by have h := o2; exact h
      by_cases h5 : q.1.2.2.1.1 = 5
      · exact wrong q.1.2.1 (M2.wr h5) (hread.trans (by show (if q.1.2.2.1.1 = 0 then _ else _) = _; rw [if_neg (by omega)]))
      · obtain ⟨⟨k1, k2, k3, k4, k5, k6⟩, o1', o2', o3', o4', o5', o6'⟩ := M2.sy h5
        rw [k3, k4]
        have a := M2.1.at
        by_cases h0 : q.1.2.2.1.1 = 0
        · have hr2 : p_read t = .inr q.2 := hread.trans (by show (if q.1.2.2.1.1 = 0 then _ else _) = _; rw [if_pos h0])
          have e0 : nI (if q.1.2.2.1.1 = 4 then 1 else q.1.2.2.1.1) = 0 := by rw [if_neg (by omega), h0]; rfl
          rw [e0]
          refine ⟨_, fun _ _ _ _ _ h => h, fun _ => ?_, fun h => absurd rfl h⟩
          refine ⟨Or.inl (by decide), ?_⟩
          simp only [tg_isWrong, tp_isWrong, hB, true_and, tq1]
          refine ⟨_, fun _ _ _ h => h, fun _ => ⟨Or.inr rfl, ?_⟩, fun h => absurd (by decide) h⟩
          have := hK _ (x2.sI (k := 46) (v := 0 ||| 0) (by omega)) (by rw [hr2]; exact ⟨by rw [tq2 (by decide)]; exact o3', o4'⟩)
          rw [hr2] at this
          exact this
        · have hr2 : p_read t = .inl q.1.2.1 := hread.trans (by show (if q.1.2.2.1.1 = 0 then _ else _) = _; rw [if_neg h0])
          have e0 : ¬ nI (if q.1.2.2.1.1 = 4 then 1 else q.1.2.2.1.1) = 0 := nI_ne0 (by split <;> omega) (by split <;> omega)
          refine ⟨_, fun _ _ _ _ _ h => h, fun h => absurd h e0, fun _ => ?_⟩
          refine ⟨Or.inr (by decide), ?_⟩
          simp only [tg_isWrong, tp_isWrong, hB, true_and, tq1]
          refine ⟨_, fun _ _ _ h => h, fun h => absurd h (by decide), fun _ => ⟨Or.inl rfl, ?_⟩⟩
          have := hK _ (x2.sI (k := 46) (v := 0 ||| 1) (by omega)) (by rw [hr2]; show (tsI τ2 46 _).1 40 = _; rw [tq2 (by decide)]; exact k2)
          rw [hr2] at this
          exact this
  cases hn : p_nx t s0 with
  | inl b =>
    rw [hn] at o1 fin
    exact t_all_w (by omega) o1 (fin τ1 x01 o1)
  | inr s =>
    rw [hn] at o1 fin
    have M1 : tM τ1 t s [] := o1
    have hb := M1.1.2.1
    refine t_read ht hB hs 800 5 s [] τ1 d _ (by omega) (by show 8 * (t.length + 1 - s.2.1) + 4 ≤ 800; omega) (by omega) M1 (hT.ps x01) fun τ2 x2 o2 => ?_
    exact fin τ2 (x01.tr x2) o2
theorem t_isVaried {c : Nat} {K : Int32 → zHp → Nat → Prop} (hd : 2 ≤ d) (hW : tWt τ) (hc : c < 24) (hK : K (s_if (∃ t, t < 6 ∧ ∃ L, tly τ t = some L ∧ s_va L c) 1 0) (tput g m0 τ hp) nx) : zMt l g yX5_isVaried cX5_isVaried 3 (some .boolean) d 0 0 [.ref m0, .int (nI c)] (tput g m0 τ hp) nx (zQi g K) := by
  obtain ⟨d, rfl⟩ := Nat.exists_eq_add_of_le' (show 1 ≤ d by omega)
  apply met_X5_isVaried
  unfold wp_X5_isVaried
  refine ⟨fun n x h n' => ∃ u, u ≤ 6 ∧ n = 6 - u ∧ x = nI u ∧ h = tput g m0 τ hp ∧ nx = n' ∧ ∀ t, t < u → ∀ L, tly τ t = some L → ¬ s_va L c, ⟨6, 0, by omega, rfl, rfl, rfl, rfl, fun t ht => absurd ht (by omega)⟩, ?_⟩
  rintro n _ _ _ ⟨u, hu, hn, rfl, rfl, rfl, hall⟩
  refine pk_le 6 u (fun hle => ?_) (fun hlt => ?_)
  · rw [s_if_n (by rintro ⟨t, ht, L, hL, hv⟩; exact hall t (by omega) L hL hv)] at hK
    exact hK
  · have cu : (nI u).toNatClampNeg = u := nI_clamp (by omega)
    have iu : vp_in (nI u) 6 := vp_in_nI hlt (by decide)
    simp only [tg_laid, ta_laid, tu_laid, cu, iu, true_implies, false_implies, implies_true, and_true, true_and, forall_eq]
    obtain ⟨P, hP⟩ : ∃ P : Int32 → zHp → Nat → Prop, P = fun x h n' => x = nI u ∧ h = tput g m0 τ hp ∧ nx = n' ∧ ∀ L, tly τ u = some L → ¬ s_va L c := ⟨_, rfl⟩
    refine ⟨P, ?_, ?_⟩
    · intro x h n' hh
      rw [hP] at hh
      obtain ⟨rfl, rfl, rfl, hno⟩ := hh
      refine ⟨6 - (u + 1), by omega, u + 1, by omega, rfl, nI_1 u, rfl, rfl, fun t ht => ?_⟩
      by_cases e : t = u
      · subst e; exact hno
      · exact hall t (by omega)
    · refine ⟨fun h0 => ?_, fun h0 => ?_⟩
      · rw [hP]
        exact ⟨rfl, rfl, rfl, fun L hL => by rw [tly_none.mp h0] at hL; cases hL⟩
      · rw [tw_zo]
        cases hL : tly τ u with
        | none => exact absurd (tly_none.mpr hL) h0
        | some L =>
          refine t_varied (by omega) hW hlt hL fun v hv => ?_
          rw [b_t1 (by omega), hv c]
          refine ⟨fun h => ?_, fun h => ?_⟩
          · rw [s_if_p ⟨u, hlt, L, hL, h⟩] at hK
            exact hK
          · rw [hP]
            exact ⟨rfl, rfl, rfl, fun L' hL' => by rw [hL] at hL'; cases hL'; exact h⟩
/-- the names in a row of marks -/
def s_nn (ms : List sM) (k : Nat) : Prop := ∃ m ∈ ms, (m.1 < 24 ∧ k = m.1) ∨ (300 ≤ m.1 ∧ k = 24 + m.1 % 10)
theorem t_newNames {ms : List sM} {K : Int32 → zHp → Nat → Prop} (hd : 1 ≤ d) (h37 : τ.1 37 = nI ms.length) (hM : tMk τ ms) (hl : ms.length ≤ 96) (htk : ∀ m ∈ ms, tok m.1) (hK : ∀ v, (∀ k, bs v k = true ↔ s_nn ms k) → K v (tput g m0 τ hp) nx) : zMt l g yX5_newNames cX5_newNames 3 (some .int) d 0 0 [.ref m0] (tput g m0 τ hp) nx (zQi g K) := by
  obtain ⟨d, rfl⟩ := Nat.exists_eq_add_of_le' hd
  apply met_X5_newNames
  unfold wp_X5_newNames
  refine ⟨fun n v x => ∃ i, i ≤ ms.length ∧ n = ms.length - i ∧ x = nI i ∧ ∀ k, bs v k = true ↔ s_nn (ms.take i) k, ⟨ms.length, 0, by omega, rfl, rfl, fun k => ?_⟩, ?_⟩
  · rw [b_0, List.take_zero]
    exact ⟨fun h => (by cases h), fun h => (by obtain ⟨m, hm, -⟩ := h; cases hm)⟩
  rintro n v _ ⟨i, hi, hn, rfl, hv⟩
  simp only [tg_newSize, tp_newSize, h37]
  refine pk_le ms.length i (fun hle => ?_) (fun hlt => ?_)
  · refine hK v fun k => ?_
    rw [hv k, List.take_of_length_le (by omega)]
  · have ci : (nI i).toNatClampNeg = i := nI_clamp (by omega)
    have ii : vp_in (nI i) 96 := vp_in_nI (by omega) (by decide)
    have hmi := List.getElem?_eq_getElem hlt
    obtain ⟨m, hm⟩ : ∃ m, m = ms[i] := ⟨_, rfl⟩
    rw [← hm] at hmi
    have hm35 := (hM i m hmi).1
    have htm := htk m (List.mem_of_getElem? hmi)
    have hmb : m.1 < 1000 := by rcases htm with h | h | h | h <;> omega
    simp only [tg_newMarks, ta_newMarks, tu_newMarks, ci, ii, hm35, true_implies, false_implies, implies_true, and_true, true_and, forall_eq]
    have htake : ms.take (i + 1) = ms.take i ++ [m] := by rw [List.take_succ, hmi]; rfl
    have hnn : ∀ k, s_nn (ms.take (i + 1)) k ↔ (s_nn (ms.take i) k ∨ (m.1 < 24 ∧ k = m.1) ∨ (300 ≤ m.1 ∧ k = 24 + m.1 % 10)) := by
      intro k
      unfold s_nn
      rw [htake]
      constructor
      · rintro ⟨x, hx, hq⟩
        rw [List.mem_append, List.mem_singleton] at hx
        rcases hx with hx | rfl
        · exact Or.inl ⟨x, hx, hq⟩
        · exact Or.inr hq
      · rintro (⟨x, hx, hq⟩ | hq)
        · exact ⟨x, List.mem_append_left _ hx, hq⟩
        · exact ⟨m, List.mem_append_right _ (List.mem_singleton.mpr rfl), hq⟩
    obtain ⟨P34, hP34⟩ : ∃ P : Int32 → Int32 → Prop, P = fun w x => x = nI i ∧ ∀ k, bs w k = true ↔ (s_nn (ms.take i) k ∨ (m.1 < 24 ∧ k = m.1)) := ⟨_, rfl⟩
    refine ⟨P34, ?_, ?_⟩
    · intro w x hh
      rw [hP34] at hh
      obtain ⟨rfl, hw⟩ := hh
      simp only [ci, ii, hm35, true_implies, false_implies, implies_true, and_true, true_and, forall_eq]
      obtain ⟨P63, hP63⟩ : ∃ P : Int32 → Int32 → Prop, P = fun w x => x = nI i ∧ ∀ k, bs w k = true ↔ s_nn (ms.take (i + 1)) k := ⟨_, rfl⟩
      refine ⟨P63, ?_, ?_⟩
      · intro w x hh
        rw [hP63] at hh
        obtain ⟨rfl, hw⟩ := hh
        exact ⟨ms.length - (i + 1), by omega, i + 1, by omega, rfl, nI_1 i, hw⟩
      · have e300 : (300 : Int32) = nI 300 := rfl
        rw [e300]
        refine pk_lt m.1 300 (fun q => ?_) (fun q => ?_)
        · rw [hP63]
          refine ⟨rfl, fun k => ?_⟩
          rw [hw k, hnn k]
          constructor
          · rintro (h | h)
            · exact Or.inl h
            · exact Or.inr (Or.inl h)
          · rintro (h | h | h)
            · exact Or.inl h
            · exact Or.inr h
            · omega
        · refine ⟨by decide, ?_⟩
          rw [hP63]
          refine ⟨rfl, fun k => ?_⟩
          have e10 : (10 : Int32) = nI 10 := rfl
          have e24 : (24 : Int32) = nI 24 := rfl
          have hmod : m.1 % 10 < 6 := by rcases htm with h | h | h | h <;> omega
          rw [e10, pk_rem (by omega) (by omega) (by omega), e24, nI_add, b_or, Bool.or_eq_true, hw k, b_one (by omega), hnn k]
          simp only [decide_eq_true_eq]
          constructor
          · rintro ((h | h) | h)
            · exact Or.inl h
            · exact Or.inr (Or.inl h)
            · exact Or.inr (Or.inr ⟨q, h⟩)
          · rintro (h | h | h)
            · exact Or.inl (Or.inl h)
            · exact Or.inl (Or.inr h)
            · exact Or.inr h.2
    · have e24 : (24 : Int32) = nI 24 := rfl
      rw [e24]
      refine pk_le 24 m.1 (fun q => ?_) (fun q => ?_)
      · rw [hP34]
        refine ⟨rfl, fun k => ?_⟩
        rw [hv k]
        exact ⟨fun h => Or.inl h, fun h => h.elim id (fun h => by omega)⟩
      · rw [hP34]
        refine ⟨rfl, fun k => ?_⟩
        rw [b_or, Bool.or_eq_true, hv k, b_one (by omega)]
        simp only [decide_eq_true_eq]
        exact ⟨fun h => h.elim Or.inl (fun h => Or.inr ⟨q, h⟩), fun h => h.elim Or.inl (fun h => Or.inr h.2)⟩
end PE
