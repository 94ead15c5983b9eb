set_option maxRecDepth 100000
/-! THE REFERENCE's operations: formula -/
section PH
variable {l : Launch} {g : zG} {d m0 : Nat} {τ τ' τm τ1 τ2 : tS} {hp : zHp} {nx : Nat} {t : List Nat}
def o_te (A : sV) : sV := (A.1, A.2.1, [], A.2.2.2)
noncomputable def o_formula (A : sV) (x : Int32) : Int32 × sV := match s_cx x with
  | none => (-2, A)
  | some c => match p_read A.2.2.1 with
    | .inl b => (-100 - nI b, o_te A)
    | .inr ms => s_if (∃ t, t < 6 ∧ ∃ L, A.1.2.1 t = some L ∧ s_va L c) (-3, o_te A)
        (s_if (∃ rk, s_rk (s_up A.1.1 c ms) A.1.2.1 rk)
          (s_if (s_tm (s_up A.1.1 c ms) A.1.2.1) (-4, o_te A) (1, (s_up A.1.1 c ms, A.1.2.1, A.1.2.2.1, s_up A.1.2.2.2 c none), A.2.1, [], A.2.2.2))
          (-5, o_te A))
/-- the names of the other cells stay right -/
theorem tNm_c {c : Nat} {τ3 τ4 : tS} (hN : tNm τ) (hnf : tnf c τ3 τ4) (hfm : ∀ y, y ≠ c → tfm τ4 y = tfm τ y) (h12 : ∀ y, y ≠ c → τ3.2.2.1 12 0 y = τ.2.2.1 12 0 y) (h13 : ∀ y, y ≠ c → τ3.2.2.1 13 y = τ.2.2.1 13 y) (hc : tNc τ4 c) : tNm τ4 := by
  intro y hy
  by_cases e : y = c
  · subst e; exact hc
  · obtain ⟨w1, w2⟩ := hN y hy
    unfold tNc
    rw [hfm y e, hnf.2.2.2 12 0 y (by omega) (by omega), h12 y e]
    refine ⟨w1, fun t ht => ?_⟩
    rw [hnf.2.2.2 13 y t (by omega) (by omega), h13 y e]
    exact w2 t ht
set_option maxHeartbeats 2000000 in
theorem to_formula {x : Int32} {K : Int32 → zHp → Nat → Prop} (hd : 900 ≤ d) (hB : zB g ≤ m0) (hstr : zStrs g m0 hp) (hI : tINV τ) (hK : ∀ τ', tINV τ' → tVw τ' = (o_formula (tVw τ) x).2 → K (o_formula (tVw τ) x).1 (tput g m0 τ' hp) nx) : zMt l g yX5_formula cX5_formula 4 (some .int) d 0 0 [.ref m0, .int x] (tput g m0 τ hp) nx (zQi g K) := by
  obtain ⟨d, rfl⟩ := Nat.exists_eq_add_of_le' (show 1 ≤ d by omega)
  apply met_X5_formula
  unfold wp_X5_formula
  refine t_isCell' (by omega) ?_
  rcases s_cx_of x with hx | ⟨c, hc, rfl⟩
  · have hK := hK τ hI
    unfold o_formula at hK
    simp only [s_cx, if_pos hx] at hK ⊢
    exact ⟨fun _ => hK (by trivial), fun h => absurd (by trivial) h⟩
  rw [if_neg (s_cx_n hc)]
  refine ⟨fun h => absurd h (by decide), fun _ => ?_⟩
  unfold o_formula at hK
  simp only [s_cx_s hc] at hK
  obtain ⟨hT, hl96⟩ := hI.2.2.2.1.tt
  have e0 : (tVw τ).2.2.1 = ttp τ := rfl
  rw [e0] at hK
  rw [tw_zo]
  refine t_isRead (by omega) hl96 hB hstr hT fun τ1 x1 rd => ?_
  simp only [tg_taped, tp_taped, hB, true_and]
  obtain ⟨τ2, hτ2⟩ : ∃ τ2, τ2 = tsI τ1 34 0 := ⟨_, rfl⟩
  rw [← hτ2]
  have eI2 : ∀ k, k ≠ 35 → τ2.2.2.1 k = τ.2.2.1 k := fun k hk => by rw [hτ2]; exact x1.2.2.1 k hk
  have eD2 : ∀ k, k ≠ 36 → τ2.2.2.2 k = τ.2.2.2 k := fun k hk => by rw [hτ2]; exact x1.2.2.2 k hk
  have e34 : τ2.1 34 = 0 := by rw [hτ2, tq1]
  have e57 : τ2.1 57 = τ.1 57 := by rw [hτ2, tq2 (by decide), x1.1 57 (by omega)]
  have hT2 : tTp τ2 := ⟨0, by omega, by rw [e34]; rfl, fun k hk => absurd hk (by omega)⟩
  obtain ⟨I2, V2⟩ := tINV_tp (τ' := τ2) hI e57 (fun k hk => eI2 k (by omega)) (fun k hk => eD2 k (by omega)) hT2
  have ettp : ttp τ2 = [] := by unfold ttp; rw [e34]; rfl
  rw [ettp] at V2
  have V2 : tVw τ2 = o_te (tVw τ) := V2
  have pe2 : tpe τ τ2 := ⟨fun k hk => eI2 k (by omega), fun k hk => eD2 k (by omega)⟩
  have c40 : τ2.1 40 = τ1.1 40 := by rw [hτ2, tq2 (by decide)]
  have c37 : τ2.1 37 = τ1.1 37 := by rw [hτ2, tq2 (by decide)]
  have c35 : τ2.2.2.1 35 = τ1.2.2.1 35 := by rw [hτ2]; rfl
  have c36 : τ2.2.2.2 36 = τ1.2.2.2 36 := by rw [hτ2]; rfl
  cases hr : p_read (ttp τ) with
  | inl b =>
    rw [hr] at rd hK
    refine ⟨fun _ => ?_, fun h => absurd rfl h⟩
    simp only [tg_begin, tp_begin]
    rw [c40, show τ1.1 40 = nI b from rd]
    exact hK τ2 I2 V2
  | inr ms =>
    rw [hr] at rd hK
    refine ⟨fun h => absurd h (show ¬ (1 : Int32) = 0 by decide), fun _ => ?_⟩
    obtain ⟨rl, rm⟩ := rd
    obtain ⟨hml, hpm, hht⟩ := p_read_ok hl96 hr
    have M2 : tMk τ2 ms := by
      intro k m hm
      rw [c35, c36]
      exact rm k m hm
    have htk : ∀ m ∈ ms, tok m.1 := fun m hm => (hpm m hm).1
    have ev1 : (tVw τ).1.1 = tfm τ := rfl
    have ev2 : (tVw τ).1.2.1 = tly τ := rfl
    have ev3 : (tVw τ).1.2.2.1 = tkd τ := rfl
    have ev4 : (tVw τ).1.2.2.2 = tow τ := rfl
    simp only [ev1, ev2, ev3, ev4] at hK
    have h37 : τ2.1 37 = nI ms.length := by rw [c37]; exact rl
    obtain ⟨⟨⟨rk, hO⟩, hnb, hx⟩, hN, -⟩ := id I2
    rw [tw_zo]
    refine t_isVaried (by omega) hO.2.1 hc ?_
    rw [pe2.ly]
    by_cases hvar : ∃ t, t < 6 ∧ ∃ L, tly τ t = some L ∧ s_va L c
    · rw [s_if_p hvar]
      simp only [s_if_p hvar] at hK
      exact ⟨fun h => absurd h (by decide), fun _ => hK τ2 I2 V2⟩
    rw [s_if_n hvar]
    simp only [s_if_n hvar] at hK
    refine ⟨fun _ => ?_, fun h => absurd rfl h⟩
    rw [tw_zo]
    refine t_newNames (by omega) h37 M2 hml htk fun fr hfr => ?_
    rw [tw_zo]
    have hlen : ∀ y, y < 24 → (tfm τ2 y).length ≤ 96 := fun y hy => by
      obtain ⟨s, hs96, hs, -⟩ := hO.1 y hy
      rw [tfm_len hs hs96, List.length_map, List.length_range]
      exact hs96
    refine t_comeTo (by omega) hO.2.1 hO.1.mo hlen hN (fun k hk => ?_) fun S s1 s2 s3 => ?_
    · obtain ⟨m, hm, hq⟩ := (hfr k).mp hk
      rcases hq with ⟨q1, q2⟩ | ⟨q1, q2⟩
      · omega
      · rcases htk m hm with q | q | q | q <;> omega
    rw [b_t1 (by omega), s_ring_iff hO.2.2.1 hO.2.2.2.1 hO.1.mo hc htk hfr s1 s2 s3, pe2.fm, pe2.ly]
    rcases Classical.em (¬ ∃ rk, s_rk (s_up (tfm τ) c ms) (tly τ) rk) with hring | hring
    · simp only [s_if_n hring] at hK
      exact ⟨fun _ => hK τ2 I2 V2, fun h => absurd hring h⟩
    have hring : ∃ rk, s_rk (s_up (tfm τ) c ms) (tly τ) rk := Classical.not_not.mp hring
    simp only [s_if_p hring] at hK
    refine ⟨fun h => absurd hring h, fun _ => ?_⟩
    -- the old marks are kept, the new ones laid
    have cc : (nI c).toNatClampNeg = c := nI_clamp (by omega)
    have ic : vp_in (nI c) 24 := vp_in_nI hc (by decide)
    have hB2 : ∀ n, zB g ≤ m0 + n := fun n => by omega
    have hB3 : ∀ a b, zB g ≤ m0 + a + b := fun a b => by omega
    have z0 : (0 : Int32).toNatClampNeg = 0 := by decide
    have z96 : (96 : Int32).toNatClampNeg = 96 := by decide
    have n0 : ¬ (0 : Int32) < 0 := by decide
    have n96 : ¬ (96 : Int32) < 0 := by decide
    have l96 : 0 + 96 ≤ 96 := by decide
    have fd : ∀ v : UInt64, Jvm.fits .double (.double v) = true := fun _ => rfl
    have fi : ∀ v : Int32, Jvm.fits .int (.int v) = true := fun _ => rfl
    have nb0 : vp_nar .boolean 0 = 0 := by decide
    simp only [tg_sizes, ta_sizes, tu_sizes, tg_marks, ta_marks, tg_figures, ta_figures, tg_oldMarks, ta_oldMarks, tu_oldMarks, tg_oldFigures, ta_oldFigures, tu_oldFigures, tg_newMarks, ta_newMarks, tu_newMarks, tg_newFigures, ta_newFigures, tu_newFigures, tg_newSize, tp_newSize, tb_marks hc, tv_marks hc, tb_figures hc, tv_figures hc, cc, ic, hB2, hB3, z0, z96, n0, n96, l96, fd, fi, h37, not_false_eq_true, implies_true, true_implies, false_implies, implies_true, and_true, true_and, forall_eq, tq1, tq3, tq4, tq5, tq7, tq8, tq9, tqa, tqc, tqd, tqe, tqf, tqg, tqh, tqj, va_s, ne_eq, reduceCtorEq, not_false_eq_true, not_true_eq_false, if_true, if_false, Nat.reduceEqDiff, tw_zo]
    refine ⟨by omega, by omega, ?_⟩
    obtain ⟨τ3, hτ3⟩ : ∃ τ3, τ3 = taI (taD (taI (taD (taI τ2 47 0 (va_cpy (τ2.2.2.1 4 c) (τ2.2.2.1 47 0) 0 0 96)) 48 0 (va_cpy (τ2.2.2.2 5 c) (τ2.2.2.2 48 0) 0 0 96)) 4 c (va_cpy (τ2.2.2.1 35 0) (τ2.2.2.1 4 c) 0 0 96)) 5 c (va_cpy (τ2.2.2.2 36 0) (τ2.2.2.2 5 c) 0 0 96)) 3 0 (va_up (τ2.2.2.1 3 0) c (nI ms.length)) := ⟨_, rfl⟩
    rw [← hτ3]
    have f1 : τ3.1 = τ2.1 := by rw [hτ3]; rfl
    have fI : ∀ k i j, k ≠ 47 → ¬ (k = 4 ∧ i = c) → ¬ (k = 3 ∧ i = 0 ∧ j = c) → τ3.2.2.1 k i j = τ2.2.2.1 k i j := by
      intro k i j a1 a2 a3
      rw [hτ3]
      by_cases k3 : k = 3
      · subst k3
        by_cases hi : i = 0
        · subst hi; rw [tqa, va_o (by omega)]
        · rw [tqb hi, tqg, tqc (by decide), tqg, tqc (by decide)]
      · rw [tqc k3, tqg]
        by_cases k4 : k = 4
        · subst k4; rw [tqb (by omega), tqg, tqc (by decide)]
        · rw [tqc k4, tqg, tqc a1]
    have fD : ∀ k i j, k ≠ 48 → ¬ (k = 5 ∧ i = c) → τ3.2.2.2 k i j = τ2.2.2.2 k i j := by
      intro k i j a1 a2
      rw [hτ3]
      rw [tqd]
      by_cases k5 : k = 5
      · subst k5; rw [tqi (by omega), tqd, tqj (by decide), tqd]
      · rw [tqj k5, tqd, tqj a1, tqd]
    have f3 : τ3.2.2.1 3 0 c = nI ms.length := by rw [hτ3, tqa, va_s]
    have f4 : ∀ j, τ3.2.2.1 4 c j = if j < 96 then τ2.2.2.1 35 0 j else τ2.2.2.1 4 c j := by
      intro j
      rw [hτ3, tqc (by decide), tqg, tqa, s_cpy0]
    have f5 : ∀ j, τ3.2.2.2 5 c j = if j < 96 then τ2.2.2.2 36 0 j else τ2.2.2.2 5 c j := by
      intro j
      rw [hτ3]
      exact (congrFun (tqh (k := 5) (i := c) (f := va_cpy (τ2.2.2.2 36 0) (τ2.2.2.2 5 c) 0 0 96)) j).trans s_cpy0
    have f47 : ∀ j, j < 96 → τ3.2.2.1 47 0 j = τ2.2.2.1 4 c j := by
      intro j hj
      rw [hτ3, tqc (by decide), tqg, tqc (by decide), tqg, tqa, s_cpy0, if_pos hj]
    have f48 : ∀ j, j < 96 → τ3.2.2.2 48 0 j = τ2.2.2.2 5 c j := by
      intro j hj
      rw [hτ3, tqd, tqj (by decide), tqd]
      exact (congrFun (tqh (k := 48) (i := 0) (f := va_cpy (τ2.2.2.2 5 c) (τ2.2.2.2 48 0) 0 0 96)) j).trans (s_cpy0.trans (if_pos hj))
    clear hτ3
    have hmarks : ∀ k, k < ms.length → ∃ m, tok m ∧ τ3.2.2.1 4 c k = nI m := fun k hk => by
      have hm := List.getElem?_eq_getElem hk
      exact ⟨ms[k].1, htk _ (List.getElem_mem hk), by rw [f4 k, if_pos (by omega)]; exact (M2 k _ hm).1⟩
    refine t_tellNames (s := ms.length) (by omega) hB hc hml f3 hmarks fun τ4 n4 N4 => ?_
    have I4 : ∀ k, k ≠ 12 → k ≠ 13 → τ4.2.2.1 k = τ3.2.2.1 k := fun k a1 a2 => n4.k k a1 a2
    have D4 : τ4.2.2.2 = τ3.2.2.2 := n4.2.2.1
    have efm : tfm τ4 c = ms := tfm_rd hc hml hpm M2 (by rw [I4 3 (by decide) (by decide)]; exact f3) (fun j hj => by rw [I4 4 (by decide) (by decide), f4 j, if_pos hj]) (fun j hj => by rw [D4, f5 j, if_pos hj])
    have hring2 : ∃ rk, s_rk (s_up (tfm τ2) c (tfm τ4 c)) (tly τ2) rk := by rw [efm, pe2.fm, pe2.ly]; exact hring
    have hbf : ∀ m ∈ tfm τ4 c, s_B m.2 := by rw [efm]; exact fun m hm => (hpm m hm).2.1
    have hht4 : ms.length ≠ 0 → s_ht (tfm τ4 c) 0 = some 1 := by rw [efm]; exact fun _ => hht
    have hmk4 : ∀ k, k < ms.length → ∃ m, tok m ∧ τ4.2.2.1 4 c k = nI m := by rw [I4 4 (by decide) (by decide)]; exact hmarks
    have h34 : τ4.2.2.1 3 0 c = nI ms.length := by rw [I4 3 (by decide) (by decide)]; exact f3
    obtain ⟨rk4, O4, fm4, ly4⟩ := tOK_fm (τm := τ4) hO hc (fun k i j a1 a2 a3 => by rw [I4 k (by omega) (by omega)]; exact fI k i j (by omega) a3 a2) (fun k i j a1 a2 => by rw [D4]; exact fD k i j (by omega) a2) hml h34 hmk4 hht4 hbf hring2
    have fmy : ∀ y, y ≠ c → tfm τ4 y = tfm τ2 y := fun y hy => by rw [fm4, s_up_o hy]
    have Nm4 : tNm τ4 := tNm_c hN n4 fmy (fun y hy => fI 12 0 y (by decide) (by omega) (by omega)) (fun y hy => funext fun j => fI 13 y j (by decide) (by omega) (by omega)) N4
    have fm4' : tfm τ4 = s_up (tfm τ) c ms := by rw [fm4, efm, pe2.fm]
    have ly4' : tly τ4 = tly τ := by rw [ly4, pe2.ly]
    rw [tw_zo]
    refine t_isTooMuch (by omega) hB O4 Nm4 fun τ5 x5 => ?_
    rw [fm4', ly4']
    have I5 : ∀ k, k ≠ 16 → k ≠ 17 → τ5.2.2.1 k = τ4.2.2.1 k := fun k a1 a2 => x5.2.2.2 k a1 a2
    have D5 : τ5.2.2.2 = τ3.2.2.2 := by rw [x5.2.2.1, D4]
    have s5 : τ5.1 = τ2.1 := by rw [x5.1, n4.1, f1]
    by_cases htm : s_tm (s_up (tfm τ) c ms) (tly τ)
    · rw [s_if_p htm]
      simp only [s_if_p htm] at hK
      refine ⟨fun h => absurd h (by decide), fun _ => ?_⟩
      simp only [tg_sizes, ta_sizes, tu_sizes, tg_marks, ta_marks, tg_figures, ta_figures, tg_oldMarks, ta_oldMarks, tu_oldMarks, tg_oldFigures, ta_oldFigures, tu_oldFigures, tb_marks hc, tv_marks hc, tb_figures hc, tv_figures hc, cc, ic, hB2, hB3, z0, z96, n0, n96, l96, fd, fi, not_false_eq_true, implies_true, true_implies, false_implies, implies_true, and_true, true_and, forall_eq, tq1, tq3, tq4, tq5, tq7, tq8, tq9, tqa, tqc, tqd, tqe, tqf, tqg, tqh, tqj, va_s, ne_eq, reduceCtorEq, not_false_eq_true, not_true_eq_false, if_true, if_false, Nat.reduceEqDiff, tw_zo]
      refine ⟨by omega, by omega, ?_⟩
      obtain ⟨τ6, hτ6⟩ : ∃ τ6, τ6 = taD (taI (taI τ5 3 0 (va_up (τ5.2.2.1 3 0) c (τ2.2.2.1 3 0 c))) 4 c (va_cpy (τ5.2.2.1 47 0) (τ5.2.2.1 4 c) 0 0 96)) 5 c (va_cpy (τ5.2.2.2 48 0) (τ5.2.2.2 5 c) 0 0 96) := ⟨_, rfl⟩
      rw [← hτ6]
      have i6 : ∀ k, k < 12 ∨ k = 33 ∨ 58 ≤ k → τ6.2.2.1 k = τ2.2.2.1 k := by
        intro k hk
        funext i j
        rw [hτ6, tqg]
        by_cases k4 : k = 4
        · subst k4
          by_cases hi : i = c
          · subst hi
            rw [tqa, s_cpy0, I5 47 (by decide) (by decide), I4 47 (by decide) (by decide), I5 4 (by decide) (by decide), I4 4 (by decide) (by decide)]
            by_cases hj : j < 96
            · rw [if_pos hj, f47 j hj]
            · rw [if_neg hj, f4 j, if_neg hj]
          · rw [tqb hi, tqc (by decide), I5 4 (by decide) (by decide), I4 4 (by decide) (by decide)]
            exact fI 4 i j (by decide) (by omega) (by omega)
        · rw [tqc k4]
          by_cases k3 : k = 3
          · subst k3
            by_cases hi : i = 0
            · subst hi
              rw [tqa]
              by_cases hj : j = c
              · subst hj; rw [va_s]
              · rw [va_o hj, I5 3 (by decide) (by decide), I4 3 (by decide) (by decide)]
                exact fI 3 0 j (by decide) (by omega) (by omega)
            · rw [tqb hi, I5 3 (by decide) (by decide), I4 3 (by decide) (by decide)]
              exact fI 3 i j (by decide) (by omega) (by omega)
          · rw [tqc k3, I5 k (by omega) (by omega), I4 k (by omega) (by omega)]
            exact fI k i j (by omega) (by omega) (by omega)
      have d6 : ∀ k, k < 12 ∨ 58 ≤ k → τ6.2.2.2 k = τ2.2.2.2 k := by
        intro k hk
        funext i j
        rw [hτ6]
        by_cases k5 : k = 5
        · subst k5
          by_cases hi : i = c
          · subst hi
            rw [tqh, s_cpy0, D5]
            by_cases hj : j < 96
            · rw [if_pos hj, f48 j hj]
            · rw [if_neg hj, f5 j, if_neg hj]
          · rw [tqi hi]
            show τ5.2.2.2 5 i j = _
            rw [D5]
            exact fD 5 i j (by decide) (by omega)
        · rw [tqj k5]
          show τ5.2.2.2 k i j = _
          rw [D5]
          exact fD k i j (by omega) (by omega)
      have nm6 : ∀ k, k = 12 ∨ k = 13 → τ6.2.2.1 k = τ4.2.2.1 k := by
        intro k hk
        rw [hτ6, tqg]
        rw [tqc (by omega), tqc (by omega), I5 k (by omega) (by omega)]
      have s6 : τ6.1 = τ2.1 := by rw [hτ6]; exact s5
      clear hτ6
      have p6 : tp12 τ2 τ6 := ⟨fun k hk => i6 k (Or.inl hk), fun k hk => d6 k (Or.inl hk)⟩
      obtain ⟨s, hs96, hs, hsm, -⟩ := hO.1 c hc
      refine t_tellNames (s := s) (by omega) hB hc hs96 (by rw [i6 3 (by omega)]; exact hs) (by rw [i6 4 (by omega)]; exact hsm) fun τ7 n7 N7 => ?_
      have I7 : ∀ k, k ≠ 12 → k ≠ 13 → τ7.2.2.1 k = τ6.2.2.1 k := fun k a1 a2 => n7.k k a1 a2
      have p7 : tp12 τ2 τ7 := ⟨fun k hk => (I7 k (by omega) (by omega)).trans (p6.1 k hk), fun k hk => by rw [n7.2.2.1]; exact p6.2 k hk⟩
      have Nm7 : tNm τ7 := tNm_c hN n7 (fun y _ => by rw [p7.fm]) (fun y hy => by rw [nm6 12 (Or.inl rfl), n4.2.2.2 12 0 y (by omega) (by omega)]; exact fI 12 0 y (by decide) (by omega) (by omega)) (fun y hy => funext fun j => by rw [nm6 13 (Or.inr rfl), n4.2.2.2 13 y j (by omega) (by omega)]; exact fI 13 y j (by decide) (by omega) (by omega)) N7
      obtain ⟨J1, J2⟩ := tINV_st (τm := τ7) (S' := tst τ2) I2 (tSh.p12 p7 I2.1) p7.st Nm7 (by rw [n7.1, s6]) (by rw [n7.1, s6]) (fun k hk => (I7 k (by omega) (by omega)).trans (i6 k (by omega))) (fun k hk => by rw [n7.2.2.1]; exact d6 k (by omega))
      exact hK τ7 J1 (J2.trans V2)
    · rw [s_if_n htm]
      simp only [s_if_n htm] at hK
      refine ⟨fun _ => ?_, fun h => absurd rfl h⟩
      simp only [tg_given, ta_given, tu_given, tg_numbers, ta_numbers, tu_numbers, cc, ic, hB2, nb0, true_implies, false_implies, implies_true, and_true, true_and, forall_eq, tq1, tq3, tq4, tq5, tq7, tq8, tq9, tqa, tqc, tqd, tqe, tqf, tqg, tqh, tqj, va_s, ne_eq, reduceCtorEq, not_false_eq_true, not_true_eq_false, if_true, if_false, Nat.reduceEqDiff]
      obtain ⟨τ6, hτ6⟩ : ∃ τ6, τ6 = taD (taI τ5 1 0 (va_up (τ5.2.2.1 1 0) c 0)) 2 0 (va_up (τ5.2.2.2 2 0) c FP.dconst0) := ⟨_, rfl⟩
      rw [← hτ6]
      have i6 : ∀ k i j, ¬ (k = 1 ∧ i = 0 ∧ j = c) → τ6.2.2.1 k i j = τ5.2.2.1 k i j := by
        intro k i j a1
        rw [hτ6]
        exact tai_o a1
      have d6 : ∀ k i j, ¬ (k = 2 ∧ i = 0 ∧ j = c) → τ6.2.2.2 k i j = τ5.2.2.2 k i j := by
        intro k i j a1
        rw [hτ6]
        exact tad_o (τ := taI τ5 1 0 (va_up (τ5.2.2.1 1 0) c 0)) a1
      have g1 : τ6.2.2.1 1 0 c = 0 := by rw [hτ6, tqg]; exact tai_s
      have g2 : τ6.2.2.2 2 0 c = 0 := by rw [hτ6]; exact tad_s
      have s6 : τ6.1 = τ2.1 := by rw [hτ6]; exact s5
      clear hτ6
      have i65 : ∀ k, k ≠ 1 → τ6.2.2.1 k = τ5.2.2.1 k := fun k hk => funext fun i => funext fun j => i6 k i j (by omega)
      have d65 : ∀ k, k ≠ 2 → τ6.2.2.2 k = τ5.2.2.2 k := fun k hk => funext fun i => funext fun j => d6 k i j (by omega)
      have fmx : ∀ y, tfm τ6 y = tfm τ4 y := by
        intro y
        unfold tfm
        rw [i65 3 (by decide), I5 3 (by decide) (by decide)]
        congr 1
        funext k
        unfold tmk
        rw [i65 4 (by decide), I5 4 (by decide) (by decide), d65 5 (by decide), D5, ← D4]
      have efm6 : tfm τ6 c = ms := (fmx c).trans efm
      obtain ⟨S6, T6⟩ := tSh_fm (τm := τ6) (n := ms.length) I2.1 hc
        (fun k i j a1 a2 a3 a4 => by rw [i6 k i j a4, I5 k (by omega) (by omega), I4 k (by omega) (by omega)]; exact fI k i j (by omega) a3 a2)
        (fun k i j a1 a2 a3 => by rw [d6 k i j a3, D5]; exact fD k i j (by omega) a2)
        g1 g2 hml (by rw [i65 3 (by decide), I5 3 (by decide) (by decide)]; exact h34) (by rw [i65 4 (by decide), I5 4 (by decide) (by decide)]; exact hmk4) (by rw [efm6]; exact fun _ => hht) (by rw [efm6]; exact fun m hm => (hpm m hm).2.1)
        (by rw [efm6, pe2.fm, pe2.ly]; exact hring) (by rw [efm6, pe2.fm, pe2.ly]; exact htm) (fun _ t ht L hL hv => hvar ⟨t, ht, L, by rw [← pe2.ly]; exact hL, hv⟩)
      have Nm6 : tNm τ6 := by
        intro y hy
        obtain ⟨w1, w2⟩ := Nm4 y hy
        unfold tNc
        rw [i65 12 (by decide), I5 12 (by decide) (by decide), i65 13 (by decide), I5 13 (by decide) (by decide), fmx y]
        exact ⟨w1, w2⟩
      obtain ⟨J1, J2⟩ := tINV_st (τm := τ6) I2 S6 T6 Nm6 (by rw [s6]) (by rw [s6]) (fun k hk => by rw [i65 k (by omega), I5 k (by omega) (by omega), I4 k (by omega) (by omega)]; exact funext fun i => funext fun j => fI k i j (by omega) (by omega) (by omega)) (fun k hk => by rw [d65 k (by omega), D5]; exact funext fun i => funext fun j => fD k i j (by omega) (by omega))
      refine hK τ6 J1 (J2.trans ?_)
      rw [V2, efm6, pe2.fm, pe2.ly, pe2.kd, pe2.ow]
      rfl
end PH
