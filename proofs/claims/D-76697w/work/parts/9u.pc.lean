set_option maxRecDepth 100000
/-! THE REFERENCE's reader: all, parts -/
section PC
variable {l : Launch} {g : zG} {d m0 : Nat} {τ τ' τm τ1 τ2 : tS} {hp : zHp} {nx : Nat} {t : List Nat} {st : pS} {ms : List sM}
theorem p_cm_3 {m : Nat} (h : p_cm st = some m) : 206 ≤ m ∧ m ≤ 207 ∧ st.2.2.1.1 = 3 := by
  unfold p_cm at h
  split at h
  · next p => cases h; exact ⟨by omega, by omega, p_is_3 p⟩
  · split at h
    · next p => cases h; exact ⟨by omega, by omega, p_is_3 p⟩
    · cases h
set_option maxHeartbeats 1000000 in
theorem t_all_ok {n : Nat} {K : zHp → Nat → Prop} (ht : t.length ≤ 96) (hB : zB g ≤ m0) (hs : zStrs g m0 hp) (ih : ∀ k, k ≤ n → tPa l g m0 hp nx t k) (hm : p_ms t 5 st ≤ n + 1) (hd : n + 1 + 20 ≤ d) (h : tM τ t st ms) (hT : tTt τ t) (hK : ∀ τ', tps τ τ' → tOu τ' t (p_P t (n + 1) 5 st) ms → K (tput g m0 τ' hp) nx) : zMt l g yX5_all cX5_all 2 none d 0 0 [.ref m0] (tput g m0 τ hp) nx (zQv g K) := by
  obtain ⟨d, rfl⟩ := Nat.exists_eq_add_of_le' (show 1 ≤ d by omega)
  apply met_X5_all
  unfold wp_X5_all
  have hb := h.1.2.1
  have hm' : 8 * (t.length + 1 - st.2.1) + 4 ≤ n + 1 := hm
  rw [p_P_5] at hK
  unfold p_all at hK
  rw [tw_zo]
  refine ih n (Nat.le_refl _) 3 st ms τ d _ (by omega) (by show 8 * (t.length + 1 - st.2.1) + 3 ≤ n; omega) (by omega) h hT fun τ1 x1 o1 => ?_
  rw [tw_zo]
  cases hr : p_P t n 3 st with
  | inl b =>
    rw [hr] at o1 hK
    have o1 : tWr τ1 b := o1
    refine t_isSign_w (by omega) o1 ?_
    refine ⟨fun _ _ => False, fun _ _ h => h.elim, fun _ => ?_, fun h => absurd rfl h⟩
    rw [tw_zo]
    exact t_isSign_w (by omega) o1 ⟨fun _ => hK τ1 x1 o1, fun h => absurd rfl h⟩
  | inr q =>
    rw [hr] at o1 hK
    have M1 : tM τ1 t q.1 (ms ++ q.2) := o1
    have gd := p_good ht n 3 st q h.1 (Or.inl (by omega)) hr
    have gd3 := gd.2.2.1
    rw [if_neg (by omega)] at gd3
    have hK : ∀ τ', tps τ τ' → tOu τ' t (match p_cm q.1 with | none => .inr q | some m => p_bd (p_nx t q.1) fun s => p_bd (p_P t n 3 s) fun q2 => .inr (q2.1, q.2 ++ (q2.2 ++ [(m, 0)]))) ms → K (tput g m0 τ' hp) nx := hK
    have T1 := hT.ps x1
    have main : ∀ mk, p_cm q.1 = some mk → zMt l g yX5_next cX5_next 1 none d 0 0 [.ref m0] (tput g m0 τ1 hp) nx (zQv g fun hp_14 nx_15 => (zo hp_14 (some m0) [5] fun a_29 ci_30 fs_31 => zMt l g yX5_sum cX5_sum 2 none d 0 0 (.ref a_29 :: []) hp_14 nx_15 (zQv g fun hp_16 nx_17 => (zo hp_16 (some m0) [5] fun a_26 ci_27 fs_28 => zMt l g yX5_mark cX5_mark 2 none d 0 0 (.ref a_26 :: [.int (nI mk)]) hp_16 nx_17 (zQv g fun hp_18 nx_19 => K hp_18 nx_19))))) := by
      intro mk hmk
      rw [hmk] at hK
      simp only at hK
      obtain ⟨m1, m2, m3⟩ := p_cm_3 hmk
      refine t_nextS (by omega) hB hs T1 M1 (by omega) fun τ3 x3 o3 => ?_
      rw [tw_zo]
      cases hn : p_nx t q.1 with
      | inl b =>
        rw [hn] at o3 hK
        refine t_sum_w (by omega) o3 ?_
        rw [tw_zo]
        exact t_mark_w (by omega) o3 (hK τ3 (x1.tr x3) o3)
      | inr s3 =>
        rw [hn] at o3 hK
        have M3 : tM τ3 t s3 (ms ++ q.2) := o3
        obtain ⟨n1, n2, n3⟩ := p_nx_wf M1.1 (by omega) hn
        refine ih n (Nat.le_refl _) 3 s3 (ms ++ q.2) τ3 d _ (by omega) (by show 8 * (t.length + 1 - s3.2.1) + 3 ≤ n; omega) (by omega) M3 (hT.ps (x1.tr x3)) fun τ4 x4 o4 => ?_
        rw [tw_zo]
        have x14 := x1.tr (x3.tr x4)
        cases hr2 : p_P t n 3 s3 with
        | inl b =>
          rw [hr2] at o4
          have o4 : tWr τ4 b := o4
          refine t_mark_w (by omega) o4 (hK τ4 x14 ?_)
          show tOu τ4 t (p_bd (p_P t n 3 s3) _) ms
          rw [hr2]
          exact o4
        | inr q2 =>
          rw [hr2] at o4
          have M4 : tM τ4 t q2.1 ((ms ++ q.2) ++ q2.2) := o4
          have ge := p_good ht n 3 s3 q2 n1 (Or.inl (by omega)) hr2
          have ge4 := ge.2.2.2.1
          refine t_mark (by omega) hB M4 ht (fun h5 => ?_) (Or.inr (Or.inr (Or.inl ⟨by omega, by omega⟩))) (by omega) fun τ5 x5 M5 => hK τ5 (x14.tr x5) ?_
          · have hsy : (ms ++ q.2).length ≤ q.1.2.1 := (M1.sy (by omega)).2.2.2.2.2.1
            rw [List.length_append]
            omega
          · show tOu τ5 t (p_bd (p_P t n 3 s3) _) ms
            rw [hr2]
            show tM τ5 t q2.1 (ms ++ (q.2 ++ (q2.2 ++ [(mk, 0)])))
            have e : ms ++ (q.2 ++ (q2.2 ++ [(mk, 0)])) = ((ms ++ q.2) ++ q2.2) ++ [(mk, 0)] := by simp
            rw [e]
            exact M5
    have sg : ∀ (c : Nat) (K2 : Int32 → zHp → Nat → Prop), c < 1000 → K2 (if p_is q.1 c = true then 1 else 0) (tput g m0 τ1 hp) nx → zMt l g yX5_isSign cX5_isSign 2 (some .boolean) d 0 0 [.ref m0, .int (nI c)] (tput g m0 τ1 hp) nx (zQi g K2) := fun c K2 hc hK2 => t_isSign (by omega) hc M1 hK2
    have done : p_cm q.1 = none → K (tput g m0 τ1 hp) nx := fun hn => hK τ1 x1 (by rw [hn]; exact M1)
    unfold p_cm at main done
    refine sg 60 _ (by decide) ?_
    obtain ⟨P, hP⟩ : ∃ P : zHp → Nat → Prop, P = fun h n' => h = tput g m0 τ1 hp ∧ nx = n' ∧ (p_is q.1 60 = true ∨ p_is q.1 61 = true) := ⟨_, rfl⟩
    refine ⟨P, ?_, ?_⟩
    · intro h n' hh
      rw [hP] at hh
      obtain ⟨rfl, rfl, hq⟩ := hh
      rw [tw_zo]
      refine sg 60 _ (by decide) ?_
      refine ⟨_, fun _ _ _ h => h, ?_⟩
      by_cases q1 : p_is q.1 60 = true
      · rw [if_pos q1] at main ⊢
        refine ⟨fun h => absurd h (by decide), fun _ => ?_⟩
        rw [tw_zo]
        exact main 206 rfl
      · rw [if_neg q1] at main ⊢
        refine ⟨fun _ => ?_, fun h => absurd rfl h⟩
        have q3 : p_is q.1 61 = true := hq.resolve_left q1
        rw [if_pos q3] at main
        rw [tw_zo]
        exact main 207 rfl
    · by_cases q1 : p_is q.1 60 = true
      · rw [if_pos q1]
        exact ⟨fun h => absurd h (by decide), fun _ => by rw [hP]; exact ⟨rfl, rfl, Or.inl q1⟩⟩
      · rw [if_neg q1] at done ⊢
        refine ⟨fun _ => ?_, fun h => absurd rfl h⟩
        rw [tw_zo]
        refine sg 61 _ (by decide) ?_
        by_cases q3 : p_is q.1 61 = true
        · rw [if_pos q3]
          exact ⟨fun h => absurd h (by decide), fun _ => by rw [hP]; exact ⟨rfl, rfl, Or.inr q3⟩⟩
        · rw [if_neg q3] at done ⊢
          exact ⟨fun _ => done rfl, fun h => absurd rfl h⟩
/-- what is left to read of m parts, k of them read -/
def p_rem (t : List Nat) (m k j : Nat) (s : pS) : pQ := if k = 0 then p_P t j (20 + m) s else if k = m then .inr (s, []) else if p_is s 44 = true then p_bd (p_nx t s) fun s' => p_P t j (20 + (m - k)) s' else .inl s.2.1
theorem p_P_l {n m : Nat} : p_P t (n + 1) (20 + m) st = p_lst (p_P t n) t m st := by
  show (if 20 + m = 0 then _ else _) = _
  rw [if_neg (by omega), if_neg (by omega), if_neg (by omega), if_neg (by omega), if_neg (by omega), if_neg (by omega), if_neg (by omega), show 20 + m - 20 = m by omega]
theorem p_P_p {n m : Nat} (h1 : 1 ≤ m) (h2 : m ≤ 3) : p_P t (n + 1) (10 + m) st = p_prt (p_P t n) t m st := by
  show (if 10 + m = 0 then _ else _) = _
  rw [if_neg (by omega), if_neg (by omega), if_neg (by omega), if_neg (by omega), if_neg (by omega), if_neg (by omega), if_pos (by omega), show 10 + m - 10 = m by omega]
/-- one part more -/
theorem p_rem_s {m k j : Nat} {s : pS} {q : pS × List sM} (hk : k < m) (hr : p_P t j 5 s = .inr q) : (p_P t (j + 1) (20 + (m - k)) s) = p_bd (p_rem t m (k + 1) j q.1) fun q2 => .inr (q2.1, q.2 ++ q2.2) := by
  rw [p_P_l]
  unfold p_lst p_rem
  rw [hr]
  show (if m - k = 1 then _ else _) = _
  rw [if_neg (show ¬ k + 1 = 0 by omega)]
  by_cases e1 : m - k = 1
  · rw [if_pos e1, if_pos (show k + 1 = m by omega)]
    show Sum.inr q = Sum.inr (q.1, q.2 ++ [])
    rw [List.append_nil]
  · rw [if_neg e1, if_neg (show ¬ k + 1 = m by omega), show m - (k + 1) = m - k - 1 by omega]
    by_cases e2 : p_is q.1 44 = true
    · rw [if_pos e2, if_pos e2]
      cases p_nx t q.1 with
      | inl b => rfl
      | inr s' => rfl
    · rw [if_neg e2, if_neg e2]
      rfl
theorem p_rem_f {m k j b : Nat} {s : pS} (hr : p_P t j 5 s = .inl b) : p_P t (j + 1) (20 + (m - k)) s = .inl b := by
  rw [p_P_l]
  unfold p_lst
  rw [hr]
  rfl
set_option maxHeartbeats 1000000 in
theorem t_parts_ok {n m : Nat} {K : zHp → Nat → Prop} (hm1 : 1 ≤ m) (hm2 : m ≤ 3) (ht : t.length ≤ 96) (hB : zB g ≤ m0) (hs : zStrs g m0 hp) (ih : ∀ k, k ≤ n → tPa l g m0 hp nx t k) (hm : 8 * (t.length + 1 - st.2.1) ≤ n + 1) (hd : n + 1 + 20 ≤ d) (h : tM τ t st ms) (hT : tTt τ t) (hK : ∀ τ', tps τ τ' → tOu τ' t (p_prt (p_P t n) t m st) ms → K (tput g m0 τ' hp) nx) : zMt l g yX5_parts cX5_parts 3 none d 0 0 [.ref m0, .int (nI m)] (tput g m0 τ hp) nx (zQv g K) := by
  unfold p_prt at hK
  by_cases h5 : st.2.2.1.1 = 5
  · rw [if_neg (by rw [p_is_5 h5]; decide)] at hK
    exact t_parts_w (by omega) hB (h.wr h5) hK
  obtain ⟨d, rfl⟩ := Nat.exists_eq_add_of_le' (show 1 ≤ d by omega)
  apply met_X5_parts
  unfold wp_X5_parts
  have hb := h.1.2.1
  rw [tw_zo]
  refine t_isSign (c := 40) (by omega) (by decide) h ?_
  by_cases ko : p_is st 40 = true
  · rw [if_pos ko] at hK ⊢
    refine ⟨fun h => absurd h (by decide), fun _ => ?_⟩
    rw [tw_zo]
    refine t_opens (by omega) hB hs hT h h5 fun τ1 x1 o1 => ?_
    by_cases o4 : st.2.2.2.1 = 4
    · rw [if_pos o4]
      refine ⟨fun _ => ?_, fun h => absurd rfl h⟩
      have hop : p_op t st = .inl st.2.1 := by unfold p_op; rw [if_pos o4]
      rw [hop] at o1 hK
      exact hK τ1 x1 o1
    · rw [if_neg o4]
      refine ⟨fun h => absurd h (by decide), fun _ => ?_⟩
      obtain ⟨RL, hRL⟩ : ∃ RL : pQ, RL = p_bd (p_op t st) (fun s => p_P t n (20 + m) s) := ⟨_, rfl⟩
      have hKL : ∀ τ', tps τ τ' → tOu τ' t (p_bd RL fun q => if p_is q.1 41 = true then p_bd (p_nx t (p_wo q.1 (q.1.2.2.2.1 - 1) q.1.2.2.2.2)) fun s2 => .inr (s2, q.2) else .inl q.1.2.1) ms → K (tput g m0 τ' hp) nx := by
        rw [hRL]
        cases hop : p_op t st with
        | inl b => rw [hop] at hK; exact hK
        | inr s => rw [hop] at hK; exact hK
      obtain ⟨I, hI⟩ : ∃ I : Nat → Int32 → zHp → Nat → Prop, I = fun w x h n' => ∃ k τ2, w = m - k ∧ x = nI k ∧ k ≤ m ∧ h = tput g m0 τ2 hp ∧ nx = n' ∧ tps τ τ2 ∧ ((∃ b, tWr τ2 b ∧ RL = .inl b) ∨ (∃ j s2 ms2 a, tM τ2 t s2 ms2 ∧ ms2 = ms ++ a ∧ 8 * (t.length + 1 - s2.2.1) + 5 ≤ j ∧ j ≤ n ∧ RL = p_bd (p_rem t m k j s2) fun q2 => .inr (q2.1, a ++ q2.2))) := ⟨_, rfl⟩
      refine ⟨I, ?_, ?_⟩
      · refine ⟨m, ?_⟩
        rw [hI]
        refine ⟨0, τ1, rfl, rfl, by omega, rfl, rfl, x1, ?_⟩
        cases hop : p_op t st with
        | inl b =>
          rw [hop] at o1 hRL
          exact Or.inl ⟨b, o1, hRL⟩
        | inr s =>
          rw [hop] at o1 hRL
          have M1 : tM τ1 t s ms := o1
          obtain ⟨r1, r2, r3, r4, r5⟩ := p_op_wf h.1 (by rw [p_is_3 ko]; decide) hop
          refine Or.inr ⟨n, s, ms, [], M1, by simp, by omega, Nat.le_refl _, ?_⟩
          rw [hRL]
          show p_P t n (20 + m) s = p_bd (p_P t n (20 + m) s) _
          cases p_P t n (20 + m) s with
          | inl b => rfl
          | inr q => rfl
      · intro w x h2 n2 hi
        rw [hI] at hi
        obtain ⟨k, τ2, rfl, rfl, hk, rfl, rfl, x2, hi⟩ := hi
        have T2 := hT.ps x2
        refine pk_le m k (fun hge => ?_) (fun hlt => ?_)
        · have hkm : k = m := by omega
          subst hkm
          rw [tw_zo]
          rcases hi with ⟨b, w1, w2⟩ | ⟨j, s2, ms2, a, M2, e2, p2, p3, hRL2⟩
          · refine t_isSign_w (by omega) w1 ⟨fun _ => ?_, fun h => absurd rfl h⟩
            simp only [tg_isWrong, tp_isWrong, hB, true_and]
            rw [w2] at hKL
            exact hKL _ (x2.sI (by omega)) w1.s
          · have hRL3 : RL = .inr (s2, a) := by
              rw [hRL2]
              unfold p_rem
              rw [if_neg (by omega), if_pos rfl]
              show Sum.inr (s2, a ++ []) = _
              rw [List.append_nil]
            rw [hRL3] at hKL
            clear hK
            have hK : ∀ τ', tps τ τ' → tOu τ' t (if p_is s2 41 = true then p_bd (p_nx t (p_wo s2 (s2.2.2.2.1 - 1) s2.2.2.2.2)) fun s3 => .inr (s3, a) else .inl s2.2.1) ms → K (tput g m0 τ' hp) nx := hKL
            refine t_isSign (c := 41) (by omega) (by decide) M2 ?_
            by_cases kc : p_is s2 41 = true
            · rw [if_pos kc] at hK ⊢
              refine ⟨fun h => absurd h (by decide), fun _ => ?_⟩
              have hn5 : s2.2.2.1.1 ≠ 5 := by rw [p_is_3 kc]; decide
              obtain ⟨⟨k1, k2, k3, k4, k5, k6⟩, q1, q2, q3, q4, q5, q6⟩ := M2.sy hn5
              have at2 := M2.1.at
              have w24 := M2.1.2.2.1
              -- the number that are open is at least one
              have hop1 : 1 ≤ s2.2.2.2.1 := by
                cases hop : p_op t st with
                | inl b => rw [hop] at hRL; rw [hRL] at hRL3; cases hRL3
                | inr s =>
                  rw [hop] at hRL
                  obtain ⟨r1, r2, r3, r4, r5⟩ := p_op_wf h.1 (by rw [p_is_3 ko]; decide) hop
                  have hh : p_P t n (20 + k) s = .inr (s2, a) := by rw [← hRL3, hRL]; rfl
                  have gd := p_good ht n (20 + k) s (s2, a) r1 (Or.inr (Or.inr ⟨by omega, by omega⟩)) hh
                  have := gd.2.1
                  have e : s2.2.2.2.1 = s.2.2.2.1 := this
                  omega
              simp only [tg_opened, tp_opened, hB, true_and, q1]
              have eo : nI s2.2.2.2.1 - (1 : Int32) = nI (s2.2.2.2.1 - 1) := pk_sub hop1
              rw [eo, tw_zo]
              have x3 : tps τ2 (tsI τ2 45 (nI (s2.2.2.2.1 - 1))) := tps.rf.sI (by omega)
              refine t_nextM (st := p_wo s2 (s2.2.2.2.1 - 1) s2.2.2.2.2) (ms := ms2) (by omega) hB hs (T2.ps x3) (by rw [tq2 (by decide)]; exact k1) at2.2.1 (by show s2.2.2.2.1 - 1 ≤ 4; omega) (Nat.le_trans M2.1.2.2.2 at2.1) (by rw [tq2 (by decide)]; exact k3) tq1 (by rw [tq2 (by decide)]; exact q2) (by rw [tq2 (by decide)]; exact q3) q4 (Nat.le_trans q5 at2.1) q6 fun τ4 x4 o4 => ?_
              refine hK τ4 (x2.tr (x3.tr x4)) ?_
              cases hn : p_nx t (p_wo s2 (s2.2.2.2.1 - 1) s2.2.2.2.2) with
              | inl b => rw [hn] at o4; exact o4
              | inr s4 =>
                rw [hn] at o4
                show tM τ4 t s4 (ms ++ a)
                rw [← e2]
                exact o4
            · rw [if_neg kc] at hK ⊢
              refine ⟨fun _ => ?_, fun h => absurd rfl h⟩
              simp only [tg_isWrong, tp_isWrong, hB, true_and]
              exact hK _ (x2.sI (by omega)) M2.bad
        · obtain ⟨P, hP⟩ : ∃ P : Int32 → zHp → Nat → Prop, P = fun x h n' => x = nI k ∧ nx = n' ∧ ∃ τ3, h = tput g m0 τ3 hp ∧ tps τ τ3 ∧ ((∃ b, tWr τ3 b ∧ RL = .inl b) ∨ (∃ j s2 ms2 a, tM τ3 t s2 ms2 ∧ ms2 = ms ++ a ∧ 8 * (t.length + 1 - s2.2.1) + 5 ≤ j ∧ j ≤ n ∧ RL = p_bd (p_P t j (20 + (m - k)) s2) fun q2 => .inr (q2.1, a ++ q2.2))) := ⟨_, rfl⟩
          refine ⟨P, ?_, ?_⟩
          · intro x' h' n' hh
            rw [hP] at hh
            obtain ⟨rfl, rfl, τ3, rfl, x3, hi3⟩ := hh
            have T3 := hT.ps x3
            rw [tw_zo]
            rcases hi3 with ⟨b, w1, w2⟩ | ⟨j, s2, ms2, a, M3, e2, p2, p3, hRL2⟩
            · refine t_all_w (by omega) w1 ?_
              intro z hz
              subst hz
              refine ⟨m - (k + 1), by omega, ?_⟩
              rw [hI]
              exact ⟨k + 1, τ3, rfl, nI_1 k, by omega, rfl, rfl, x3, Or.inl ⟨b, w1, w2⟩⟩
            · obtain ⟨j, rfl⟩ : ∃ j', j = j' + 1 := ⟨j - 1, by omega⟩
              have hb3 := M3.1.2.1
              refine ih j (by omega) 5 s2 ms2 τ3 d _ (by omega) (by show 8 * (t.length + 1 - s2.2.1) + 4 ≤ j; omega) (by omega) M3 T3 fun τ4 x4 o4 => ?_
              intro z hz
              subst hz
              refine ⟨m - (k + 1), by omega, ?_⟩
              rw [hI]
              refine ⟨k + 1, τ4, rfl, nI_1 k, by omega, rfl, rfl, x3.tr x4, ?_⟩
              cases hr : p_P t j 5 s2 with
              | inl b =>
                rw [hr] at o4
                rw [p_rem_f hr] at hRL2
                exact Or.inl ⟨b, o4, hRL2⟩
              | inr q =>
                rw [hr] at o4
                have M4 : tM τ4 t q.1 (ms2 ++ q.2) := o4
                have gd := p_good ht j 5 s2 q M3.1 (Or.inl (by omega)) hr
                have gd3 := gd.2.2.1
                rw [if_neg (by omega)] at gd3
                rw [p_rem_s hlt hr] at hRL2
                refine Or.inr ⟨j, q.1, ms2 ++ q.2, a ++ q.2, M4, by rw [e2, List.append_assoc], by omega, by omega, ?_⟩
                rw [hRL2]
                cases p_rem t m (k + 1) j q.1 with
                | inl b => rfl
                | inr q2 =>
                  show Sum.inr (q2.1, a ++ (q.2 ++ q2.2)) = Sum.inr (q2.1, (a ++ q.2) ++ q2.2)
                  rw [List.append_assoc]
          · have e0 : (0 : Int32) = nI 0 := rfl
            rw [e0]
            refine pk_le k 0 (fun hk0 => ?_) (fun hk0 => ?_)
            · rw [hP]
              refine ⟨rfl, rfl, τ2, rfl, x2, ?_⟩
              rcases hi with hi | ⟨j, s2, ms2, a, M2, e2, p2, p3, hRL2⟩
              · exact Or.inl hi
              · refine Or.inr ⟨j, s2, ms2, a, M2, e2, p2, p3, ?_⟩
                rw [hRL2]
                have : k = 0 := by omega
                subst this
                rfl
            · rw [tw_zo]
              rcases hi with ⟨b, w1, w2⟩ | ⟨j, s2, ms2, a, M2, e2, p2, p3, hRL2⟩
              · refine t_need_w (by omega) hB w1 fun τ3 x3 w3 => ?_
                rw [hP]
                exact ⟨rfl, rfl, τ3, rfl, x2.tr x3, Or.inl ⟨b, w3, w2⟩⟩
              · have hb2 := M2.1.2.1
                refine t_need (c := 44) (by omega) hB hs T2 (by decide) M2 fun τ3 x3 o3 => ?_
                rw [hP]
                refine ⟨rfl, rfl, τ3, rfl, x2.tr x3, ?_⟩
                unfold p_rem at hRL2
                rw [if_neg (by omega), if_neg (by omega)] at hRL2
                by_cases kc : p_is s2 44 = true
                · rw [if_pos kc] at o3 hRL2
                  cases hn : p_nx t s2 with
                  | inl b =>
                    rw [hn] at o3 hRL2
                    exact Or.inl ⟨b, o3, hRL2⟩
                  | inr s3 =>
                    rw [hn] at o3 hRL2
                    obtain ⟨n1, n2, n3⟩ := p_nx_wf M2.1 (by rw [p_is_3 kc]; decide) hn
                    exact Or.inr ⟨j, s3, ms2, a, o3, e2, by omega, p3, hRL2⟩
                · rw [if_neg kc] at o3 hRL2
                  exact Or.inl ⟨_, o3, hRL2⟩
  · rw [if_neg ko] at hK ⊢
    refine ⟨fun _ => ?_, fun h => absurd rfl h⟩
    simp only [tg_isWrong, tp_isWrong, hB, true_and]
    exact hK _ (tps.rf.sI (by omega)) h.bad
end PC
