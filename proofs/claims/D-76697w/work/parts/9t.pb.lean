set_option maxRecDepth 100000
/-! THE REFERENCE's reader: terms, sums, all -/
section PB
variable {l : Launch} {g : zG} {d m0 : Nat} {τ τ' τm τ1 τ2 : tS} {hp : zHp} {nx : Nat} {t : List Nat} {st : pS} {ms : List sM}
def p_ms (t : List Nat) (c : Nat) (st : pS) : Nat := 8 * (t.length + 1 - st.2.1) + (if c = 0 then 1 else if c = 1 ∨ c = 2 then 2 else if c = 3 ∨ c = 4 then 3 else if c = 5 then 4 else if c < 20 then 0 else 5)
def tFn (l : Launch) (g : zG) (m0 : Nat) (hp : zHp) (nx c d : Nat) (τ : tS) (K : zHp → Nat → Prop) : Prop :=
  if c = 0 then zMt l g yX5_one cX5_one 2 none d 0 0 [.ref m0] (tput g m0 τ hp) nx (zQv g K)
  else if c = 1 then zMt l g yX5_term cX5_term 2 none d 0 0 [.ref m0] (tput g m0 τ hp) nx (zQv g K)
  else if c = 3 then zMt l g yX5_sum cX5_sum 2 none d 0 0 [.ref m0] (tput g m0 τ hp) nx (zQv g K)
  else if c = 5 then zMt l g yX5_all cX5_all 2 none d 0 0 [.ref m0] (tput g m0 τ hp) nx (zQv g K)
  else zMt l g yX5_parts cX5_parts 3 none d 0 0 [.ref m0, .int (nI (c - 10))] (tput g m0 τ hp) nx (zQv g K)
def tPa (l : Launch) (g : zG) (m0 : Nat) (hp : zHp) (nx : Nat) (t : List Nat) (n : Nat) : Prop := ∀ (c : Nat) (st : pS) (ms : List sM) (τ : tS) (d : Nat) (K : zHp → Nat → Prop), (c = 0 ∨ c = 1 ∨ c = 3 ∨ c = 5 ∨ (11 ≤ c ∧ c ≤ 13)) → p_ms t c st ≤ n → n + 20 ≤ d → tM τ t st ms → tTt τ t → (∀ τ', tps τ τ' → tOu τ' t (p_P t n c st) ms → K (tput g m0 τ' hp) nx) → tFn l g m0 hp nx c d τ K
theorem tOu_bd {r : pQ} {a : List sM} (h : tOu τ t r (ms ++ a)) : tOu τ t (p_bd r fun q2 => .inr (q2.1, a ++ q2.2)) ms := by
  cases r with
  | inl b => exact h
  | inr q =>
    show tM τ t q.1 (ms ++ (a ++ q.2))
    rw [← List.append_assoc]
    exact h
theorem tOu_lk {r : pQ} {a : List sM} {m : sM} (h : tOu τ t r ((ms ++ a) ++ [m])) : tOu τ t (p_bd r fun q2 => .inr (q2.1, a ++ m :: q2.2)) ms := by
  cases r with
  | inl b => exact h
  | inr q =>
    show tM τ t q.1 (ms ++ (a ++ m :: q.2))
    have e : ms ++ (a ++ m :: q.2) = ((ms ++ a) ++ [m]) ++ q.2 := by simp
    rw [e]
    exact h
theorem p_P_1 {n : Nat} : p_P t (n + 1) 1 st = p_chn (p_P t n) 0 2 st := rfl
theorem p_P_2 {n : Nat} : p_P t (n + 1) 2 st = p_lnk (p_P t n) t (p_mu st) 0 2 st := rfl
theorem p_P_3 {n : Nat} : p_P t (n + 1) 3 st = p_chn (p_P t n) 1 4 st := rfl
theorem p_P_4 {n : Nat} : p_P t (n + 1) 4 st = p_lnk (p_P t n) t (p_ad st) 1 4 st := rfl
theorem p_P_5 {n : Nat} : p_P t (n + 1) 5 st = p_all (p_P t n) t st := rfl
set_option maxHeartbeats 1000000 in
theorem t_term_ok {n : Nat} {K : zHp → Nat → Prop} (ht : t.length ≤ 96) (hB : zB g ≤ m0) (hs : zStrs g m0 hp) (ih : ∀ k, k ≤ n → tPa l g m0 hp nx t k) (hm : p_ms t 1 st ≤ n + 1) (hd : n + 1 + 20 ≤ d) (h : tM τ t st ms) (hT : tTt τ t) (hK : ∀ τ', tps τ τ' → tOu τ' t (p_P t (n + 1) 1 st) ms → K (tput g m0 τ' hp) nx) : zMt l g yX5_term cX5_term 2 none d 0 0 [.ref m0] (tput g m0 τ hp) nx (zQv g K) := by
  obtain ⟨d, rfl⟩ := Nat.exists_eq_add_of_le' (show 1 ≤ d by omega)
  apply met_X5_term
  unfold wp_X5_term
  have hb := h.1.2.1
  have hm' : 8 * (t.length + 1 - st.2.1) + 2 ≤ n + 1 := hm
  obtain ⟨R, hR⟩ : ∃ R, R = p_P t (n + 1) 1 st := ⟨_, rfl⟩
  rw [← hR] at hK
  rw [p_P_1] at hR
  unfold p_chn at hR
  rw [tw_zo]
  refine ih n (Nat.le_refl _) 0 st ms τ d _ (by omega) (by show 8 * (t.length + 1 - st.2.1) + 1 ≤ n; omega) (by omega) h hT fun τ1 x1 o1 => ?_
  obtain ⟨I, hI⟩ : ∃ I : Nat → zHp → Nat → Prop, I = fun m h n' => ∃ τ2, h = tput g m0 τ2 hp ∧ nx = n' ∧ tps τ τ2 ∧ ((∃ b, tWr τ2 b ∧ ∀ τ', tWr τ' b → tOu τ' t R ms) ∨ (∃ s2 ms2, tM τ2 t s2 ms2 ∧ 8 * (t.length + 1 - s2.2.1) + 2 ≤ m ∧ m ≤ n ∧ ∀ τ', tOu τ' t (p_P t m 2 s2) ms2 → tOu τ' t R ms)) := ⟨_, rfl⟩
  refine ⟨I, ?_, ?_⟩
  · cases hr : p_P t n 0 st with
    | inl b =>
      rw [hr] at o1 hR
      refine ⟨0, ?_⟩
      rw [hI]
      exact ⟨τ1, rfl, rfl, x1, Or.inl ⟨b, o1, fun τ' q => by rw [hR]; exact q⟩⟩
    | inr q =>
      rw [hr] at o1 hR
      refine ⟨n, ?_⟩
      rw [hI]
      have gd := p_good ht n 0 st q h.1 (Or.inl (by omega)) hr
      have gd3 := gd.2.2.1
      rw [if_neg (by omega)] at gd3
      exact ⟨τ1, rfl, rfl, x1, Or.inr ⟨q.1, ms ++ q.2, o1, by omega, Nat.le_refl _, fun τ' q' => by rw [hR]; exact tOu_bd q'⟩⟩
  · intro m h2 n2 hi
    rw [hI] at hi
    obtain ⟨τ2, rfl, rfl, x2, hi⟩ := hi
    have T2 := hT.ps x2
    rcases hi with ⟨b, w1, w2⟩ | ⟨s2, ms2, M2, p2, p3, hmap⟩
    · rw [tw_zo]
      refine t_isSign_w (by omega) w1 ?_
      refine ⟨fun _ _ => False, fun _ _ h => h.elim, fun _ => ?_, fun h => absurd rfl h⟩
      rw [tw_zo]
      refine t_isSign_w (by omega) w1 ⟨fun _ => ?_, fun h => absurd rfl h⟩
      rw [tw_zo]
      exact t_isSign_w (by omega) w1 ⟨fun _ => hK τ2 x2 (w2 τ2 w1), fun h => absurd rfl h⟩
    · obtain ⟨j, rfl⟩ : ∃ j, m = j + 1 := ⟨m - 1, by omega⟩
      rw [p_P_2] at hmap
      unfold p_lnk at hmap
      have hb2 := M2.1.2.1
      have wrong : ∀ τ4 b, tps τ τ4 → tWr τ4 b → (∀ τ', tWr τ' b → tOu τ' t R ms) → ∃ k, k < j + 1 ∧ I k (tput g m0 τ4 hp) nx := fun τ4 b x4 w4 q => ⟨0, by omega, by rw [hI]; exact ⟨τ4, rfl, rfl, x4, Or.inl ⟨b, w4, q⟩⟩⟩
      have main : ∀ mk, p_mu s2 = some mk → zMt l g yX5_next cX5_next 1 none d 0 0 [.ref m0] (tput g m0 τ2 hp) nx (zQv g fun hp_17 nx_18 => (zo hp_17 (some m0) [5] fun a_29 ci_30 fs_31 => zMt l g yX5_one cX5_one 2 none d 0 0 (.ref a_29 :: []) hp_17 nx_18 (zQv g fun hp_19 nx_20 => (zo hp_19 (some m0) [5] fun a_26 ci_27 fs_28 => zMt l g yX5_mark cX5_mark 2 none d 0 0 (.ref a_26 :: [.int (nI mk)]) hp_19 nx_20 (zQv g fun hp_21 nx_22 => (∃ k_23, k_23 < j + 1 ∧ I k_23 hp_21 nx_22)))))) := by
        intro mk hmk
        rw [hmk] at hmap
        simp only at hmap
        obtain ⟨m1, m2, m3⟩ := p_mu_3 hmk
        refine t_nextS (by omega) hB hs T2 M2 (by omega) fun τ3 x3 o3 => ?_
        rw [tw_zo]
        cases hn : p_nx t s2 with
        | inl b =>
          rw [hn] at o3 hmap
          refine t_one_w (by omega) o3 ?_
          rw [tw_zo]
          exact t_mark_w (by omega) o3 (wrong τ3 b (x2.tr x3) o3 hmap)
        | inr s3 =>
          rw [hn] at o3 hmap
          have M3 : tM τ3 t s3 ms2 := o3
          obtain ⟨n1, n2, n3⟩ := p_nx_wf M2.1 (by omega) hn
          refine ih j (by omega) 0 s3 ms2 τ3 d _ (by omega) (by show 8 * (t.length + 1 - s3.2.1) + 1 ≤ j; omega) (by omega) M3 (hT.ps (x2.tr x3)) fun τ4 x4 o4 => ?_
          rw [tw_zo]
          cases hr : p_P t j 0 s3 with
          | inl b =>
            rw [hr] at o4
            have o4 : tWr τ4 b := o4
            refine t_mark_w (by omega) o4 (wrong τ4 b (x2.tr (x3.tr x4)) o4 fun τ' q => hmap τ' ?_)
            show tOu τ' t (p_bd (p_P t j 0 s3) _) ms2
            rw [hr]
            exact q
          | inr q =>
            rw [hr] at o4
            have M4 : tM τ4 t q.1 (ms2 ++ q.2) := o4
            have gd := p_good ht j 0 s3 q n1 (Or.inl (by omega)) hr
            have gd4 := gd.2.2.2.1
            have gd3 := gd.2.2.1
            rw [if_neg (by omega)] at gd3
            refine t_mark (by omega) hB M4 ht (fun h5 => ?_) (Or.inr (Or.inr (Or.inl ⟨by omega, by omega⟩))) (by omega) fun τ5 x5 M5 => ⟨j, by omega, ?_⟩
            · have hsy : ms2.length ≤ s2.2.1 := (M2.sy (by omega)).2.2.2.2.2.1
              rw [List.length_append]
              omega
            · rw [hI]
              refine ⟨τ5, rfl, rfl, x2.tr (x3.tr (x4.tr x5)), Or.inr ⟨q.1, (ms2 ++ q.2) ++ [(mk, 0)], M5, by omega, by omega, fun τ' q' => hmap τ' ?_⟩⟩
              show tOu τ' t (p_bd (p_P t j 0 s3) _) ms2
              rw [hr]
              exact tOu_lk q'
      have sg : ∀ (c : Nat) (K2 : Int32 → zHp → Nat → Prop), c < 1000 → K2 (if p_is s2 c = true then 1 else 0) (tput g m0 τ2 hp) nx → zMt l g yX5_isSign cX5_isSign 2 (some .boolean) d 0 0 [.ref m0, .int (nI c)] (tput g m0 τ2 hp) nx (zQi g K2) := fun c K2 hc hK2 => t_isSign (by omega) hc M2 hK2
      have done : p_mu s2 = none → K (tput g m0 τ2 hp) nx := fun hn => hK τ2 x2 (hmap τ2 (by rw [hn]; show tM τ2 t s2 (ms2 ++ []); rw [List.append_nil]; exact M2))
      unfold p_mu at main done
      rw [tw_zo]
      refine sg 42 _ (by decide) ?_
      obtain ⟨P31, hP31⟩ : ∃ P : zHp → Nat → Prop, P = fun h n' => h = tput g m0 τ2 hp ∧ nx = n' ∧ (p_is s2 42 = true ∨ p_is s2 47 = true ∨ p_is s2 37 = true) := ⟨_, rfl⟩
      refine ⟨P31, ?_, ?_⟩
      · intro h n' hh
        rw [hP31] at hh
        obtain ⟨rfl, rfl, hq⟩ := hh
        rw [tw_zo]
        refine sg 42 _ (by decide) ?_
        refine ⟨_, fun _ _ _ h => h, ?_⟩
        by_cases q1 : p_is s2 42 = true
        · rw [if_pos q1] at main ⊢
          refine ⟨fun h => absurd h (by decide), fun _ => ?_⟩
          rw [tw_zo]
          exact main 203 rfl
        · rw [if_neg q1] at main ⊢
          refine ⟨fun _ => ?_, fun h => absurd rfl h⟩
          rw [tw_zo]
          refine sg 47 _ (by decide) ?_
          by_cases q2 : p_is s2 47 = true
          · rw [if_pos q2] at main ⊢
            refine ⟨fun h => absurd h (by decide), fun _ => ?_⟩
            rw [tw_zo]
            exact main 204 rfl
          · rw [if_neg q2] at main ⊢
            refine ⟨fun _ => ?_, fun h => absurd rfl h⟩
            have q3 : p_is s2 37 = true := (hq.resolve_left q1).resolve_left q2
            rw [if_pos q3] at main
            rw [tw_zo]
            exact main 205 rfl
      · by_cases q1 : p_is s2 42 = true
        · rw [if_pos q1]
          exact ⟨fun h => absurd h (by decide), fun _ => by rw [hP31]; exact ⟨rfl, rfl, Or.inl q1⟩⟩
        · rw [if_neg q1] at done ⊢
          refine ⟨fun _ => ?_, fun h => absurd rfl h⟩
          rw [tw_zo]
          refine sg 47 _ (by decide) ?_
          by_cases q2 : p_is s2 47 = true
          · rw [if_pos q2]
            exact ⟨fun h => absurd h (by decide), fun _ => by rw [hP31]; exact ⟨rfl, rfl, Or.inr (Or.inl q2)⟩⟩
          · rw [if_neg q2] at done ⊢
            refine ⟨fun _ => ?_, fun h => absurd rfl h⟩
            rw [tw_zo]
            refine sg 37 _ (by decide) ?_
            by_cases q3 : p_is s2 37 = true
            · rw [if_pos q3]
              exact ⟨fun h => absurd h (by decide), fun _ => by rw [hP31]; exact ⟨rfl, rfl, Or.inr (Or.inr q3)⟩⟩
            · rw [if_neg q3] at done ⊢
              exact ⟨fun _ => done rfl, fun h => absurd rfl h⟩
set_option maxHeartbeats 1000000 in
theorem t_sum_ok {n : Nat} {K : zHp → Nat → Prop} (ht : t.length ≤ 96) (hB : zB g ≤ m0) (hs : zStrs g m0 hp) (ih : ∀ k, k ≤ n → tPa l g m0 hp nx t k) (hm : p_ms t 3 st ≤ n + 1) (hd : n + 1 + 20 ≤ d) (h : tM τ t st ms) (hT : tTt τ t) (hK : ∀ τ', tps τ τ' → tOu τ' t (p_P t (n + 1) 3 st) ms → K (tput g m0 τ' hp) nx) : zMt l g yX5_sum cX5_sum 2 none d 0 0 [.ref m0] (tput g m0 τ hp) nx (zQv g K) := by
  obtain ⟨d, rfl⟩ := Nat.exists_eq_add_of_le' (show 1 ≤ d by omega)
  apply met_X5_sum
  unfold wp_X5_sum
  have hb := h.1.2.1
  have hm' : 8 * (t.length + 1 - st.2.1) + 3 ≤ n + 1 := hm
  obtain ⟨R, hR⟩ : ∃ R, R = p_P t (n + 1) 3 st := ⟨_, rfl⟩
  rw [← hR] at hK
  rw [p_P_3] at hR
  unfold p_chn at hR
  rw [tw_zo]
  refine ih n (Nat.le_refl _) 1 st ms τ d _ (by omega) (by show 8 * (t.length + 1 - st.2.1) + 2 ≤ n; omega) (by omega) h hT fun τ1 x1 o1 => ?_
  obtain ⟨I, hI⟩ : ∃ I : Nat → zHp → Nat → Prop, I = fun m h n' => ∃ τ2, h = tput g m0 τ2 hp ∧ nx = n' ∧ tps τ τ2 ∧ ((∃ b, tWr τ2 b ∧ ∀ τ', tWr τ' b → tOu τ' t R ms) ∨ (∃ s2 ms2, tM τ2 t s2 ms2 ∧ 8 * (t.length + 1 - s2.2.1) + 3 ≤ m ∧ m ≤ n ∧ ∀ τ', tOu τ' t (p_P t m 4 s2) ms2 → tOu τ' t R ms)) := ⟨_, rfl⟩
  refine ⟨I, ?_, ?_⟩
  · cases hr : p_P t n 1 st with
    | inl b =>
      rw [hr] at o1 hR
      refine ⟨0, ?_⟩
      rw [hI]
      exact ⟨τ1, rfl, rfl, x1, Or.inl ⟨b, o1, fun τ' q => by rw [hR]; exact q⟩⟩
    | inr q =>
      rw [hr] at o1 hR
      refine ⟨n, ?_⟩
      rw [hI]
      have gd := p_good ht n 1 st q h.1 (Or.inl (by omega)) hr
      have gd3 := gd.2.2.1
      rw [if_neg (by omega)] at gd3
      exact ⟨τ1, rfl, rfl, x1, Or.inr ⟨q.1, ms ++ q.2, o1, by omega, Nat.le_refl _, fun τ' q' => by rw [hR]; exact tOu_bd q'⟩⟩
  · intro m h2 n2 hi
    rw [hI] at hi
    obtain ⟨τ2, rfl, rfl, x2, hi⟩ := hi
    have T2 := hT.ps x2
    rcases hi with ⟨b, w1, w2⟩ | ⟨s2, ms2, M2, p2, p3, hmap⟩
    · rw [tw_zo]
      refine t_isSign_w (by omega) w1 ?_
      refine ⟨fun _ _ => False, fun _ _ h => h.elim, fun _ => ?_, fun h => absurd rfl h⟩
      rw [tw_zo]
      exact t_isSign_w (by omega) w1 ⟨fun _ => hK τ2 x2 (w2 τ2 w1), fun h => absurd rfl h⟩
    · obtain ⟨j, rfl⟩ : ∃ j, m = j + 1 := ⟨m - 1, by omega⟩
      rw [p_P_4] at hmap
      unfold p_lnk at hmap
      have hb2 := M2.1.2.1
      have wrong : ∀ τ4 b, tps τ τ4 → tWr τ4 b → (∀ τ', tWr τ' b → tOu τ' t R ms) → ∃ k, k < j + 1 ∧ I k (tput g m0 τ4 hp) nx := fun τ4 b x4 w4 q => ⟨0, by omega, by rw [hI]; exact ⟨τ4, rfl, rfl, x4, Or.inl ⟨b, w4, q⟩⟩⟩
      have main : ∀ mk, p_ad s2 = some mk → zMt l g yX5_next cX5_next 1 none d 0 0 [.ref m0] (tput g m0 τ2 hp) nx (zQv g fun hp_17 nx_18 => (zo hp_17 (some m0) [5] fun a_29 ci_30 fs_31 => zMt l g yX5_term cX5_term 2 none d 0 0 (.ref a_29 :: []) hp_17 nx_18 (zQv g fun hp_19 nx_20 => (zo hp_19 (some m0) [5] fun a_26 ci_27 fs_28 => zMt l g yX5_mark cX5_mark 2 none d 0 0 (.ref a_26 :: [.int (nI mk)]) hp_19 nx_20 (zQv g fun hp_21 nx_22 => (∃ k_23, k_23 < j + 1 ∧ I k_23 hp_21 nx_22)))))) := by
        intro mk hmk
        rw [hmk] at hmap
        simp only at hmap
        obtain ⟨m1, m2, m3⟩ := p_ad_3 hmk
        refine t_nextS (by omega) hB hs T2 M2 (by omega) fun τ3 x3 o3 => ?_
        rw [tw_zo]
        cases hn : p_nx t s2 with
        | inl b =>
          rw [hn] at o3 hmap
          refine t_term_w (by omega) o3 ?_
          rw [tw_zo]
          exact t_mark_w (by omega) o3 (wrong τ3 b (x2.tr x3) o3 hmap)
        | inr s3 =>
          rw [hn] at o3 hmap
          have M3 : tM τ3 t s3 ms2 := o3
          obtain ⟨n1, n2, n3⟩ := p_nx_wf M2.1 (by omega) hn
          refine ih j (by omega) 1 s3 ms2 τ3 d _ (by omega) (by show 8 * (t.length + 1 - s3.2.1) + 2 ≤ j; omega) (by omega) M3 (hT.ps (x2.tr x3)) fun τ4 x4 o4 => ?_
          rw [tw_zo]
          cases hr : p_P t j 1 s3 with
          | inl b =>
            rw [hr] at o4
            have o4 : tWr τ4 b := o4
            refine t_mark_w (by omega) o4 (wrong τ4 b (x2.tr (x3.tr x4)) o4 fun τ' q => hmap τ' ?_)
            show tOu τ' t (p_bd (p_P t j 1 s3) _) ms2
            rw [hr]
            exact q
          | inr q =>
            rw [hr] at o4
            have M4 : tM τ4 t q.1 (ms2 ++ q.2) := o4
            have gd := p_good ht j 1 s3 q n1 (Or.inl (by omega)) hr
            have gd4 := gd.2.2.2.1
            have gd3 := gd.2.2.1
            rw [if_neg (by omega)] at gd3
            refine t_mark (by omega) hB M4 ht (fun h5 => ?_) (Or.inr (Or.inr (Or.inl ⟨by omega, by omega⟩))) (by omega) fun τ5 x5 M5 => ⟨j, by omega, ?_⟩
            · have hsy : ms2.length ≤ s2.2.1 := (M2.sy (by omega)).2.2.2.2.2.1
              rw [List.length_append]
              omega
            · rw [hI]
              refine ⟨τ5, rfl, rfl, x2.tr (x3.tr (x4.tr x5)), Or.inr ⟨q.1, (ms2 ++ q.2) ++ [(mk, 0)], M5, by omega, by omega, fun τ' q' => hmap τ' ?_⟩⟩
              show tOu τ' t (p_bd (p_P t j 1 s3) _) ms2
              rw [hr]
              exact tOu_lk q'
      have sg : ∀ (c : Nat) (K2 : Int32 → zHp → Nat → Prop), c < 1000 → K2 (if p_is s2 c = true then 1 else 0) (tput g m0 τ2 hp) nx → zMt l g yX5_isSign cX5_isSign 2 (some .boolean) d 0 0 [.ref m0, .int (nI c)] (tput g m0 τ2 hp) nx (zQi g K2) := fun c K2 hc hK2 => t_isSign (by omega) hc M2 hK2
      have done : p_ad s2 = none → K (tput g m0 τ2 hp) nx := fun hn => hK τ2 x2 (hmap τ2 (by rw [hn]; show tM τ2 t s2 (ms2 ++ []); rw [List.append_nil]; exact M2))
      unfold p_ad at main done
      rw [tw_zo]
      refine sg 43 _ (by decide) ?_
      obtain ⟨P31, hP31⟩ : ∃ P : zHp → Nat → Prop, P = fun h n' => h = tput g m0 τ2 hp ∧ nx = n' ∧ (p_is s2 43 = true ∨ p_is s2 45 = true) := ⟨_, rfl⟩
      refine ⟨P31, ?_, ?_⟩
      · intro h n' hh
        rw [hP31] at hh
        obtain ⟨rfl, rfl, hq⟩ := hh
        rw [tw_zo]
        refine sg 43 _ (by decide) ?_
        refine ⟨_, fun _ _ _ h => h, ?_⟩
        by_cases q1 : p_is s2 43 = true
        · rw [if_pos q1] at main ⊢
          refine ⟨fun h => absurd h (by decide), fun _ => ?_⟩
          rw [tw_zo]
          exact main 201 rfl
        · rw [if_neg q1] at main ⊢
          refine ⟨fun _ => ?_, fun h => absurd rfl h⟩
          have q3 : p_is s2 45 = true := hq.resolve_left q1
          rw [if_pos q3] at main
          rw [tw_zo]
          exact main 202 rfl
      · by_cases q1 : p_is s2 43 = true
        · rw [if_pos q1]
          exact ⟨fun h => absurd h (by decide), fun _ => by rw [hP31]; exact ⟨rfl, rfl, Or.inl q1⟩⟩
        · rw [if_neg q1] at done ⊢
          refine ⟨fun _ => ?_, fun h => absurd rfl h⟩
          rw [tw_zo]
          refine sg 45 _ (by decide) ?_
          by_cases q3 : p_is s2 45 = true
          · rw [if_pos q3]
            exact ⟨fun h => absurd h (by decide), fun _ => by rw [hP31]; exact ⟨rfl, rfl, Or.inr q3⟩⟩
          · rw [if_neg q3] at done ⊢
            exact ⟨fun _ => done rfl, fun h => absurd rfl h⟩
end PB
