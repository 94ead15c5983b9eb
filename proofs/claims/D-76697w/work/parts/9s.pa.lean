set_option maxRecDepth 100000
/-! THE REFERENCE's reader: what goes along with the spec's state; signs, marks; what happens when it's wrong already -/
section PA
variable {l : Launch} {g : zG} {d m0 : Nat} {τ τ' τm τ1 τ2 : tS} {hp : zHp} {nx : Nat} {t : List Nat} {st : pS} {ms : List sM}
/-- only what the reader has changes -/
def tps (τ τ' : tS) : Prop := (∀ k, ¬ (37 ≤ k ∧ k ≤ 46) → τ'.1 k = τ.1 k) ∧ τ'.2.1 = τ.2.1 ∧ (∀ k, k ≠ 35 → τ'.2.2.1 k = τ.2.2.1 k) ∧ ∀ k, k ≠ 36 → τ'.2.2.2 k = τ.2.2.2 k
theorem tps.rf : tps τ τ := ⟨fun _ _ => rfl, rfl, fun _ _ => rfl, fun _ _ => rfl⟩
theorem tps.tr {a b c : tS} (h : tps a b) (h2 : tps b c) : tps a c := ⟨fun k p => (h2.1 k p).trans (h.1 k p), h2.2.1.trans h.2.1, fun k p => (h2.2.2.1 k p).trans (h.2.2.1 k p), fun k p => (h2.2.2.2 k p).trans (h.2.2.2 k p)⟩
theorem tlx.ps (h : tlx τ τ') : tps τ τ' := ⟨fun k p => h.1 k (by omega) (by omega), by rw [h.2], fun k _ => by rw [h.2], fun k _ => by rw [h.2]⟩
theorem tps.sI {k : Nat} {v : Int32} (h : tps τ τ') (hk : 37 ≤ k ∧ k ≤ 46) : tps τ (tsI τ' k v) := h.tr ⟨fun j p => tq2 (by omega), rfl, fun _ _ => rfl, fun _ _ => rfl⟩
theorem tps.aI {i : Nat} {f : Nat → Int32} (h : tps τ τ') : tps τ (taI τ' 35 i f) := h.tr ⟨fun _ _ => rfl, rfl, fun k hk => tqc hk, fun _ _ => rfl⟩
theorem tps.aD {i : Nat} {f : Nat → UInt64} (h : tps τ τ') : tps τ (taD τ' 36 i f) := h.tr ⟨fun _ _ => rfl, rfl, fun _ _ => rfl, fun k hk => tqj hk⟩
theorem tTt.ps (h : tps τ τ') (hT : tTt τ t) : tTt τ' t := by
  unfold tTt
  rw [h.1 34 (by omega), h.2.2.1 33 (by omega)]
  exact hT
def tMk (τ : tS) (ms : List sM) : Prop := ∀ k m, ms[k]? = some m → τ.2.2.1 35 0 k = nI m.1 ∧ (100 ≤ m.1 → m.1 < 200 → τ.2.2.2 36 0 (m.1 - 100) = m.2)
def tSy (τ : tS) (st : pS) (ms : List sM) : Prop := tTk τ st.1 st.2.1 st.2.2.1 ∧ τ.1 45 = nI st.2.2.2.1 ∧ τ.1 38 = nI st.2.2.2.2 ∧ τ.1 37 = nI ms.length ∧ tMk τ ms ∧ ms.length ≤ st.2.1 ∧ ∀ m ∈ ms, p_mm 0 st.2.2.2.2 m
def tWr (τ : tS) (b : Nat) : Prop := τ.1 46 = 1 ∧ τ.1 40 = nI b
def tM (τ : tS) (t : List Nat) (st : pS) (ms : List sM) : Prop := p_wf t st ∧ if st.2.2.1.1 = 5 then tWr τ st.2.1 else tSy τ st ms
def tOu (τ : tS) (t : List Nat) (r : pQ) (ms : List sM) : Prop := match r with
  | .inl b => tWr τ b
  | .inr q => tM τ t q.1 (ms ++ q.2)
theorem tM.sy (h : tM τ t st ms) (h5 : st.2.2.1.1 ≠ 5) : tSy τ st ms := by
  have := h.2
  rw [if_neg h5] at this
  exact this
theorem tM.wr (h : tM τ t st ms) (h5 : st.2.2.1.1 = 5) : tWr τ st.2.1 := by
  have := h.2
  rw [if_pos h5] at this
  exact this
theorem tM.of (hw : p_wf t st) (h5 : st.2.2.1.1 ≠ 5) (h : tSy τ st ms) : tM τ t st ms := ⟨hw, by rw [if_neg h5]; exact h⟩
theorem tM.of5 (hw : p_wf t st) (h5 : st.2.2.1.1 = 5) (h : tWr τ st.2.1) : tM τ t st ms := ⟨hw, by rw [if_pos h5]; exact h⟩
theorem p_is_5 {c : Nat} (h : st.2.2.1.1 = 5) : p_is st c = false := by
  unfold p_is
  rw [h]
  rfl
theorem t_isSign_w {c : Int32} {b : Nat} {K : Int32 → zHp → Nat → Prop} (hd : 1 ≤ d) (h : tWr τ b) (hK : K 0 (tput g m0 τ hp) nx) : zMt l g yX5_isSign cX5_isSign 2 (some .boolean) d 0 0 [.ref m0, .int c] (tput g m0 τ hp) nx (zQi g K) := by
  obtain ⟨d, rfl⟩ := Nat.exists_eq_add_of_le' hd
  apply met_X5_isSign
  unfold wp_X5_isSign
  simp only [tg_isWrong, tp_isWrong, h.1]
  exact ⟨_, fun _ h => h, _, fun h => h, fun h => absurd h (by decide), fun _ => ⟨Or.inl rfl, hK⟩⟩
theorem t_isSign {c : Nat} {K : Int32 → zHp → Nat → Prop} (hd : 1 ≤ d) (hc : c < 1000) (h : tM τ t st ms) (hK : K (if p_is st c = true then 1 else 0) (tput g m0 τ hp) nx) : zMt l g yX5_isSign cX5_isSign 2 (some .boolean) d 0 0 [.ref m0, .int (nI c)] (tput g m0 τ hp) nx (zQi g K) := by
  by_cases h5 : st.2.2.1.1 = 5
  · rw [p_is_5 h5] at hK
    exact t_isSign_w hd (h.wr h5) hK
  · have hs := h.sy h5
    obtain ⟨d, rfl⟩ := Nat.exists_eq_add_of_le' hd
    obtain ⟨⟨k1, k2, k3, k4, k5, k6⟩, -⟩ := hs
    have a := h.1.at
    apply met_X5_isSign
    unfold wp_X5_isSign
    simp only [tg_isWrong, tp_isWrong, tg_token, tp_token, tg_sign, tp_sign, k3, k4]
    refine ⟨_, fun _ h => h, _, fun h => h, fun _ => ?_, fun h => absurd (by trivial) h⟩
    have e3 : (3 : Int32) = nI 3 := rfl
    rw [e3]
    refine pk_eq (if st.2.2.1.1 = 4 then 1 else st.2.2.1.1) 3 (fun q => ?_) (fun q => ?_) rfl rfl (by split <;> omega)
    · have q3 : st.2.2.1.1 = 3 := by split at q <;> omega
      rw [k6 q3]
      have hi : p_is st c = true ↔ st.2.2.1.2.1 = c := by
        unfold p_is
        rw [q3]
        simp
      have hsm : st.2.2.1.2.1 < 2 ^ 31 := by
        have hw := h.1.1
        unfold p_tok at hw
        split at hw
        · have e := congrArg (fun q => q.2.1) (Option.some.inj hw)
          have e2 : 0 = st.2.2.1.1 := e
          omega
        · split at hw
          · have e := congrArg (fun q => q.2.1) (Option.some.inj hw)
            have e2 : (p_word t st.2.1).1 = 3 := by rw [← q3]; exact e
            unfold p_word at e2
            split at e2
            · cases e2
            · split at e2 <;> cases e2
          · split at hw
            · split at hw
              · split at hw
                · have e := congrArg (fun q => q.2.1) (Option.some.inj hw)
                  have e2 : 2 = st.2.2.1.1 := e
                  omega
                · cases hw
              · split at hw
                · have e := congrArg (fun q => q.2.1) (Option.some.inj hw)
                  have e2 : 2 = st.2.2.1.1 := e
                  omega
                · cases hw
            · split at hw
              · next c' _ _ _ hsg =>
                have e := congrArg (fun q => q.2.2.1) (Option.some.inj hw)
                have e2 : c' = st.2.2.1.2.1 := e
                unfold p_sg at hsg
                simp only [List.contains_iff_mem] at hsg
                simp at hsg
                omega
              · cases hw
      refine pk_eq st.2.2.1.2.1 c (fun e => ?_) (fun e => ?_) rfl rfl hsm (by omega)
      · rw [if_pos (hi.mpr e)] at hK
        exact ⟨Or.inr rfl, hK⟩
      · rw [if_neg (fun q => e (hi.mp q))] at hK
        exact ⟨Or.inl rfl, hK⟩
    · have q3 : st.2.2.1.1 ≠ 3 := fun e => q (by rw [if_neg (by omega)]; exact e)
      have hi : ¬ p_is st c = true := fun e => q3 (p_is_3 e)
      rw [if_neg hi] at hK
      exact ⟨Or.inl rfl, hK⟩
theorem t_mark_w {x : Int32} {b : Nat} {K : zHp → Nat → Prop} (hd : 1 ≤ d) (h : tWr τ b) (hK : K (tput g m0 τ hp) nx) : zMt l g yX5_mark cX5_mark 2 none d 0 0 [.ref m0, .int x] (tput g m0 τ hp) nx (zQv g K) := by
  obtain ⟨d, rfl⟩ := Nat.exists_eq_add_of_le' hd
  apply met_X5_mark
  unfold wp_X5_mark
  simp only [tg_isWrong, tp_isWrong, h.1]
  exact ⟨fun h => absurd h (by decide), fun _ => hK⟩
theorem tMk.up {m : Nat} {v : UInt64} {n : Nat} (h : tMk τ ms) (hn : n = ms.length) (hv : 100 ≤ m → m < 200 → τ.2.2.2 36 0 (m - 100) = v) : tMk (tsI (taI τ 35 0 (va_up (τ.2.2.1 35 0) n (nI m))) 37 (nI (n + 1))) (ms ++ [(m, v)]) := by
  intro k q hq
  show (taI τ 35 0 _).2.2.1 35 0 k = _ ∧ (100 ≤ q.1 → q.1 < 200 → τ.2.2.2 36 0 (q.1 - 100) = q.2)
  rw [tqa]
  rw [List.getElem?_append] at hq
  by_cases hk : k < ms.length
  · rw [if_pos hk] at hq
    rw [va_o (by omega)]
    exact h k q hq
  · rw [if_neg hk] at hq
    have hk2 : k = ms.length := by
      rcases Nat.lt_or_ge (k - ms.length) 1 with h1 | h1
      · omega
      · rw [List.getElem?_eq_none (by simpa using h1)] at hq; cases hq
    subst hk2
    rw [Nat.sub_self] at hq
    cases hq
    subst hn
    rw [va_s]
    exact ⟨rfl, hv⟩
/-- a mark more -/
theorem t_mark0 {m n : Nat} {K : zHp → Nat → Prop} (hd : 1 ≤ d) (hB : zB g ≤ m0) (h46 : τ.1 46 = 0) (h37 : τ.1 37 = nI n) (hn : n < 96) (hK : K (tput g m0 (tsI (taI τ 35 0 (va_up (τ.2.2.1 35 0) n (nI m))) 37 (nI (n + 1))) hp) nx) : zMt l g yX5_mark cX5_mark 2 none d 0 0 [.ref m0, .int (nI m)] (tput g m0 τ hp) nx (zQv g K) := by
  obtain ⟨d, rfl⟩ := Nat.exists_eq_add_of_le' hd
  apply met_X5_mark
  unfold wp_X5_mark
  have cn : (nI n).toNatClampNeg = n := nI_clamp (by omega)
  have iN : vp_in (nI n) 96 := vp_in_nI hn (by decide)
  have hB2 : ∀ n, zB g ≤ m0 + n := fun n => by omega
  simp only [tg_isWrong, tp_isWrong, tg_newMarks, ta_newMarks, tu_newMarks, tg_newSize, tp_newSize, h46, h37, cn, iN, hB, hB2, true_implies, false_implies, implies_true, and_true, true_and, forall_eq]
  refine ⟨?_, fun h => absurd (by trivial) h⟩
  simp only [tq1, tq3, tq4, tq5, tq7, tq8, tq9, tqa, tqc, tqd, tqe, tqf, tqg, tqh, tqj, va_s, ne_eq, reduceCtorEq, not_false_eq_true, not_true_eq_false, if_true, if_false, Nat.reduceEqDiff, h37, nI_1]
  exact hK
theorem t_mark {m : Nat} {K : zHp → Nat → Prop} (hd : 1 ≤ d) (hB : zB g ≤ m0) (h : tM τ t st ms) (ht : t.length ≤ 96) (hl : st.2.2.1.1 ≠ 5 → ms.length < st.2.1) (hm : tok m) (hm2 : m < 100 ∨ 200 ≤ m) (hK : ∀ τ', tps τ τ' → tM τ' t st (ms ++ [(m, 0)]) → K (tput g m0 τ' hp) nx) : zMt l g yX5_mark cX5_mark 2 none d 0 0 [.ref m0, .int (nI m)] (tput g m0 τ hp) nx (zQv g K) := by
  by_cases h5 : st.2.2.1.1 = 5
  · exact t_mark_w hd (h.wr h5) (hK τ tps.rf (tM.of5 h.1 h5 (h.wr h5)))
  · have hs := h.sy h5
    obtain ⟨⟨k1, k2, k3, k4, k5, k6⟩, o1, o2, o3, o4, o5, o6⟩ := hs
    have hl := hl h5
    have hb := h.1.2.1
    refine t_mark0 hd hB k3 o3 (by omega) (hK _ (tps.rf.aI.sI (by omega)) (tM.of h.1 h5 ⟨⟨?_, ?_, ?_, ?_, fun q => ?_, fun q => ?_⟩, ?_, ?_, ?_, o4.up rfl (fun a b => by omega), ?_, ?_⟩))
    · rw [tq2 (by decide)]; exact k1
    · rw [tq2 (by decide)]; exact k2
    · rw [tq2 (by decide)]; exact k3
    · rw [tq2 (by decide)]; exact k4
    · rw [tq2 (by decide), tq2 (by decide)]; exact k5 q
    · rw [tq2 (by decide)]; exact k6 q
    · rw [tq2 (by decide)]; exact o1
    · rw [tq2 (by decide)]; exact o2
    · rw [tq1, List.length_append]; rfl
    · rw [List.length_append]; show ms.length + 1 ≤ _; omega
    · intro q hq
      rw [List.mem_append, List.mem_singleton] at hq
      rcases hq with hq | hq
      · exact o6 q hq
      · subst hq
        exact p_mm.z hm hm2
/-- what next gives -/
def tOx (τ : tS) (t : List Nat) (r : Nat ⊕ pS) (ms : List sM) : Prop := match r with
  | .inl b => tWr τ b
  | .inr s => tM τ t s ms
theorem t_nextM {K : zHp → Nat → Prop} (hd : 10 ≤ d) (hB : zB g ≤ m0) (hs : zStrs g m0 hp) (hT : tTt τ t) (ha : τ.1 39 = nI st.1) (hal : st.1 ≤ t.length) (ho4 : st.2.2.2.1 ≤ 4) (hf4 : st.2.2.2.2 ≤ st.1) (h46 : τ.1 46 = 0) (o1 : τ.1 45 = nI st.2.2.2.1) (o2 : τ.1 38 = nI st.2.2.2.2) (o3 : τ.1 37 = nI ms.length) (o4 : tMk τ ms) (o5 : ms.length ≤ st.1) (o6 : ∀ m ∈ ms, p_mm 0 st.2.2.2.2 m) (hK : ∀ τ', tps τ τ' → tOx τ' t (p_nx t st) ms → K (tput g m0 τ' hp) nx) : zMt l g yX5_next cX5_next 1 none d 0 0 [.ref m0] (tput g m0 τ hp) nx (zQv g K) := by
  refine t_next hd hB hs hT h46 ha hal fun τ' x q => hK τ' x.ps ?_
  unfold p_nx
  cases hn : p_next t st.1 with
  | inl b =>
    rw [hn] at q
    exact q
  | inr r =>
    rw [hn] at q
    have hnx : p_nx t st = .inr (r.1, r.2.1, r.2.2, st.2.2.2) := by unfold p_nx; rw [hn]; rfl
    obtain ⟨w1, w2, w3⟩ := p_nx_ok hal ho4 hf4 hnx
    have w2 : st.1 ≤ r.2.1 := w2
    show tM τ' t (r.1, r.2.1, r.2.2, st.2.2.2) ms
    unfold tNxt at q
    simp only at q
    by_cases h5 : r.2.2.1 = 5
    · rw [if_pos h5] at q
      exact tM.of5 w1 h5 q
    · rw [if_neg h5] at q
      refine tM.of w1 h5 ⟨q, ?_, ?_, ?_, ?_, ?_, o6⟩
      · rw [x.1 45 (by omega) (by omega)]; exact o1
      · rw [x.1 38 (by omega) (by omega)]; exact o2
      · rw [x.1 37 (by omega) (by omega)]; exact o3
      · intro k m hm
        rw [x.2]
        exact o4 k m hm
      · show ms.length ≤ r.2.1; omega
theorem t_nextS {K : zHp → Nat → Prop} (hd : 10 ≤ d) (hB : zB g ≤ m0) (hs : zStrs g m0 hp) (hT : tTt τ t) (h : tM τ t st ms) (h5 : st.2.2.1.1 ≠ 5) (hK : ∀ τ', tps τ τ' → tOx τ' t (p_nx t st) ms → K (tput g m0 τ' hp) nx) : zMt l g yX5_next cX5_next 1 none d 0 0 [.ref m0] (tput g m0 τ hp) nx (zQv g K) := by
  obtain ⟨⟨k1, k2, k3, k4, k5, k6⟩, o1, o2, o3, o4, o5, o6⟩ := h.sy h5
  have a := h.1.at
  exact t_nextM hd hB hs hT k1 a.2.1 h.1.2.2.1 (Nat.le_trans h.1.2.2.2 a.1) k3 o1 o2 o3 o4 (Nat.le_trans o5 a.1) o6 hK
/-! wrong already -/
theorem t_one_w {b : Nat} {K : zHp → Nat → Prop} (hd : 1 ≤ d) (h : tWr τ b) (hK : K (tput g m0 τ hp) nx) : zMt l g yX5_one cX5_one 2 none d 0 0 [.ref m0] (tput g m0 τ hp) nx (zQv g K) := by
  obtain ⟨d, rfl⟩ := Nat.exists_eq_add_of_le' hd
  apply met_X5_one
  unfold wp_X5_one
  simp only [tg_isWrong, tp_isWrong, h.1]
  exact ⟨fun h => absurd h (by decide), fun _ => hK⟩
theorem t_term_w {b : Nat} {K : zHp → Nat → Prop} (hd : 2 ≤ d) (h : tWr τ b) (hK : K (tput g m0 τ hp) nx) : zMt l g yX5_term cX5_term 2 none d 0 0 [.ref m0] (tput g m0 τ hp) nx (zQv g K) := by
  obtain ⟨d, rfl⟩ := Nat.exists_eq_add_of_le' (show 1 ≤ d by omega)
  apply met_X5_term
  unfold wp_X5_term
  rw [tw_zo]
  refine t_one_w (by omega) h ?_
  refine ⟨fun n h n' => h = tput g m0 τ hp ∧ nx = n', ⟨0, rfl, rfl⟩, ?_⟩
  rintro n _ _ ⟨rfl, rfl⟩
  rw [tw_zo]
  refine t_isSign_w (by omega) h ?_
  refine ⟨fun _ _ => False, fun _ _ h => h.elim, fun _ => ?_, fun h => absurd rfl h⟩
  rw [tw_zo]
  refine t_isSign_w (by omega) h ⟨fun _ => ?_, fun h => absurd rfl h⟩
  rw [tw_zo]
  exact t_isSign_w (by omega) h ⟨fun _ => hK, fun h => absurd rfl h⟩
theorem t_sum_w {b : Nat} {K : zHp → Nat → Prop} (hd : 3 ≤ d) (h : tWr τ b) (hK : K (tput g m0 τ hp) nx) : zMt l g yX5_sum cX5_sum 2 none d 0 0 [.ref m0] (tput g m0 τ hp) nx (zQv g K) := by
  obtain ⟨d, rfl⟩ := Nat.exists_eq_add_of_le' (show 1 ≤ d by omega)
  apply met_X5_sum
  unfold wp_X5_sum
  rw [tw_zo]
  refine t_term_w (by omega) h ?_
  refine ⟨fun n h n' => h = tput g m0 τ hp ∧ nx = n', ⟨0, rfl, rfl⟩, ?_⟩
  rintro n _ _ ⟨rfl, rfl⟩
  rw [tw_zo]
  refine t_isSign_w (by omega) h ?_
  refine ⟨fun _ _ => False, fun _ _ h => h.elim, fun _ => ?_, fun h => absurd rfl h⟩
  rw [tw_zo]
  exact t_isSign_w (by omega) h ⟨fun _ => hK, fun h => absurd rfl h⟩
theorem t_all_w {b : Nat} {K : zHp → Nat → Prop} (hd : 4 ≤ d) (h : tWr τ b) (hK : K (tput g m0 τ hp) nx) : zMt l g yX5_all cX5_all 2 none d 0 0 [.ref m0] (tput g m0 τ hp) nx (zQv g K) := by
  obtain ⟨d, rfl⟩ := Nat.exists_eq_add_of_le' (show 1 ≤ d by omega)
  apply met_X5_all
  unfold wp_X5_all
  rw [tw_zo]
  refine t_sum_w (by omega) h ?_
  rw [tw_zo]
  refine t_isSign_w (by omega) h ?_
  refine ⟨fun _ _ => False, fun _ _ h => h.elim, fun _ => ?_, fun h => absurd rfl h⟩
  rw [tw_zo]
  exact t_isSign_w (by omega) h ⟨fun _ => hK, fun h => absurd rfl h⟩
theorem tWr.s {b : Nat} (h : tWr τ b) : tWr (tsI τ 46 1) b := ⟨tq1, by rw [tq2 (by decide)]; exact h.2⟩
theorem t_parts_w {b : Nat} {x : Int32} {K : zHp → Nat → Prop} (hd : 2 ≤ d) (hB : zB g ≤ m0) (h : tWr τ b) (hK : ∀ τ', tps τ τ' → tWr τ' b → K (tput g m0 τ' hp) nx) : zMt l g yX5_parts cX5_parts 3 none d 0 0 [.ref m0, .int x] (tput g m0 τ hp) nx (zQv g K) := by
  obtain ⟨d, rfl⟩ := Nat.exists_eq_add_of_le' (show 1 ≤ d by omega)
  apply met_X5_parts
  unfold wp_X5_parts
  rw [tw_zo]
  refine t_isSign_w (by omega) h ⟨fun _ => ?_, fun h => absurd rfl h⟩
  simp only [tg_isWrong, tp_isWrong, hB, true_and]
  exact hK _ (tps.rf.sI (by omega)) h.s
theorem t_need_w {b : Nat} {x : Int32} {K : zHp → Nat → Prop} (hd : 2 ≤ d) (hB : zB g ≤ m0) (h : tWr τ b) (hK : ∀ τ', tps τ τ' → tWr τ' b → K (tput g m0 τ' hp) nx) : zMt l g yX5_need cX5_need 2 none d 0 0 [.ref m0, .int x] (tput g m0 τ hp) nx (zQv g K) := by
  obtain ⟨d, rfl⟩ := Nat.exists_eq_add_of_le' (show 1 ≤ d by omega)
  apply met_X5_need
  unfold wp_X5_need
  rw [tw_zo]
  refine t_isSign_w (by omega) h ?_
  refine ⟨_, fun _ _ h => h, ?_⟩
  refine ⟨fun _ => ?_, fun h => absurd rfl h⟩
  simp only [tg_isWrong, tp_isWrong, hB, true_and]
  exact hK _ (tps.rf.sI (by omega)) h.s
theorem t_ofTable_w {b : Nat} {x : Int32} {K : zHp → Nat → Prop} (hd : 1 ≤ d) (h : tWr τ b) (hK : K (tput g m0 τ hp) nx) : zMt l g yX5_ofTable cX5_ofTable 2 none d 0 0 [.ref m0, .int x] (tput g m0 τ hp) nx (zQv g K) := by
  obtain ⟨d, rfl⟩ := Nat.exists_eq_add_of_le' hd
  apply met_X5_ofTable
  unfold wp_X5_ofTable
  simp only [tg_isWrong, tp_isWrong, h.1]
  exact ⟨fun h => absurd h (by decide), fun _ => hK⟩
/-- it's wrong here -/
theorem tM.bad (h : tM τ t st ms) : tWr (tsI τ 46 1) st.2.1 := by
  refine ⟨tq1, ?_⟩
  rw [tq2 (by decide)]
  by_cases h5 : st.2.2.1.1 = 5
  · exact (h.wr h5).2
  · exact (h.sy h5).1.2.1
theorem t_need {c : Nat} {K : zHp → Nat → Prop} (hd : 11 ≤ d) (hB : zB g ≤ m0) (hs : zStrs g m0 hp) (hT : tTt τ t) (hc : c < 1000) (h : tM τ t st ms) (hK : ∀ τ', tps τ τ' → tOx τ' t (if p_is st c = true then p_nx t st else .inl st.2.1) ms → K (tput g m0 τ' hp) nx) : zMt l g yX5_need cX5_need 2 none d 0 0 [.ref m0, .int (nI c)] (tput g m0 τ hp) nx (zQv g K) := by
  obtain ⟨d, rfl⟩ := Nat.exists_eq_add_of_le' (show 1 ≤ d by omega)
  apply met_X5_need
  unfold wp_X5_need
  rw [tw_zo]
  refine t_isSign (by omega) hc h ?_
  refine ⟨_, fun _ _ h => h, ?_⟩
  by_cases q : p_is st c = true
  · rw [if_pos q] at hK ⊢
    refine ⟨fun h => absurd h (by decide), fun _ => ?_⟩
    rw [tw_zo]
    exact t_nextS (by omega) hB hs hT h (by rw [p_is_3 q]; decide) hK
  · rw [if_neg q] at hK ⊢
    refine ⟨fun _ => ?_, fun h => absurd rfl h⟩
    simp only [tg_isWrong, tp_isWrong, hB, true_and]
    exact hK _ (tps.rf.sI (by omega)) h.bad
theorem t_opens {K : Int32 → zHp → Nat → Prop} (hd : 11 ≤ d) (hB : zB g ≤ m0) (hs : zStrs g m0 hp) (hT : tTt τ t) (h : tM τ t st ms) (h5 : st.2.2.1.1 ≠ 5) (hK : ∀ τ', tps τ τ' → tOx τ' t (p_op t st) ms → K (if st.2.2.2.1 = 4 then 0 else 1) (tput g m0 τ' hp) nx) : zMt l g yX5_opens cX5_opens 1 (some .boolean) d 0 0 [.ref m0] (tput g m0 τ hp) nx (zQi g K) := by
  obtain ⟨d, rfl⟩ := Nat.exists_eq_add_of_le' (show 1 ≤ d by omega)
  obtain ⟨⟨k1, k2, k3, k4, k5, k6⟩, o1, o2, o3, o4, o5, o6⟩ := h.sy h5
  have a := h.1.at
  have w4 := h.1.2.2.1
  apply met_X5_opens
  unfold wp_X5_opens
  simp only [tg_opened, tp_opened, o1]
  unfold p_op at hK
  have e4 : (4 : Int32) = nI 4 := rfl
  rw [e4]
  by_cases q : st.2.2.2.1 = 4
  · rw [if_pos q, if_pos q] at hK
    refine ⟨_, fun _ _ h => h, ?_⟩
    rw [q]
    refine ⟨fun _ => ?_, fun h => absurd rfl h⟩
    simp only [tg_isWrong, tp_isWrong, hB, true_and, tq1]
    exact ⟨fun h => absurd h (by decide), fun _ => hK _ (tps.rf.sI (by omega)) h.bad⟩
  · rw [if_neg q, if_neg q] at hK
    refine ⟨_, fun _ _ h => h, ?_⟩
    refine ⟨fun e => absurd ((nI_eq (by omega) (by decide)).mp e) q, fun _ => ?_⟩
    simp only [tg_isWrong, tp_isWrong, tg_opened, tp_opened, hB, true_and, k3, o1, nI_1]
    refine ⟨fun _ => ?_, fun h => absurd (by trivial) h⟩
    rw [tw_zo]
    have x1 : tps τ (tsI τ 45 (nI (st.2.2.2.1 + 1))) := tps.rf.sI (by omega)
    refine t_nextM (st := p_wo st (st.2.2.2.1 + 1) st.2.2.2.2) (ms := ms) (by omega) hB hs (hT.ps x1) (by rw [tq2 (by decide)]; exact k1) a.2.1 (by show st.2.2.2.1 + 1 ≤ 4; omega) (Nat.le_trans h.1.2.2.2 a.1) (by rw [tq2 (by decide)]; exact k3) tq1 (by rw [tq2 (by decide)]; exact o2) (by rw [tq2 (by decide)]; exact o3) o4 (Nat.le_trans o5 a.1) o6 fun τ' x' q' => ?_
    exact hK τ' (x1.tr x') q'
end PA
