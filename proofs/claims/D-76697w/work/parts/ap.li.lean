set_option maxRecDepth 100000
/-! Integers, the LinkedList of what a formula asks, its iterator: over any heap -/
section LI
variable {l : Launch} {g : zG} {d : Nat} {hp : zHp} {nx : Nat}
/-- the Integers that are kept -/
def cIc (g : zG) (hp : zHp) : Prop := ∃ f, hp g.2.2.2.1 = some (.inl (g.2.1 17, 256, .inr (.inr (.inr (.inr f))))) ∧ ∀ n, n < 30 → ∃ b, f (n + 128) = some b ∧ hp b = some (.inr (41, [.int (nI n)]))
theorem cIc.mo {hp' : zHp} (h : hLe hp hp') (z : cIc g hp) : cIc g hp' := by
  obtain ⟨f, h1, h2⟩ := z
  exact ⟨f, h _ _ h1, fun n hn => by obtain ⟨b, q1, q2⟩ := h2 n hn; exact ⟨b, q1, h _ _ q2⟩⟩
theorem hz_aR {K : Nat → Nat → (Nat → Option Nat) → Prop} {n t : Nat} {f : Nat → Option Nat} {a : Nat} (h : hp a = some (.inl (g.2.1 t, n, .inr (.inr (.inr (.inr f)))))) : zaR (g.2.1 t) hp (some a) K = K a n f := by
  unfold zaR; simp only [h, true_and]
theorem j_val {n : Nat} (hn : n < 30) (hI : cIc g hp) (hd : 1 ≤ d) {K : Option Nat → zHp → Nat → Prop} (hK : ∀ b, hp b = some (.inr (41, [.int (nI n)])) → K (some b) hp nx) : zMt l g yJ15_valueOf cJ15_valueOf 1 (some (.object "java/lang/Integer")) d 0 0 [.int (nI n)] hp nx (zQq g K) := by
  obtain ⟨d, rfl⟩ := Nat.exists_eq_add_of_le' (show 1 ≤ d by omega)
  obtain ⟨f, h1, h2⟩ := hI
  obtain ⟨b, b1, b2⟩ := h2 n hn
  apply met_J15_valueOf
  unfold wp_J15_valueOf
  refine ⟨_, fun _ _ _ _ h => h, ?_⟩
  refine ⟨fun z => ?_, fun _ => ⟨fun z => ?_, fun _ => ?_⟩⟩
  · exact absurd z ((show ∀ n, n < 30 → ¬ nI n < -128 by decide +kernel) n hn)
  · exact absurd z ((show ∀ n, n < 30 → ¬ 127 < nI n by decide +kernel) n hn)
  · rw [hz_aR h1, show nI n + (128 : Int32) = nI (n + 128) from nI_add n 128]
    refine ⟨vp_in_nI (by omega) (by decide), ?_⟩
    intro r e
    rw [nI_clamp (by omega), b1] at e
    subst e
    exact ⟨Nat.le_refl _, Nat.le_refl _, hK b b2⟩
theorem j_int {b : Nat} {x : Int32} (hb : hp b = some (.inr (41, [.int x]))) (hd : 1 ≤ d) {K : Int32 → zHp → Nat → Prop} (hK : K x hp nx) : zMt l g yJ15_intValue cJ15_intValue 1 (some .int) d 0 0 [.ref b] hp nx (zQi g K) := by
  obtain ⟨d, rfl⟩ := Nat.exists_eq_add_of_le' (show 1 ≤ d by omega)
  apply met_J15_intValue
  unfold wp_J15_intValue
  rw [hz_I hb rfl (by decide)]
  exact hK
theorem j_eq {a b : Nat} {x y : Int32} (ha : hp a = some (.inr (41, [.int x]))) (hb : hp b = some (.inr (41, [.int y]))) (hd : 2 ≤ d) {K : Int32 → zHp → Nat → Prop} (h1 : x = y → K 1 hp nx) (h0 : x ≠ y → K 0 hp nx) : zMt l g yJ15_equals cJ15_equals 2 (some .boolean) d 0 0 [.ref a, va_rf (some b)] hp nx (zQi g K) := by
  obtain ⟨d, rfl⟩ := Nat.exists_eq_add_of_le' (show 1 ≤ d by omega)
  apply met_J15_equals
  unfold wp_J15_equals
  refine ⟨⟨b, 41, _, rfl, hb, by decide⟩, fun z => absurd z (by decide), fun _ => ?_⟩
  rw [hz_I ha rfl (by decide)]
  refine ⟨fun q e => by cases e; exact ⟨41, _, hb, by decide⟩, ?_⟩
  rw [hz_o hb (by decide)]
  refine j_int hb (by omega) ?_
  refine ⟨_, fun _ _ _ h => h, ?_⟩
  exact ⟨fun z => ⟨Or.inr rfl, h1 z⟩, fun z => ⟨Or.inl rfl, h0 z⟩⟩
theorem j_contains {a b n : Nat} {ts : List Nat} (hA : cAs hp a ts) (hb : hp b = some (.inr (41, [.int (nI n)]))) (hn : n < 30) (ht : ∀ t ∈ ts, t < 30) (hl : ts.length ≤ 96) (hd : 4 ≤ d) {K : Int32 → zHp → Nat → Prop} (h1 : n ∈ ts → K 1 hp nx) (h0 : ¬ n ∈ ts → K 0 hp nx) : zMt l g yJ27_contains cJ27_contains 2 (some .boolean) d 0 0 [.ref a, va_rf (some b)] hp nx (zQi g K) := by
  obtain ⟨d, rfl⟩ := Nat.exists_eq_add_of_le' (show 1 ≤ d by omega)
  obtain ⟨md, r, la, q1, q2, -⟩ := hA
  apply met_J27_contains
  unfold wp_J27_contains
  rw [hz_o q1 (by decide)]
  obtain ⟨d, rfl⟩ := Nat.exists_eq_add_of_le' (show 1 ≤ d by omega)
  apply met_J27_indexOf
  unfold wp_J27_indexOf
  have fin0 : ¬ n ∈ ts → ∃ P_13 : Int32 → zHp → Nat → Prop, (∀ (x_4 : Int32) (hp_5 : zHp) (nx_6 : Nat), P_13 x_4 hp_5 nx_6 → (x_4 = 0 ∨ x_4 = 1) ∧ K x_4 hp_5 nx_6) ∧ (((-1 : Int32) < 0 → P_13 0 hp nx) ∧ (¬ (-1 : Int32) < 0 → P_13 1 hp nx)) := fun z => ⟨_, fun _ _ _ h => h, fun _ => ⟨Or.inl rfl, h0 z⟩, fun y => absurd (by decide) y⟩
  refine ⟨fun x r hp1 nx1 => ¬ n ∈ ts ∧ hp1 = hp ∧ nx = nx1, ?_, fun z => (by cases z), fun _ => ?_⟩
  · rintro x r hp1 nx1 ⟨z, rfl, rfl⟩
    exact fin0 z
  rw [hz_R q1 (r := r) rfl (by decide)]
  refine ⟨fun k x r hp1 nx1 => ∃ t1 t2, ts = t1 ++ t2 ∧ k = t2.length ∧ x = nI t1.length ∧ cNe hp r t2 ∧ (∀ t ∈ t1, t ≠ n) ∧ hp1 = hp ∧ nx = nx1, ⟨_, [], ts, rfl, rfl, rfl, q2, fun t h => (by cases h), rfl, rfl⟩, ?_⟩
  rintro k x r hp1 nx1 ⟨t1, t2, e1, rfl, rfl, h2, h3, rfl, rfl⟩
  refine ⟨fun z => ?_, fun z => ?_⟩
  · refine ⟨?_, rfl, rfl⟩
    cases t2 with
    | nil =>
      rw [List.append_nil] at e1
      rw [e1]
      exact fun y => h3 n y rfl
    | cons t t2 =>
      obtain ⟨a', b', r2, pv, y1, -⟩ := h2
      rw [z] at y1; cases y1
  · cases t2 with
    | nil => exact absurd h2 z
    | cons t t2 =>
      obtain ⟨a', b', r2, pv, y1, y2, y3, y4⟩ := h2
      subst y1
      rw [hz_R y2 (r := some b') rfl (by decide), hz_o hb (by decide)]
      have htt : t < 30 := ht t (by rw [e1]; simp)
      refine j_eq hb y3 (by omega) (fun y => ?_) (fun y => ?_)
      · have y : n = t := (nI_eq (by omega) (by omega)).mp y
        refine ⟨fun w => absurd w (by decide), fun _ => ?_⟩
        have hlen : t1.length < 2 ^ 31 := by rw [e1, List.length_append] at hl; omega
        refine ⟨_, fun _ _ _ h => h, fun w => absurd w (nI_pos hlen), fun _ => ⟨Or.inr rfl, h1 ?_⟩⟩
        rw [e1, y]; simp
      · refine ⟨fun _ => ?_, fun w => absurd rfl w⟩
        rintro x21 rfl
        rw [hz_R y2 (r := r2) rfl (by decide)]
        refine ⟨t2.length, by simp, t1 ++ [t], t2, by rw [e1]; simp, rfl, by rw [List.length_append, List.length_singleton, nI_succ], y4, fun q hq => ?_, rfl, rfl⟩
        rcases List.mem_append.mp hq with hq | hq
        · exact h3 q hq
        · rw [List.mem_singleton] at hq
          rw [hq]
          exact fun e => y (by rw [e])
theorem zNf_38 : zNf 38 = [va_rf none, va_rf none, .int 0, .int 0, va_rf none] := by decide +kernel
theorem zNn_38 : zNn 38 = 5 := by decide +kernel
/-- an iterator at q over the list at a: what comes, how many came -/
def cIt (hp : zHp) (q a : Nat) (ts : List Nat) (i : Nat) : Prop := ∃ md r la nxt lr, hp a = some (.inr (36, [.int md, .int (nI ts.length), va_rf r, la])) ∧ hp q = some (.inr (38, [lr, va_rf nxt, .int (nI i), .int md, .ref a])) ∧ cNe hp nxt (ts.drop i) ∧ i ≤ ts.length
theorem j_node {a : Nat} {ts : List Nat} {md : Int32} {r la : Option Nat} (q1 : hp a = some (.inr (36, [.int md, .int (nI ts.length), va_rf r, va_rf la]))) (h1 : ts.length = 1 → la = r) (h0 : ts.length ≠ 0) (hl : ts.length ≤ 96) (hd : 1 ≤ d) {K : Option Nat → zHp → Nat → Prop} (hK : K r hp nx) : zMt l g yJ27_node cJ27_node 4 (some (.object "java/util/LinkedList$Node")) d 0 0 [.ref a, .int 0] hp nx (zQq g K) := by
  obtain ⟨d, rfl⟩ := Nat.exists_eq_add_of_le' (show 1 ≤ d by omega)
  apply met_J27_node
  unfold wp_J27_node
  rw [hz_I q1 (x := nI ts.length) rfl (by decide)]
  have sh : nI ts.length >>> ((1 : Int32) &&& 31) = nI (ts.length / 2) := (show ∀ n, n < 97 → nI n >>> ((1 : Int32) &&& 31) = nI (n / 2) by decide +kernel) _ (by omega)
  rw [sh]
  refine ⟨fun z => ?_, fun z => ?_⟩
  · have e1 : ts.length = 1 := by
      have := (nI_leI (a := ts.length / 2) (b := 0) (by omega) (by decide)).mp z
      omega
    rw [hz_R q1 (r := la) rfl (by decide), hz_I q1 (x := nI ts.length) rfl (by decide), e1]
    rintro x13 rfl
    refine ⟨fun n r' x => r' = la ∧ x = 0, ⟨0, rfl, by decide⟩, ?_⟩
    rintro n r' x ⟨rfl, rfl⟩
    refine ⟨fun _ => ?_, fun z => absurd (by decide) z⟩
    rw [h1 e1]
    exact hK
  · rw [hz_R q1 (r := r) rfl (by decide)]
    refine ⟨fun n r' x => r' = r ∧ x = 0, ⟨0, rfl, rfl⟩, ?_⟩
    rintro n r' x ⟨rfl, rfl⟩
    exact ⟨fun _ => hK, fun z => absurd (by decide) z⟩
theorem j_iter {a : Nat} {ts : List Nat} (hA : cAs hp a ts) (hl : ts.length ≤ 96) (hd : 5 ≤ d) {K : Option Nat → zHp → Nat → Prop} (hK : ∀ fs, (∀ (b : Nat) (e : va_E), hp b = some e → b < nx) → zB g ≤ nx → cIt (va_up hp nx (some (.inr (38, fs)))) nx a ts 0 → fs.length = 5 → K (some nx) (va_up hp nx (some (.inr (38, fs)))) (nx + 1)) : zMt l g yJ26_iterator cJ26_iterator 1 (some (.object "java/util/Iterator")) d 1 5 [.ref a] hp nx (zQq g K) := by
  obtain ⟨d, rfl⟩ := Nat.exists_eq_add_of_le' (show 4 ≤ d by omega)
  obtain ⟨md, r, la, q1, q2, q3⟩ := hA
  apply met_J26_iterator
  unfold wp_J26_iterator
  refine ⟨1, 5, by decide, by decide, ?_⟩
  rw [hz_o q1 (by decide)]
  apply met_J25_listIterator
  unfold wp_J25_listIterator
  refine ⟨1, 5, by decide, by decide, ?_⟩
  rw [hz_o q1 (by decide)]
  apply met_J27_listIterator
  unfold wp_J27_listIterator
  refine ⟨by decide, by decide, ?_⟩
  rw [hz_o q1 (by decide)]
  apply met_J27_checkPositionIndex
  unfold wp_J27_checkPositionIndex
  rw [hz_o q1 (by decide)]
  obtain ⟨d, rfl⟩ := Nat.exists_eq_add_of_le' (show 1 ≤ d by omega)
  apply met_J27_isPositionIndex
  unfold wp_J27_isPositionIndex
  refine ⟨fun x => x = 1, ?_, ?_⟩
  rotate_left
  · refine ⟨False, fun z => z.elim, fun z => absurd z (by decide), fun _ => ?_⟩
    rw [hz_I q1 (x := nI ts.length) rfl (by decide)]
    exact ⟨fun z => absurd z (nI_pos (by omega)), fun _ => rfl⟩
  rintro x rfl
  refine ⟨Or.inr rfl, fun z => absurd z (by decide), fun _ => ?_⟩
  refine ⟨by decide, by rw [zNn_38]; decide, fun hf hz => ?_⟩
  rintro nx4 kc5 ks6 rfl rfl rfl
  refine ⟨by decide, by rw [zNn_38]; decide, ?_⟩
  have hne : nx ≠ a := fun e => by have := hf a _ q1; omega
  have an : ∀ {v : Option va_E}, va_up hp nx v a = some (.inr (36, [.int md, .int (nI ts.length), va_rf r, va_rf la])) := fun {v} => by rw [va_o (fun e => hne e.symm)]; exact q1
  have sn : ∀ {fs : List Value}, va_up hp nx (some (.inr (38, fs))) nx = some (.inr (38, fs)) := fun {fs} => va_s
  rw [zNf_38]
  apply met_J21_init
  unfold wp_J21_init
  rw [hz_p sn (by decide) (show 4 < 5 by decide)]
  refine ⟨hz, ?_⟩
  rw [cva_uu]
  show zgR (va_up hp nx (some (.inr (38, [va_rf none, va_rf none, .int 0, .int 0, va_rf (some a)])))) (some nx) [38] 4 _
  rw [hz_R sn (r := some a) rfl (by decide), hz_I an (x := md) rfl (by decide), hz_p sn (by decide) (show 3 < 5 by decide)]
  refine ⟨hz, ?_⟩
  rw [cva_uu]
  show zgI (va_up hp nx (some (.inr (38, [va_rf none, va_rf none, .int 0, .int md, va_rf (some a)])))) (some a) [36] 1 _
  rw [hz_I an (x := nI ts.length) rfl (by decide)]
  refine ⟨fun r1 r2 hp1 nx1 => r1 = some nx ∧ r2 = r ∧ hp1 = va_up hp nx (some (.inr (38, [va_rf none, va_rf none, .int 0, .int md, va_rf (some a)]))) ∧ nx1 = nx + 1, ?_, fun z => ?_, fun z => ?_⟩
  · rintro r1 r2 hp1 nx1 ⟨rfl, rfl, rfl, rfl⟩
    rw [hz_p sn (by decide) (show 1 < 5 by decide)]
    refine ⟨hz, ?_⟩
    rw [cva_uu]
    show zpt g (va_up hp nx (some (.inr (38, [va_rf none, va_rf r2, .int 0, .int md, va_rf (some a)])))) (some nx) [38] 2 (.int 0) _
    rw [hz_p sn (by decide) (show 2 < 5 by decide)]
    refine ⟨hz, ?_⟩
    rw [cva_uu]
    refine ⟨by decide, by rw [zNn_38]; decide, by decide, by decide, by decide, by decide, ?_⟩
    refine hK _ hf hz ⟨md, r2, va_rf la, r2, _, an, sn, ?_, Nat.zero_le _⟩ rfl
    rw [List.drop_zero]
    exact cNe.mo (hLe.up (by cases h : hp nx with | none => rfl | some e => exact absurd (hf nx e h) (Nat.lt_irrefl _))) _ _ q2
  · have e0 : ts.length = 0 := ((nI_eq (a := 0) (b := ts.length) (by decide) (by omega)).mp z).symm
    have : r = none := by
      cases ts with
      | nil => exact q2
      | cons t ts => simp at e0
    exact ⟨rfl, this.symm, rfl, rfl⟩
  · have e0 : ts.length ≠ 0 := fun e => z (by rw [e]; rfl)
    rw [hz_o an (by decide)]
    exact j_node an q3 e0 hl (by omega) ⟨rfl, rfl, rfl, rfl⟩
theorem j_hasNext {q a i : Nat} {ts : List Nat} (h : cIt hp q a ts i) (hl : ts.length ≤ 96) (hd : 1 ≤ d) {K : Int32 → zHp → Nat → Prop} (h0 : i = ts.length → K 0 hp nx) (h1 : i < ts.length → K 1 hp nx) : zMt l g yJ21_hasNext cJ21_hasNext 1 (some .boolean) d 0 0 [.ref q] hp nx (zQi g K) := by
  obtain ⟨d, rfl⟩ := Nat.exists_eq_add_of_le' (show 1 ≤ d by omega)
  obtain ⟨md, r, la, nxt, lr, a1, a2, a3, a4⟩ := h
  apply met_J21_hasNext
  unfold wp_J21_hasNext
  rw [hz_I a2 (x := nI i) rfl (by decide), hz_R a2 (r := some a) rfl (by decide), hz_I a1 (x := nI ts.length) rfl (by decide)]
  refine ⟨_, fun _ h => h, ?_⟩
  exact pk_le ts.length i (fun z => ⟨Or.inl rfl, h0 (by omega)⟩) (fun z => ⟨Or.inr rfl, h1 z⟩)
theorem j_next {q a i t : Nat} {ts ts2 : List Nat} (h : cIt hp q a ts i) (ht : ts.drop i = t :: ts2) (hq : zB g ≤ q) (hl : ts.length ≤ 96) (hd : 2 ≤ d) {K : Option Nat → zHp → Nat → Prop} (hK : ∀ fs b, fs.length = 5 → va_up hp q (some (.inr (38, fs))) b = some (.inr (41, [.int (nI t)])) → cIt (va_up hp q (some (.inr (38, fs)))) q a ts (i + 1) → K (some b) (va_up hp q (some (.inr (38, fs)))) nx) : zMt l g yJ21_next cJ21_next 1 (some (.object "java/lang/Object")) d 0 0 [.ref q] hp nx (zQq g K) := by
  obtain ⟨d, rfl⟩ := Nat.exists_eq_add_of_le' (show 1 ≤ d by omega)
  have hI := h
  obtain ⟨md, r, la, nxt, lr, a1, a2, a3, a4⟩ := h
  rw [ht] at a3
  obtain ⟨nd, b, r2, pv, y1, y2, y3, y4⟩ := a3
  subst y1
  have hlt : i < ts.length := by
    by_cases e : i < ts.length
    · exact e
    · rw [List.drop_eq_nil_of_le (by omega)] at ht; cases ht
  have n1 : a ≠ q := fun e => by rw [e, a2] at a1; cases a1
  have n2 : nd ≠ q := fun e => by rw [e, a2] at y2; cases y2
  have n3 : b ≠ q := fun e => by rw [e, a2] at y3; cases y3
  have sn : ∀ {fs : List Value}, va_up hp q (some (.inr (38, fs))) q = some (.inr (38, fs)) := fun {fs} => va_s
  have nn : ∀ {fs : List Value}, va_up hp q (some (.inr (38, fs))) nd = some (.inr (37, [.ref b, va_rf r2, pv])) := fun {fs} => by rw [va_o n2]; exact y2
  apply met_J21_next
  unfold wp_J21_next
  rw [hz_o a2 (by decide)]
  obtain ⟨d, rfl⟩ := Nat.exists_eq_add_of_le' (show 1 ≤ d by omega)
  apply met_J21_checkForComodification
  unfold wp_J21_checkForComodification
  rw [hz_R a2 (r := some a) rfl (by decide), hz_I a1 (x := md) rfl (by decide), hz_I a2 (x := md) rfl (by decide)]
  refine ⟨fun _ => ?_, fun z => absurd rfl z⟩
  show zo hp (some q) [38] _
  rw [hz_o a2 (by decide)]
  refine j_hasNext hI hl (by omega) (fun e => absurd e (by omega)) (fun _ => ?_)
  refine ⟨fun z => absurd z (by decide), fun _ => ?_⟩
  rw [hz_R a2 (r := some nd) rfl (by decide), hz_p a2 (by decide) (show 0 < 5 by decide)]
  refine ⟨hq, ?_⟩
  show zgR (va_up hp q (some (.inr (38, [va_rf (some nd), va_rf (some nd), .int (nI i), .int md, .ref a])))) (some q) [38] 1 _
  rw [hz_R sn (r := some nd) rfl (by decide), hz_R nn (r := r2) rfl (by decide), hz_p sn (by decide) (show 1 < 5 by decide)]
  refine ⟨hq, ?_⟩
  rw [cva_uu]
  show zgI (va_up hp q (some (.inr (38, [va_rf (some nd), va_rf r2, .int (nI i), .int md, .ref a])))) (some q) [38] 2 _
  rw [hz_I sn (x := nI i) rfl (by decide), hz_p sn (by decide) (show 2 < 5 by decide)]
  refine ⟨hq, ?_⟩
  rw [cva_uu]
  show zgR (va_up hp q (some (.inr (38, [va_rf (some nd), va_rf r2, .int (nI i + 1), .int md, .ref a])))) (some q) [38] 0 _
  rw [hz_R sn (r := some nd) rfl (by decide), hz_R nn (r := some b) rfl (by decide)]
  refine hK _ b rfl (by rw [va_o n3]; exact y3) ⟨md, r, la, r2, va_rf (some nd), by rw [va_o n1]; exact a1, by rw [va_s, nI_1]; rfl, ?_, by omega⟩
  have e2 : ts.drop (i + 1) = ts2 := by
    have := congrArg (List.drop 1) ht
    rw [List.drop_drop] at this
    rw [this]; rfl
  rw [e2]
  clear hI ht
  have : ∀ (ts : List Nat) (r : Option Nat), cNe hp r ts → cNe (va_up hp q (some (.inr (38, [va_rf (some nd), va_rf r2, .int (nI i + 1), .int md, .ref a])))) r ts := by
    intro ts
    induction ts with
    | nil => intro r z; exact z
    | cons t ts ih =>
      rintro r ⟨a', b', r3, pv', z1, z2, z3, z4⟩
      exact ⟨a', b', r3, pv', z1, by rw [va_o (fun e => by rw [e, a2] at z2; cases z2)]; exact z2, by rw [va_o (fun e => by rw [e, a2] at z3; cases z3)]; exact z3, ih _ z4⟩
  exact this _ _ y4
end LI
