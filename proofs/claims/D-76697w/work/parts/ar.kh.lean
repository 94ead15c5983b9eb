set_option maxRecDepth 100000
/-! all that names is gone through behind what it names: no program in sight -/
section KH
variable {NM : Nat → Nat → Prop} {ds qs : List Nat} {w : Nat → Nat} {m k : Nat}
theorem nd_cn : ∀ {l : List Nat}, l.Nodup → ∀ {n : Nat}, (∀ x ∈ l, x < n) → s_cn (fun x => x ∈ l) n = l.length := by
  intro l
  induction l with
  | nil =>
    intro _ n _
    unfold s_cn
    exact (s_sm_congr (h := fun _ => 0) (fun k _ => s_if_n (by simp))).trans (s_sm_zero n)
  | cons a l ih =>
    intro hn n hl
    rw [List.nodup_cons] at hn
    have e := ih hn.2 (n := n) (fun x hx => hl x (List.mem_cons_of_mem _ hx))
    rw [List.length_cons, ← e]
    unfold s_cn
    refine s_sm_1 (j := a) (w := 1) (hl a (List.mem_cons_self ..)) (fun k hk hne => ?_) ?_
    · by_cases q : k ∈ l
      · rw [s_if_p q, s_if_p (List.mem_cons_of_mem _ q)]
      · rw [s_if_n q, s_if_n (fun z => (List.mem_cons.mp z).elim hne q)]
    · rw [s_if_p (List.mem_cons_self ..), s_if_n hn.1]
theorem nd_le {l : List Nat} (hn : l.Nodup) {n : Nat} (hl : ∀ x ∈ l, x < n) : l.length ≤ n := by
  rw [← nd_cn hn hl]; exact s_cn_le _ _
theorem cn_ex {p : Nat → Prop} {n : Nat} (h : s_cn p n ≠ 0) : ∃ k, k < n ∧ p k := by
  by_cases e : ∃ k, k < n ∧ p k
  · exact e
  · exfalso
    apply h
    unfold s_cn
    exact (s_sm_congr (h := fun _ => 0) (fun k hk => s_if_n (fun z => e ⟨k, hk, z⟩))).trans (s_sm_zero n)
theorem cn_0 {p : Nat → Prop} {n : Nat} (h : s_cn p n = 0) {k : Nat} (hk : k < n) : ¬ p k := fun z => by
  have := s_cn_lt (p := fun _ => False) (q := p) (fun _ _ q => q.elim) hk z (fun q => q)
  omega
/-- what waits for how many -/
noncomputable def kW (NM : Nat → Nat → Prop) (ds : List Nat) (n : Nat) : Nat := s_cn (fun m => NM n m ∧ ¬ m ∈ ds) 30
def kB (ds qs : List Nat) (w : Nat → Nat) : Prop := (ds ++ qs).Nodup ∧ (∀ n ∈ ds ++ qs, n < 30) ∧ ∀ n, n < 30 → (n ∈ ds ++ qs ↔ w n = 0)
def kI (NM : Nat → Nat → Prop) (ds qs : List Nat) (w : Nat → Nat) : Prop := kB ds qs w ∧ ∀ n, n < 30 → w n = kW NM ds n
def kJ (NM : Nat → Nat → Prop) (ds : List Nat) (m : Nat) (qs : List Nat) (k : Nat) (w : Nat → Nat) : Prop := kB (ds ++ [m]) qs w ∧ ∀ n, n < 30 → w n = if n < k then kW NM (ds ++ [m]) n else kW NM ds n
/-- those that are done have a rank -/
def kR (NM : Nat → Nat → Prop) (ds : List Nat) : Prop := ∃ rk : Nat → Nat, ∀ n ∈ ds, rk n < ds.length ∧ ∀ m, m < 30 → NM n m → m ∈ ds ∧ rk m < rk n
theorem kB.len (h : kB ds qs w) : ds.length + qs.length ≤ 30 := by rw [← List.length_append]; exact nd_le h.1 h.2.1
theorem kJ_0 (h : kI NM ds (m :: qs) w) : kJ NM ds m qs 0 w := by
  obtain ⟨⟨h1, h2, h3⟩, h4⟩ := h
  have e : ds ++ m :: qs = (ds ++ [m]) ++ qs := by simp
  rw [e] at h1 h2 h3
  exact ⟨⟨h1, h2, h3⟩, fun n hn => by rw [if_neg (Nat.not_lt_zero _)]; exact h4 n hn⟩
theorem kI_mw (h : kI NM ds (m :: qs) w) : m < 30 ∧ ¬ m ∈ ds ∧ kW NM ds m = 0 := by
  obtain ⟨⟨h1, h2, h3⟩, h4⟩ := h
  have hm : m ∈ ds ++ m :: qs := by simp
  have h30 := h2 m hm
  refine ⟨h30, fun z => ?_, ?_⟩
  · rw [List.nodup_append] at h1
    exact h1.2.2 m z m (by simp) rfl
  · rw [← h4 m h30]
    exact (h3 m h30).mp hm
theorem kR_add (h : kR NM ds) (hm : ¬ m ∈ ds) (h0 : kW NM ds m = 0) : kR NM (ds ++ [m]) := by
  obtain ⟨rk, hr⟩ := h
  refine ⟨fun x => if x = m then ds.length else rk x, fun n hn => ?_⟩
  rw [List.length_append, List.length_singleton]
  rcases List.mem_append.mp hn with hn | hn
  · have hne : n ≠ m := fun e => hm (by rw [← e]; exact hn)
    obtain ⟨a1, a2⟩ := hr n hn
    refine ⟨by simp only [if_neg hne]; omega, fun q hq hx => ?_⟩
    obtain ⟨b1, b2⟩ := a2 q hq hx
    have hne2 : q ≠ m := fun e => hm (by rw [← e]; exact b1)
    exact ⟨List.mem_append_left _ b1, by simp only [if_neg hne, if_neg hne2]; exact b2⟩
  · rw [List.mem_singleton] at hn
    subst hn
    refine ⟨by simp, fun q hq hx => ?_⟩
    have hqd : q ∈ ds := by
      by_cases z : q ∈ ds
      · exact z
      · exact absurd ⟨hx, z⟩ (cn_0 h0 hq)
    have hne2 : q ≠ n := fun e => hm (by rw [← e]; exact hqd)
    exact ⟨List.mem_append_left _ hqd, by simp only [if_neg hne2, if_true]; exact (hr q hqd).1⟩
theorem kW_no (h : ¬ NM k m) : kW NM (ds ++ [m]) k = kW NM ds k := by
  unfold kW
  refine s_cn_congr (fun x _ => ⟨fun ⟨a, b⟩ => ⟨a, fun z => b (List.mem_append_left _ z)⟩, fun ⟨a, b⟩ => ⟨a, fun z => ?_⟩⟩)
  rcases List.mem_append.mp z with z | z
  · exact b z
  · rw [List.mem_singleton] at z; rw [z] at a; exact h a
theorem kW_yes (h : NM k m) (hm : ¬ m ∈ ds) (h30 : m < 30) : kW NM ds k = kW NM (ds ++ [m]) k + 1 := by
  unfold kW s_cn
  refine s_sm_1 (j := m) h30 (fun x _ hne => ?_) ?_
  · by_cases q : NM k x ∧ ¬ x ∈ ds
    · rw [s_if_p q, s_if_p ⟨q.1, fun z => (List.mem_append.mp z).elim q.2 (fun y => hne (List.mem_singleton.mp y))⟩]
    · rw [s_if_n q, s_if_n (fun z => q ⟨z.1, fun y => z.2 (List.mem_append_left _ y)⟩)]
  · rw [s_if_p ⟨h, hm⟩, s_if_n (fun z => z.2 (by simp))]
theorem kJ_n (h : kJ NM ds m qs k w) (hn : ¬ NM k m) : kJ NM ds m qs (k + 1) w := by
  refine ⟨h.1, fun n hn2 => ?_⟩
  rw [h.2 n hn2]
  by_cases e : n < k
  · rw [if_pos e, if_pos (by omega)]
  · rw [if_neg e]
    by_cases e2 : n = k
    · subst e2; rw [if_pos (by omega), kW_no hn]
    · rw [if_neg (by omega)]
theorem kJ_y (h : kJ NM ds m qs k w) (hk : k < 30) (hn : NM k m) (hm : ¬ m ∈ ds) (h30 : m < 30) : ∃ v, w k = v + 1 ∧ (v = 0 → kJ NM ds m (qs ++ [k]) (k + 1) (va_up w k 0)) ∧ (v ≠ 0 → kJ NM ds m qs (k + 1) (va_up w k v)) := by
  obtain ⟨⟨h1, h2, h3⟩, h4⟩ := h
  have ew := h4 k hk
  rw [if_neg (Nat.lt_irrefl _), kW_yes hn hm h30] at ew
  have hno : ¬ k ∈ (ds ++ [m]) ++ qs := fun z => by have := (h3 k hk).mp z; omega
  have hw : ∀ v, v = kW NM (ds ++ [m]) k → ∀ n, n < 30 → va_up w k v n = if n < k + 1 then kW NM (ds ++ [m]) n else kW NM ds n := by
    intro v hv n hn2
    by_cases e : n = k
    · subst e; rw [va_s, if_pos (by omega), hv]
    · rw [va_o e, h4 n hn2]
      by_cases e2 : n < k
      · rw [if_pos e2, if_pos (by omega)]
      · rw [if_neg e2, if_neg (by omega)]
  refine ⟨_, ew, fun hv => ⟨⟨?_, ?_, ?_⟩, hw 0 hv.symm⟩, fun hv => ⟨⟨h1, h2, ?_⟩, hw _ rfl⟩⟩
  · rw [← List.append_assoc, List.nodup_append]
    refine ⟨h1, by simp, fun a ha b hb e => ?_⟩
    rw [List.mem_singleton] at hb
    rw [e, hb] at ha
    exact hno ha
  · intro n hn2
    rw [← List.append_assoc] at hn2
    rcases List.mem_append.mp hn2 with z | z
    · exact h2 n z
    · rw [List.mem_singleton] at z; rw [z]; exact hk
  · intro n hn2
    rw [← List.append_assoc, List.mem_append, List.mem_singleton]
    by_cases e : n = k
    · subst e
      rw [va_s]
      exact ⟨fun _ => rfl, fun _ => Or.inr rfl⟩
    · rw [va_o e, ← h3 n hn2]
      exact ⟨fun z => z.resolve_right e, Or.inl⟩
  · intro n hn2
    by_cases e : n = k
    · subst e
      rw [va_s]
      exact ⟨fun z => absurd z hno, fun z => absurd z hv⟩
    · rw [va_o e]; exact h3 n hn2
theorem kJ_30 (h : kJ NM ds m qs 30 w) : kI NM (ds ++ [m]) qs w := ⟨h.1, fun n hn => by rw [h.2 n hn, if_pos hn]⟩
/-- those that stand so far -/
def kS (NM : Nat → Nat → Prop) (k : Nat) (qs : List Nat) (w : Nat → Nat) : Prop := qs.Nodup ∧ (∀ n ∈ qs, n < k) ∧ (∀ n, n < k → (n ∈ qs ↔ w n = 0)) ∧ ∀ n, n < k → w n = kW NM [] n
theorem kS_0 : kS NM 0 [] w := ⟨List.nodup_nil, fun n h => (by cases h), fun n h => absurd h (Nat.not_lt_zero _), fun n h => absurd h (Nat.not_lt_zero _)⟩
theorem kS_s (h : kS NM k qs w) {v : Nat} (hv : v = kW NM [] k) : (v = 0 → kS NM (k + 1) (qs ++ [k]) (va_up w k v)) ∧ (v ≠ 0 → kS NM (k + 1) qs (va_up w k v)) := by
  obtain ⟨h1, h2, h3, h4⟩ := h
  have hno : ¬ k ∈ qs := fun z => by have := h2 k z; omega
  have hw : ∀ n, n < k + 1 → va_up w k v n = kW NM [] n := fun n hn => by
    by_cases e : n = k
    · subst e; rw [va_s]; exact hv
    · rw [va_o e]; exact h4 n (by omega)
  refine ⟨fun z => ⟨?_, ?_, fun n hn => ?_, hw⟩, fun z => ⟨h1, fun n hn => by have := h2 n hn; omega, fun n hn => ?_, hw⟩⟩
  · rw [List.nodup_append]
    refine ⟨h1, by simp, fun a ha b hb e => ?_⟩
    rw [List.mem_singleton] at hb
    rw [e, hb] at ha
    exact hno ha
  · intro n hn
    rcases List.mem_append.mp hn with y | y
    · have := h2 n y; omega
    · rw [List.mem_singleton] at y; omega
  · rw [List.mem_append, List.mem_singleton]
    by_cases e : n = k
    · subst e; rw [va_s]; exact ⟨fun _ => z, fun _ => Or.inr rfl⟩
    · rw [va_o e, ← h3 n (by omega)]
      exact ⟨fun y => y.resolve_right e, Or.inl⟩
  · by_cases e : n = k
    · subst e; rw [va_s]; exact ⟨fun y => absurd y hno, fun y => absurd y z⟩
    · rw [va_o e]; exact h3 n (by omega)
theorem kS_30 (h : kS NM 30 qs w) : kI NM [] qs w := ⟨⟨h.1, h.2.1, h.2.2.1⟩, h.2.2.2⟩
def kRk (NM : Nat → Nat → Prop) : Prop := ∃ rk : Nat → Nat, ∀ n m, n < 30 → m < 30 → NM n m → rk m < rk n
theorem k_all (h : kI NM ds [] w) (hl : ¬ ds.length < 30) : ∀ n, n < 30 → n ∈ ds := by
  intro n hn
  by_cases z : n ∈ ds
  · exact z
  · have a := nd_cn (l := ds) (by have := h.1.1; rw [List.append_nil] at this; exact this) (n := 30) (fun x hx => h.1.2.1 x (by rw [List.append_nil]; exact hx))
    have b := s_cn_ltn (p := fun x => x ∈ ds) hn z
    omega
theorem k_no (h : kI NM ds [] w) (hl : ds.length < 30) : ¬ kRk NM := by
  rintro ⟨rk, hr⟩
  have key : ∀ r n, rk n = r → n < 30 → ¬ n ∈ ds → False := by
    intro r
    induction r using Nat.strongRecOn with
    | ind r ih =>
      intro n hn h30 hd
      have hw : w n ≠ 0 := fun z => hd (by have := (h.1.2.2 n h30).mpr z; rw [List.append_nil] at this; exact this)
      rw [h.2 n h30] at hw
      obtain ⟨m, m1, m2, m3⟩ := cn_ex hw
      have := hr n m h30 m1 m2
      exact ih (rk m) (by omega) m rfl m1 m3
  by_cases z : ∃ n, n < 30 ∧ ¬ n ∈ ds
  · obtain ⟨n, n1, n2⟩ := z
    exact key _ n rfl n1 n2
  · have hall : ∀ n, n < 30 → n ∈ ds := fun n hn => by
      by_cases y : n ∈ ds
      · exact y
      · exact absurd ⟨n, hn, y⟩ z
    have a := nd_cn (l := ds) (by have := h.1.1; rw [List.append_nil] at this; exact this) (n := 30) (fun x hx => h.1.2.1 x (by rw [List.append_nil]; exact hx))
    have b : s_cn (fun x => x ∈ ds) 30 = s_cn (fun _ => True) 30 := s_cn_congr (fun k hk => ⟨fun _ => trivial, fun _ => hall k hk⟩)
    have c : s_cn (fun _ => True) 30 = 30 := by
      unfold s_cn
      exact (s_sm_congr (h := fun _ => 1) (fun k _ => s_if_p trivial)).trans (s_sm_one 30)
    omega
theorem k_yes (h : kI NM ds [] w) (hR : kR NM ds) (hl : ¬ ds.length < 30) : kRk NM := by
  obtain ⟨rk, hr⟩ := hR
  exact ⟨rk, fun n m hn hm hx => ((hr n (k_all h hl n hn)).2 m hm hx).2⟩
/-- ranks of what names and ranks of the sheet -/
theorem k_rk {fm : sF} {ly : sY} (hm : s_mo fm) (hT : ∀ t, t < 6 → ∀ L, ly t = some L → L.1 < 24) : kRk (sNm fm ly) ↔ ∃ rk, s_rk fm ly rk := by
  constructor
  · rintro ⟨rk, hr⟩
    obtain ⟨r2, e2⟩ : ∃ r2 : Nat → Nat, ∀ x, (24 ≤ x → ly (x - 24) = none → r2 x = 0) ∧ (¬ (24 ≤ x ∧ ly (x - 24) = none) → r2 x = rk x + 1) := by
      refine ⟨fun x => s_if (24 ≤ x ∧ ly (x - 24) = none) 0 (rk x + 1), fun x => ⟨fun a b => s_if_p ⟨a, b⟩, fun a => s_if_n a⟩⟩
    refine ⟨r2, fun c hc m hmc h => ?_, fun c hc m hmc h => ?_, fun t ht L hL => ⟨hT t ht L hL, ?_⟩⟩
    · rw [(e2 m.1).2 (by omega), (e2 c).2 (by omega)]
      have := hr c m.1 (by omega) (by omega) (by unfold sNm; rw [if_pos hc, if_pos h]; exact ⟨m, hmc, rfl⟩)
      omega
    · have h6 := hm c hc m hmc h
      rw [(e2 c).2 (by omega)]
      by_cases z : ly (m.1 % 10) = none
      · rw [(e2 (24 + m.1 % 10)).1 (by omega) (by rw [show 24 + m.1 % 10 - 24 = m.1 % 10 by omega]; exact z)]
        omega
      · rw [(e2 (24 + m.1 % 10)).2 (by rw [show 24 + m.1 % 10 - 24 = m.1 % 10 by omega]; exact fun y => z y.2)]
        have := hr c (24 + m.1 % 10) (by omega) (by omega) (by
          unfold sNm
          rw [if_pos hc, if_neg (by omega), show 24 + m.1 % 10 - 24 = m.1 % 10 by omega]
          exact ⟨z, s_at_in.mpr ⟨m, hmc, h, rfl⟩⟩)
        omega
    · have hL24 := hT t ht L hL
      rw [(e2 L.1).2 (by omega), (e2 (24 + t)).2 (by rw [show 24 + t - 24 = t by omega, hL]; exact fun y => by cases y.2)]
      have := hr (24 + t) L.1 (by omega) (by omega) (by unfold sNm; rw [if_neg (by omega), show 24 + t - 24 = t by omega]; exact ⟨L, hL, rfl⟩)
      omega
  · rintro ⟨rk, hr⟩
    refine ⟨rk, fun n m hn hm2 hx => ?_⟩
    unfold sNm at hx
    by_cases h1 : n < 24
    · rw [if_pos h1] at hx
      by_cases h2 : m < 24
      · rw [if_pos h2] at hx
        obtain ⟨k, k1, k2⟩ := hx
        have := hr.1 n h1 k k1 (by omega)
        rw [k2] at this; exact this
      · rw [if_neg h2] at hx
        obtain ⟨k, k1, k2, k3⟩ := s_at_in.mp hx.2
        have := hr.2.1 n h1 k k1 k2
        rw [k3, show 24 + (m - 24) = m by omega] at this; exact this
    · rw [if_neg h1] at hx
      obtain ⟨L, l1, l2⟩ := hx
      have := (hr.2.2 (n - 24) (by omega) L l1).2
      rw [l2, show 24 + (n - 24) = n by omega] at this; exact this
end KH
