set_option maxRecDepth 100000
/-! THE SPEC, second: what is reached, what is read, burdens, how often it is told -/
section GR
def s_sm (f : Nat → Nat) : Nat → Nat
  | 0 => 0
  | n + 1 => s_sm f n + f n
theorem s_sm_congr {f h : Nat → Nat} : ∀ {n : Nat}, (∀ k, k < n → f k = h k) → s_sm f n = s_sm h n := by
  intro n
  induction n with
  | zero => intro _; rfl
  | succ n ih =>
    intro e
    show s_sm f n + f n = s_sm h n + h n
    rw [ih (fun k hk => e k (Nat.lt_succ_of_lt hk)), e n (Nat.lt_succ_self n)]
theorem s_sm_le {f h : Nat → Nat} : ∀ {n : Nat}, (∀ k, k < n → f k ≤ h k) → s_sm f n ≤ s_sm h n := by
  intro n
  induction n with
  | zero => intro _; exact Nat.le_refl _
  | succ n ih =>
    intro e
    show s_sm f n + f n ≤ s_sm h n + h n
    have a := ih (fun k hk => e k (Nat.lt_succ_of_lt hk))
    have b := e n (Nat.lt_succ_self n)
    omega
theorem s_sm_lt {f h : Nat → Nat} : ∀ {n : Nat}, (∀ k, k < n → f k ≤ h k) → ∀ j, j < n → f j < h j → s_sm f n < s_sm h n := by
  intro n
  induction n with
  | zero => intro _ j hj; exact absurd hj (Nat.not_lt_zero _)
  | succ n ih =>
    intro e j hj hl
    show s_sm f n + f n < s_sm h n + h n
    have e' : ∀ k, k < n → f k ≤ h k := fun k hk => e k (Nat.lt_succ_of_lt hk)
    by_cases hn : j = n
    · subst hn
      have := s_sm_le e'
      omega
    · have := ih e' j (by omega) hl
      have b := e n (Nat.lt_succ_self n)
      omega
theorem s_sm_one : ∀ (n : Nat), s_sm (fun _ => 1) n = n := by
  intro n
  induction n with
  | zero => rfl
  | succ n ih => show s_sm _ n + 1 = n + 1; rw [ih]
theorem s_sm_zero : ∀ (n : Nat), s_sm (fun _ => 0) n = 0 := by
  intro n
  induction n with
  | zero => rfl
  | succ n ih => show s_sm _ n + 0 = 0; rw [ih]
/-- how many of them -/
noncomputable def s_cn (p : Nat → Prop) (n : Nat) : Nat := s_sm (fun k => s_if (p k) 1 0) n
theorem s_cn_le (p : Nat → Prop) (n : Nat) : s_cn p n ≤ n := by
  have := @s_sm_le (fun k => s_if (p k) 1 0) (fun _ => 1) n (fun k _ => by
    by_cases h : p k
    · simp only [s_if_p h]; exact Nat.le_refl _
    · simp only [s_if_n h]; exact Nat.zero_le _)
  rw [s_sm_one] at this
  exact this
theorem s_cn_mono {p q : Nat → Prop} {n : Nat} (h : ∀ k, k < n → p k → q k) : s_cn p n ≤ s_cn q n := by
  refine s_sm_le (fun k hk => ?_)
  by_cases hp : p k
  · simp only [s_if_p hp, s_if_p (h k hk hp)]; exact Nat.le_refl _
  · simp only [s_if_n hp]; exact Nat.zero_le _
theorem s_cn_lt {p q : Nat → Prop} {n : Nat} (h : ∀ k, k < n → p k → q k) {j : Nat} (hj : j < n) (hq : q j) (hp : ¬ p j) : s_cn p n < s_cn q n := by
  refine s_sm_lt (fun k hk => ?_) j hj ?_
  · by_cases hp : p k
    · simp only [s_if_p hp, s_if_p (h k hk hp)]; exact Nat.le_refl _
    · simp only [s_if_n hp]; exact Nat.zero_le _
  · simp only [s_if_n hp, s_if_p hq]; exact Nat.zero_lt_one
theorem s_cn_ltn {p : Nat → Prop} {n j : Nat} (hj : j < n) (hp : ¬ p j) : s_cn p n < n := by
  have a := @s_cn_lt p (fun _ => True) n (fun _ _ _ => trivial) j hj trivial hp
  have b := s_cn_le (fun _ => True) n
  omega
theorem s_cn_congr {p q : Nat → Prop} {n : Nat} (h : ∀ k, k < n → (p k ↔ q k)) : s_cn p n = s_cn q n :=
  Nat.le_antisymm (s_cn_mono fun k hk => (h k hk).mp) (s_cn_mono fun k hk => (h k hk).mpr)
/-- ranks can be taken below 30 -/
theorem s_rk_small {fm : sF} {ly : sY} {rk : Nat → Nat} (hr : s_rk fm ly rk) (hm : s_mo fm) : ∃ rk' : Nat → Nat, s_rk fm ly rk' ∧ ∀ x, x < 30 → rk' x < 30 := by
  refine ⟨fun x => s_cn (fun y => rk y < rk x) 30, ?_, fun x hx => s_cn_ltn hx (Nat.lt_irrefl _)⟩
  have key : ∀ x y, x < 30 → rk x < rk y → s_cn (fun z => rk z < rk x) 30 < s_cn (fun z => rk z < rk y) 30 := fun x y hx h =>
    s_cn_lt (fun z _ hz => Nat.lt_trans hz h) hx h (Nat.lt_irrefl _)
  refine ⟨fun c hc m hmc h => key _ _ (by omega) (hr.1 c hc m hmc h), fun c hc m hmc h => key _ _ ?_ (hr.2.1 c hc m hmc h), fun t ht L hL => ⟨(hr.2.2 t ht L hL).1, key _ _ ?_ (hr.2.2 t ht L hL).2⟩⟩
  · have := hm c hc m hmc h
    omega
  · have := (hr.2.2 t ht L hL).1
    omega
/-! what is reached: cells alone -/
def s_rs (R : Nat → Nat → Prop) (fm : sF) (c x : Nat) : Prop := x = c ∨ ∃ m ∈ fm c, m.1 < 24 ∧ R m.1 x
def s_re (fm : sF) : Nat → Nat → Nat → Prop
  | 0 => fun _ _ => False
  | n + 1 => fun c x => s_rs (s_re fm n) fm c x
def s_RE (fm : sF) (c x : Nat) : Prop := s_re fm 31 c x
theorem s_re_st {fm : sF} {ly : sY} {rk : Nat → Nat} (hr : s_rk fm ly rk) : ∀ (n c : Nat), c < 24 → rk c < n → ∀ x, s_re fm n c x ↔ s_re fm (n + 1) c x := by
  intro n
  induction n with
  | zero => intro c _ h; exact absurd h (Nat.not_lt_zero _)
  | succ n ih =>
    intro c hc h x
    show s_rs _ fm c x ↔ s_rs _ fm c x
    unfold s_rs
    refine or_congr Iff.rfl ⟨fun ⟨m, a, b, e⟩ => ⟨m, a, b, ?_⟩, fun ⟨m, a, b, e⟩ => ⟨m, a, b, ?_⟩⟩
    · exact (ih m.1 b (by have := hr.1 c hc m a b; omega) x).mp e
    · exact (ih m.1 b (by have := hr.1 c hc m a b; omega) x).mpr e
theorem s_RE_st {fm : sF} {ly : sY} {rk : Nat → Nat} (hr : s_rk fm ly rk) (hb : ∀ x, x < 30 → rk x < 30) {c : Nat} (hc : c < 24) (x : Nat) : s_RE fm c x ↔ (x = c ∨ ∃ m ∈ fm c, m.1 < 24 ∧ s_RE fm m.1 x) := by
  unfold s_RE
  rw [s_re_st hr 31 c hc (by have := hb c (by omega); omega) x]
  exact Iff.rfl
theorem s_RE_self {fm : sF} {c : Nat} : s_RE fm c c := Or.inl rfl
theorem s_RE_ind {fm : sF} {ly : sY} {rk : Nat → Nat} (hr : s_rk fm ly rk) (hb : ∀ x, x < 30 → rk x < 30) {P : Nat → Prop} (hP : ∀ k, k < 24 → P k → ∀ m ∈ fm k, m.1 < 24 → P m.1) : ∀ (n c : Nat), rk c < n → c < 24 → P c → ∀ x, s_RE fm c x → P x := by
  intro n
  induction n with
  | zero => intro c h; exact absurd h (Nat.not_lt_zero _)
  | succ n ih =>
    intro c h hc hPc x hx
    rcases (s_RE_st hr hb hc x).mp hx with rfl | ⟨m, a, b, e⟩
    · exact hPc
    · exact ih m.1 (by have := hr.1 c hc m a b; omega) b (hP c hc hPc m a b) x e
theorem s_RE_lt {fm : sF} {ly : sY} {rk : Nat → Nat} (hr : s_rk fm ly rk) (hb : ∀ x, x < 30 → rk x < 30) {c x : Nat} (hc : c < 24) (h : s_RE fm c x) : x < 24 :=
  s_RE_ind hr hb (P := fun k => k < 24) (fun _ _ _ _ _ h => h) _ c (Nat.lt_succ_self _) hc hc x h
theorem s_RE_rk {fm : sF} {ly : sY} {rk : Nat → Nat} (hr : s_rk fm ly rk) (hb : ∀ x, x < 30 → rk x < 30) {c x : Nat} (hc : c < 24) (h : s_RE fm c x) : rk x ≤ rk c :=
  s_RE_ind hr hb (P := fun k => rk k ≤ rk c) (fun k hk hP m hm h => by have := hr.1 k hk m hm h; omega) _ c (Nat.lt_succ_self _) hc (Nat.le_refl _) x h
theorem s_RE_trans {fm : sF} {ly : sY} {rk : Nat → Nat} (hr : s_rk fm ly rk) (hb : ∀ x, x < 30 → rk x < 30) : ∀ (n c k x : Nat), rk c < n → c < 24 → s_RE fm c k → s_RE fm k x → s_RE fm c x := by
  intro n
  induction n with
  | zero => intro c k x h; exact absurd h (Nat.not_lt_zero _)
  | succ n ih =>
    intro c k x h hc h1 h2
    rcases (s_RE_st hr hb hc k).mp h1 with rfl | ⟨m, a, b, e⟩
    · exact h2
    · exact (s_RE_st hr hb hc x).mpr (Or.inr ⟨m, a, b, ih m.1 k x (by have := hr.1 c hc m a b; omega) b e h2⟩)
/-! what is read -/
def s_ds (R : Nat → Nat → Prop) (fm : sF) (ly : sY) (c x : Nat) : Prop :=
  (fm c = [] ∧ x = c) ∨ (∃ m ∈ fm c, m.1 < 24 ∧ R m.1 x) ∨ (∃ m ∈ fm c, 300 ≤ m.1 ∧ ∃ L, ly (m.1 % 10) = some L ∧ R L.1 x ∧ ¬ s_va L x)
def s_rd (fm : sF) (ly : sY) : Nat → Nat → Nat → Prop
  | 0 => fun _ _ => False
  | n + 1 => fun c x => s_ds (s_rd fm ly n) fm ly c x
def s_RD (fm : sF) (ly : sY) (c x : Nat) : Prop := s_rd fm ly 31 c x
theorem s_rd_st {fm : sF} {ly : sY} {rk : Nat → Nat} (hr : s_rk fm ly rk) (hm : s_mo fm) : ∀ (n c : Nat), c < 24 → rk c < n → ∀ x, s_rd fm ly n c x ↔ s_rd fm ly (n + 1) c x := by
  intro n
  induction n with
  | zero => intro c _ h; exact absurd h (Nat.not_lt_zero _)
  | succ n ih =>
    intro c hc h x
    show s_ds _ fm ly c x ↔ s_ds _ fm ly c x
    unfold s_ds
    refine or_congr Iff.rfl (or_congr ?_ ?_)
    · refine ⟨fun ⟨m, a, b, e⟩ => ⟨m, a, b, ?_⟩, fun ⟨m, a, b, e⟩ => ⟨m, a, b, ?_⟩⟩
      · exact (ih m.1 b (by have := hr.1 c hc m a b; omega) x).mp e
      · exact (ih m.1 b (by have := hr.1 c hc m a b; omega) x).mpr e
    · refine ⟨fun ⟨m, a, b, L, e, f, v⟩ => ⟨m, a, b, L, e, ?_, v⟩, fun ⟨m, a, b, L, e, f, v⟩ => ⟨m, a, b, L, e, ?_, v⟩⟩
      · have h2 := hr.2.2 _ (hm c hc m a b) L e
        exact (ih L.1 h2.1 (by have := hr.2.1 c hc m a b; omega) x).mp f
      · have h2 := hr.2.2 _ (hm c hc m a b) L e
        exact (ih L.1 h2.1 (by have := hr.2.1 c hc m a b; omega) x).mpr f
theorem s_RD_st {fm : sF} {ly : sY} {rk : Nat → Nat} (hr : s_rk fm ly rk) (hm : s_mo fm) (hb : ∀ x, x < 30 → rk x < 30) {c : Nat} (hc : c < 24) (x : Nat) : s_RD fm ly c x ↔ s_ds (s_RD fm ly) fm ly c x := by
  unfold s_RD
  rw [s_rd_st hr hm 31 c hc (by have := hb c (by omega); omega) x]
  exact Iff.rfl
theorem s_RD_lt {fm : sF} {ly : sY} {rk : Nat → Nat} (hr : s_rk fm ly rk) (hm : s_mo fm) (hb : ∀ x, x < 30 → rk x < 30) : ∀ (n c x : Nat), rk c < n → c < 24 → s_RD fm ly c x → x < 24 ∧ fm x = [] := by
  intro n
  induction n with
  | zero => intro c x h; exact absurd h (Nat.not_lt_zero _)
  | succ n ih =>
    intro c x h hc hx
    rcases (s_RD_st hr hm hb hc x).mp hx with ⟨a, rfl⟩ | ⟨m, a, b, e⟩ | ⟨m, a, b, L, e, f, v⟩
    · exact ⟨hc, a⟩
    · exact ih m.1 x (by have := hr.1 c hc m a b; omega) b e
    · have h2 := hr.2.2 _ (hm c hc m a b) L e
      exact ih L.1 x (by have := hr.2.1 c hc m a b; omega) h2.1 f
/-- a cell tells by what it reads, as it's kept -/
theorem s_in_congr {k : Int32} {o o' : Option UInt64} {c : Nat} (h : o.map (s_kp k) = o'.map (s_kp k)) : s_in k o c = s_in k o' c := by
  cases o with
  | none => cases o' with
    | none => rfl
    | some v => simp at h
  | some u => cases o' with
    | none => simp at h
    | some v =>
      simp only [Option.map_some, Option.some.injEq] at h
      simp only [s_in, h]
theorem s_EV_reads {fm : sF} {ly : sY} {kd : Nat → Int32} {rk : Nat → Nat} (hr : s_rk fm ly rk) (hm : s_mo fm) (hb : ∀ x, x < 30 → rk x < 30) : ∀ (n c : Nat), rk c < n → c < 24 → ∀ ow ow' : sO, (∀ x, s_RD fm ly c x → (ow x).map (s_kp (kd x)) = (ow' x).map (s_kp (kd x))) → s_EV fm ly kd ow c = s_EV fm ly kd ow' c := by
  intro n
  induction n with
  | zero => intro c h; exact absurd h (Nat.not_lt_zero _)
  | succ n ih =>
    intro c h hc ow ow' hx
    rw [s_EV_st hr hm hb hc, s_EV_st hr hm hb hc]
    unfold s_st
    by_cases he : fm c = []
    · simp only [if_pos he]
      exact s_in_congr (hx c ((s_RD_st hr hm hb hc c).mpr (Or.inl ⟨he, rfl⟩)))
    · simp only [if_neg he]
      refine congrArg (s_fn (kd c)) ?_
      refine s_run_congr (fun m a b => ?_) (fun m a b f => ?_)
      · exact ih m.1 (by have := hr.1 c hc m a b; omega) b ow ow' (fun x e => hx x ((s_RD_st hr hm hb hc x).mpr (Or.inr (Or.inl ⟨m, a, b, e⟩))))
      · cases hl : ly (m.1 % 10) with
        | none => rfl
        | some L =>
          refine s_tv_congr (fun k _ => ?_)
          have h2 := hr.2.2 _ (hm c hc m a b) L hl
          refine ih L.1 (by have := hr.2.1 c hc m a b; omega) h2.1 _ _ (fun x e => ?_)
          unfold s_bi
          by_cases h3 : x = L.2.1
          · simp only [if_pos h3]
          · by_cases h4 : L.2.2.1 = some x
            · simp only [if_neg h3, if_pos h4]
            · simp only [if_neg h3, if_neg h4]
              exact hx x ((s_RD_st hr hm hb hc x).mpr (Or.inr (Or.inr ⟨m, a, b, L, hl, e, fun hv => hv.elim h3 h4⟩)))
/-! burdens -/
def s_ld (B : Nat → Nat) (fm : sF) (ly : sY) (k : Nat) : Nat :=
  1 + ((fm k).map (fun m => if 300 ≤ m.1 then (match ly (m.1 % 10) with | none => 0 | some L => B L.1 * s_nc L) else 0)).sum
noncomputable def s_bs (B : Nat → Nat) (fm : sF) (ly : sY) (c : Nat) : Nat := s_sm (fun k => s_if (s_RE fm c k ∧ fm k ≠ []) (s_ld B fm ly k) 0) 24
noncomputable def s_bu (fm : sF) (ly : sY) : Nat → Nat → Nat
  | 0 => fun _ => 0
  | n + 1 => fun c => s_bs (s_bu fm ly n) fm ly c
noncomputable def s_BU (fm : sF) (ly : sY) (c : Nat) : Nat := s_bu fm ly 31 c
theorem s_ld_congr {B B' : Nat → Nat} {fm : sF} {ly : sY} {k : Nat} (h : ∀ m ∈ fm k, 300 ≤ m.1 → ∀ L, ly (m.1 % 10) = some L → B L.1 = B' L.1) : s_ld B fm ly k = s_ld B' fm ly k := by
  unfold s_ld
  congr 2
  refine List.map_congr_left (fun m hm => ?_)
  by_cases h3 : 300 ≤ m.1
  · simp only [if_pos h3]
    cases hl : ly (m.1 % 10) with
    | none => rfl
    | some L => simp only [h m hm h3 L hl]
  · simp only [if_neg h3]
theorem s_bs_congr {B B' : Nat → Nat} {fm : sF} {ly : sY} {c : Nat} (h : ∀ k, k < 24 → s_RE fm c k → ∀ m ∈ fm k, 300 ≤ m.1 → ∀ L, ly (m.1 % 10) = some L → B L.1 = B' L.1) : s_bs B fm ly c = s_bs B' fm ly c := by
  unfold s_bs
  refine s_sm_congr (fun k hk => ?_)
  by_cases hx : s_RE fm c k ∧ fm k ≠ []
  · simp only [s_if_p hx]
    exact s_ld_congr (h k hk hx.1)
  · simp only [s_if_n hx]
theorem s_bu_st {fm : sF} {ly : sY} {rk : Nat → Nat} (hr : s_rk fm ly rk) (hm : s_mo fm) (hb : ∀ x, x < 30 → rk x < 30) : ∀ (n c : Nat), c < 24 → rk c < n → s_bu fm ly n c = s_bu fm ly (n + 1) c := by
  intro n
  induction n with
  | zero => intro c _ h; exact absurd h (Nat.not_lt_zero _)
  | succ n ih =>
    intro c hc h
    show s_bs _ fm ly c = s_bs _ fm ly c
    refine s_bs_congr (fun k hk hx m a b L e => ?_)
    have h1 := s_RE_rk hr hb hc hx
    have h2 := hr.2.2 _ (hm k hk m a b) L e
    have h3 := hr.2.1 k hk m a b
    exact ih L.1 h2.1 (by omega)
theorem s_BU_st {fm : sF} {ly : sY} {rk : Nat → Nat} (hr : s_rk fm ly rk) (hm : s_mo fm) (hb : ∀ x, x < 30 → rk x < 30) {c : Nat} (hc : c < 24) : s_BU fm ly c = s_bs (s_BU fm ly) fm ly c := by
  unfold s_BU
  rw [s_bu_st hr hm hb 31 c hc (by have := hb c (by omega); omega)]
  rfl
/-! how often it is told -/
/-- how many unlike ones -/
noncomputable def s_ul (k : Int32) (ax : List UInt64) : Nat := s_cn (fun i => ∀ j, j < i → ¬ s_eq (s_kp k (ax.getD j 0)) (s_kp k (ax.getD i 0))) ax.length
noncomputable def s_tc (T : Nat → Nat) (fm : sF) (ly : sY) (kd : Nat → Int32) (L : sL) (c : Nat) : Nat :=
  (1 + ((fm c).map (fun m => if 300 ≤ m.1 then (match ly (m.1 % 10) with | none => 0 | some _ => T (m.1 % 10)) else 0)).sum) *
    s_if (s_RD fm ly c L.2.1) (s_ul (kd L.2.1) L.2.2.2.1) 1 * (match L.2.2.1 with | none => 1 | some o => s_if (s_RD fm ly c o) (s_ul (kd o) L.2.2.2.2) 1)
noncomputable def s_ts (T : Nat → Nat) (fm : sF) (ly : sY) (kd : Nat → Int32) (t : Nat) : Nat :=
  match ly t with
  | none => 0
  | some L => s_sm (fun c => s_if (s_RE fm L.1 c ∧ fm c ≠ []) (s_tc T fm ly kd L c) 0) 24
noncomputable def s_tl (fm : sF) (ly : sY) (kd : Nat → Int32) : Nat → Nat → Nat
  | 0 => fun _ => 0
  | n + 1 => fun t => s_ts (s_tl fm ly kd n) fm ly kd t
noncomputable def s_TL (fm : sF) (ly : sY) (kd : Nat → Int32) (t : Nat) : Nat := s_tl fm ly kd 31 t
theorem s_tc_congr {T T' : Nat → Nat} {fm : sF} {ly : sY} {kd : Nat → Int32} {L : sL} {c : Nat} (h : ∀ m ∈ fm c, 300 ≤ m.1 → ∀ U, ly (m.1 % 10) = some U → T (m.1 % 10) = T' (m.1 % 10)) : s_tc T fm ly kd L c = s_tc T' fm ly kd L c := by
  unfold s_tc
  congr 4
  refine List.map_congr_left (fun m hm => ?_)
  by_cases h3 : 300 ≤ m.1
  · simp only [if_pos h3]
    cases hl : ly (m.1 % 10) with
    | none => rfl
    | some U => exact h m hm h3 U hl
  · simp only [if_neg h3]
theorem s_ts_congr {T T' : Nat → Nat} {fm : sF} {ly : sY} {kd : Nat → Int32} {t : Nat} (h : ∀ L, ly t = some L → ∀ k, k < 24 → s_RE fm L.1 k → ∀ m ∈ fm k, 300 ≤ m.1 → ∀ U, ly (m.1 % 10) = some U → T (m.1 % 10) = T' (m.1 % 10)) : s_ts T fm ly kd t = s_ts T' fm ly kd t := by
  unfold s_ts
  cases hl : ly t with
  | none => rfl
  | some L =>
    refine s_sm_congr (fun k hk => ?_)
    by_cases hx : s_RE fm L.1 k ∧ fm k ≠ []
    · simp only [s_if_p hx]
      exact s_tc_congr (h L hl k hk hx.1)
    · simp only [s_if_n hx]
theorem s_tl_st {fm : sF} {ly : sY} {kd : Nat → Int32} {rk : Nat → Nat} (hr : s_rk fm ly rk) (hm : s_mo fm) (hb : ∀ x, x < 30 → rk x < 30) : ∀ (n t : Nat), t < 6 → rk (24 + t) < n → s_tl fm ly kd n t = s_tl fm ly kd (n + 1) t := by
  intro n
  induction n with
  | zero => intro t _ h; exact absurd h (Nat.not_lt_zero _)
  | succ n ih =>
    intro t ht h
    show s_ts _ fm ly kd t = s_ts _ fm ly kd t
    refine s_ts_congr (fun L hL k hk hx m a b U e => ?_)
    have h0 := hr.2.2 t ht L hL
    have h1 := s_RE_rk hr hb h0.1 hx
    have h3 := hr.2.1 k hk m a b
    exact ih _ (hm k hk m a b) (by omega)
theorem s_TL_st {fm : sF} {ly : sY} {kd : Nat → Int32} {rk : Nat → Nat} (hr : s_rk fm ly rk) (hm : s_mo fm) (hb : ∀ x, x < 30 → rk x < 30) {t : Nat} (ht : t < 6) : s_TL fm ly kd t = s_ts (s_TL fm ly kd) fm ly kd t := by
  unfold s_TL
  rw [s_tl_st hr hm hb 31 t ht (by have := hb (24 + t) (by omega); omega)]
  rfl
end GR
