set_option maxRecDepth 100000
/-! THE SPEC: cells, formulas as rows of marks, tables, what a cell tells (no program in sight) -/
section SP
noncomputable def s_if {α : Type} (p : Prop) (a b : α) : α := @ite α p (Classical.propDecidable p) a b
theorem s_if_p {α : Type} {p : Prop} {a b : α} (h : p) : s_if p a b = a := by unfold s_if; exact if_pos h
theorem s_if_n {α : Type} {p : Prop} {a b : α} (h : ¬ p) : s_if p a b = b := by unfold s_if; exact if_neg h
abbrev sT : Type := UInt64 × Int32 × Int32
abbrev sM : Type := Nat × UInt64
abbrev sL : Type := Nat × Nat × Option Nat × List UInt64 × List UInt64
abbrev sF : Type := Nat → List sM
abbrev sY : Type := Nat → Option sL
abbrev sO : Type := Nat → Option UInt64
def s_lt (a b : UInt64) : Prop := FP.dcmp a b = some .lt
def s_gt (a b : UInt64) : Prop := FP.dcmp a b = some .gt
def s_eq (a b : UInt64) : Prop := FP.dcmp a b = some .eq
noncomputable def s_pl (v : UInt64) : UInt64 := s_if (s_eq v 0) 0 v
noncomputable def s_ft (k : Int32) (v : UInt64) : UInt64 :=
  if k = 1 then FP.l2d (FP.d2l v)
  else if k = 2 then FP.f2d (FP.d2f v)
  else if k = 3 then FP.i2d (((FP.d2l v).toInt32).toInt8.toInt32)
  else if k = 4 then FP.f2d (FP.frem (FP.d2f v) (1135869952 : UInt32))
  else if k = 5 then s_if (s_lt v 13875379345695965184) 13875379345695965184 (s_if (s_gt v 4652007308841189376) 4652007308841189376 v)
  else v
noncomputable def s_kp (k : Int32) (v : UInt64) : UInt64 := s_pl (s_ft k v)
def s_far (v : UInt64) : Prop := s_gt v 4786511204640096256 ∨ s_lt v 14009883241494872064
/-- what an act makes of two numbers: 1 +, 2 -, 3 *, 4 /, 5 %, 6 <, 7 =, 8 min, 9 max -/
noncomputable def s_op (act : Nat) (a b : UInt64) : UInt64 :=
  if act = 1 then FP.dadd a b else if act = 2 then FP.dsub a b else if act = 3 then FP.dmul a b else if act = 4 then FP.ddiv a b
  else if act = 5 then FP.drem a b
  else if act = 6 then s_if (s_lt a b) FP.dconst1 FP.dconst0
  else if act = 7 then s_if (s_eq a b) FP.dconst1 FP.dconst0
  else if act = 8 then s_if (s_lt b a) b a
  else s_if (s_gt b a) b a
noncomputable def s_two (c : Nat) (act : Nat) (a b : sT) : sT :=
  if a.2.1 ≠ 0 then a
  else if b.2.1 ≠ 0 then (a.1, b.2)
  else s_if ((act = 4 ∨ act = 5) ∧ s_eq b.1 0) (a.1, 2, nI c)
    (s_if (act ≤ 4 ∧ s_far (s_op act a.1 b.1)) (s_op act a.1 b.1, 3, nI c) (s_op act a.1 b.1, a.2))
noncomputable def s_pick (x y z : sT) : sT := if x.2.1 ≠ 0 then x else s_if (s_eq x.1 0) z y
noncomputable def s_act (cv : Nat → sT) (tv : Nat → Nat → UInt64 × Int32) (c : Nat) (m : sM) (st : List sT) : List sT :=
  if m.1 < 24 then ((cv m.1).1, (cv m.1).2.1, if (cv m.1).2.1 = 0 then -1 else (cv m.1).2.2) :: st
  else if m.1 < 200 then (m.2, 0, -1) :: st
  else if 300 ≤ m.1 then ((tv (m.1 % 10) ((m.1 - 300) / 10)).1, (tv (m.1 % 10) ((m.1 - 300) / 10)).2, if (tv (m.1 % 10) ((m.1 - 300) / 10)).2 = 0 then -1 else nI c) :: st
  else if m.1 = 200 then (match st with | a :: r => (FP.dneg a.1, a.2) :: r | [] => [])
  else if m.1 = 210 then (match st with | z :: y :: x :: r => s_pick x y z :: r | _ => [])
  else (match st with | b :: a :: r => s_two c (m.1 - 200) a b :: r | _ => [])
noncomputable def s_run (cv : Nat → sT) (tv : Nat → Nat → UInt64 × Int32) (c : Nat) (ms : List sM) (st : List sT) : List sT :=
  ms.foldl (fun st m => s_act cv tv c m st) st
theorem s_run_nil {cv tv c st} : s_run cv tv c [] st = st := rfl
theorem s_run_cons {cv tv c m ms st} : s_run cv tv c (m :: ms) st = s_run cv tv c ms (s_act cv tv c m st) := rfl
theorem s_run_append {cv tv c ms ns st} : s_run cv tv c (ms ++ ns) st = s_run cv tv c ns (s_run cv tv c ms st) := by
  simp [s_run, List.foldl_append]
theorem s_act_congr {cv cv' : Nat → sT} {tv tv' : Nat → Nat → UInt64 × Int32} {c : Nat} {m : sM} {st : List sT} (h1 : m.1 < 24 → cv m.1 = cv' m.1) (h2 : 300 ≤ m.1 → ∀ f, tv (m.1 % 10) f = tv' (m.1 % 10) f) : s_act cv tv c m st = s_act cv' tv' c m st := by
  unfold s_act
  by_cases a : m.1 < 24
  · simp only [if_pos a, h1 a]
  · by_cases b : m.1 < 200
    · simp only [if_neg a, if_pos b]
    · by_cases e : 300 ≤ m.1
      · simp only [if_neg a, if_neg b, if_pos e, h2 e]
      · simp only [if_neg a, if_neg b, if_neg e]
theorem s_run_congr {cv cv' : Nat → sT} {tv tv' : Nat → Nat → UInt64 × Int32} {c : Nat} : ∀ {ms : List sM} {st : List sT}, (∀ m ∈ ms, m.1 < 24 → cv m.1 = cv' m.1) → (∀ m ∈ ms, 300 ≤ m.1 → ∀ f, tv (m.1 % 10) f = tv' (m.1 % 10) f) → s_run cv tv c ms st = s_run cv' tv' c ms st := by
  intro ms
  induction ms with
  | nil => intro st _ _; rfl
  | cons m ms ih =>
    intro st h1 h2
    rw [s_run_cons, s_run_cons, s_act_congr (h1 m (List.mem_cons_self ..)) (h2 m (List.mem_cons_self ..))]
    exact ih (fun n hn => h1 n (List.mem_cons_of_mem _ hn)) (fun n hn => h2 n (List.mem_cons_of_mem _ hn))
/-! tables -/
def s_my (L : sL) : Nat := if L.2.2.1 = none then 1 else L.2.2.2.2.length
def s_nc (L : sL) : Nat := L.2.2.2.1.length * s_my L
def s_va (L : sL) (x : Nat) : Prop := x = L.2.1 ∨ L.2.2.1 = some x
def s_bi (L : sL) (ow : sO) (i j : Nat) : sO := fun x => if x = L.2.1 then some (L.2.2.2.1.getD i 0) else if L.2.2.1 = some x then some (L.2.2.2.2.getD j 0) else ow x
/-- sum, whether it was far, least, most, how many good, how many bad -/
noncomputable def s_ac (r : Nat → sT) : Nat → UInt64 × Prop × UInt64 × UInt64 × Nat × Nat
  | 0 => (0, False, 0, 0, 0, 0)
  | k + 1 =>
    if (r k).2.1 ≠ 0 then ((s_ac r k).1, (s_ac r k).2.1, (s_ac r k).2.2.1, (s_ac r k).2.2.2.1, (s_ac r k).2.2.2.2.1, (s_ac r k).2.2.2.2.2 + 1)
    else (FP.dadd (s_ac r k).1 (r k).1, ((s_ac r k).2.1 ∨ s_far (FP.dadd (s_ac r k).1 (r k).1)),
      s_if ((s_ac r k).2.2.2.2.1 = 0 ∨ s_lt (r k).1 (s_ac r k).2.2.1) (r k).1 (s_ac r k).2.2.1,
      s_if ((s_ac r k).2.2.2.2.1 = 0 ∨ s_gt (r k).1 (s_ac r k).2.2.2.1) (r k).1 (s_ac r k).2.2.2.1,
      (s_ac r k).2.2.2.2.1 + 1, (s_ac r k).2.2.2.2.2)
noncomputable def s_tv (r : Nat → sT) (n f : Nat) : UInt64 × Int32 :=
  if f = 0 then ((s_ac r n).1, s_if ((s_ac r n).2.1) 3 0)
  else if f = 1 then (if (s_ac r n).2.2.2.2.1 = 0 then 0 else FP.ddiv (s_ac r n).1 (FP.i2d (nI (s_ac r n).2.2.2.2.1)), if (s_ac r n).2.2.2.2.1 = 0 then 4 else s_if ((s_ac r n).2.1) 3 0)
  else if f = 2 then ((s_ac r n).2.2.1, if (s_ac r n).2.2.2.2.1 = 0 then 4 else 0)
  else if f = 3 then ((s_ac r n).2.2.2.1, if (s_ac r n).2.2.2.2.1 = 0 then 4 else 0)
  else (FP.i2d (nI (s_ac r n).2.2.2.2.2), 0)
theorem s_ac_congr {r r' : Nat → sT} : ∀ {n : Nat}, (∀ k, k < n → r k = r' k) → s_ac r n = s_ac r' n := by
  intro n
  induction n with
  | zero => intro _; rfl
  | succ n ih =>
    intro h
    have e := ih (fun k hk => h k (Nat.lt_succ_of_lt hk))
    have e2 := h n (Nat.lt_succ_self n)
    simp only [s_ac, e, e2]
theorem s_tv_congr {r r' : Nat → sT} {n f : Nat} (h : ∀ k, k < n → r k = r' k) : s_tv r n f = s_tv r' n f := by
  unfold s_tv
  rw [s_ac_congr h]
/-! what a cell tells -/
noncomputable def s_in (k : Int32) (o : Option UInt64) (c : Nat) : sT := match o with | none => (0, 1, nI c) | some v => (s_kp k v, 0, -1)
noncomputable def s_fn (k : Int32) (st : List sT) : sT := match st with | a :: _ => (if a.2.1 = 0 then s_kp k a.1 else 0, a.2) | [] => (0, 0, -1)
/-- one step of telling by what the named cells tell in any surroundings -/
noncomputable def s_st (E : sO → Nat → sT) (fm : sF) (ly : sY) (kd : Nat → Int32) (ow : sO) (c : Nat) : sT :=
  if fm c = [] then s_in (kd c) (ow c) c
  else s_fn (kd c) (s_run (E ow) (fun t f => match ly t with | none => (0, 4) | some L => s_tv (fun k => E (s_bi L ow (k / s_my L) (k % s_my L)) L.1) (s_nc L) f) c (fm c) [])
noncomputable def s_ev (fm : sF) (ly : sY) (kd : Nat → Int32) : Nat → sO → Nat → sT
  | 0 => fun _ _ => (0, 0, -1)
  | n + 1 => fun ow c => s_st (s_ev fm ly kd n) fm ly kd ow c
/-- a rank: what is named lies below -/
def s_rk (fm : sF) (ly : sY) (rk : Nat → Nat) : Prop :=
  (∀ c, c < 24 → ∀ m ∈ fm c, m.1 < 24 → rk m.1 < rk c) ∧
  (∀ c, c < 24 → ∀ m ∈ fm c, 300 ≤ m.1 → rk (24 + m.1 % 10) < rk c) ∧
  (∀ t, t < 6 → ∀ L, ly t = some L → L.1 < 24 ∧ rk L.1 < rk (24 + t))
/-- the marks are cells below 24, tables below 6 -/
def s_mo (fm : sF) : Prop := ∀ c, c < 24 → ∀ m ∈ fm c, 300 ≤ m.1 → m.1 % 10 < 6
theorem s_st_congr {E E' : sO → Nat → sT} {fm : sF} {ly : sY} {kd : Nat → Int32} {ow : sO} {c : Nat} (h1 : ∀ m ∈ fm c, m.1 < 24 → E ow m.1 = E' ow m.1) (h2 : ∀ m ∈ fm c, 300 ≤ m.1 → ∀ L, ly (m.1 % 10) = some L → ∀ w, E w L.1 = E' w L.1) : s_st E fm ly kd ow c = s_st E' fm ly kd ow c := by
  unfold s_st
  by_cases hc : fm c = []
  · simp only [if_pos hc]
  · simp only [if_neg hc]
    congr 1
    refine s_run_congr h1 (fun m hm h3 f => ?_)
    cases hl : ly (m.1 % 10) with
    | none => rfl
    | some L => exact s_tv_congr (fun k _ => h2 m hm h3 L hl _)
theorem s_ev_st {fm : sF} {ly : sY} {kd : Nat → Int32} {rk : Nat → Nat} (hr : s_rk fm ly rk) (hm : s_mo fm) : ∀ (n : Nat) (ow : sO) (c : Nat), c < 24 → rk c < n → s_ev fm ly kd n ow c = s_ev fm ly kd (n + 1) ow c := by
  intro n
  induction n with
  | zero => intro ow c _ h; exact absurd h (Nat.not_lt_zero _)
  | succ n ih =>
    intro ow c hc h
    show s_st _ fm ly kd ow c = s_st _ fm ly kd ow c
    refine s_st_congr (fun m hm1 h24 => ?_) (fun m hm1 h3 L hL w => ?_)
    · have := hr.1 c hc m hm1 h24
      exact ih ow m.1 h24 (by omega)
    · have a := hr.2.1 c hc m hm1 h3
      have b := hr.2.2 _ (hm c hc m hm1 h3) L hL
      exact ih w L.1 b.1 (by omega)
/-- what a cell tells -/
noncomputable def s_EV (fm : sF) (ly : sY) (kd : Nat → Int32) (ow : sO) (c : Nat) : sT := s_ev fm ly kd 31 ow c
theorem s_EV_st {fm : sF} {ly : sY} {kd : Nat → Int32} {rk : Nat → Nat} (hr : s_rk fm ly rk) (hm : s_mo fm) (hb : ∀ x, x < 30 → rk x < 30) {ow : sO} {c : Nat} (hc : c < 24) : s_EV fm ly kd ow c = s_st (s_EV fm ly kd) fm ly kd ow c := by
  unfold s_EV
  rw [s_ev_st hr hm 31 ow c hc (by have := hb c (by omega); omega)]
  rfl
end SP
