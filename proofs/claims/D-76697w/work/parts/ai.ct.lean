set_option maxRecDepth 100000
/-! the cases of a table: places, how often it's told -/
section CT
variable {fm : sF} {ly : sY} {kd : Nat → Int32} {rk : Nat → Nat}
theorem s_sm_adn {f : Nat → Nat} {n : Nat} : ∀ m, s_sm f (n + m) = s_sm f n + s_sm (fun j => f (n + j)) m := by
  intro m
  induction m with
  | zero => rfl
  | succ m ih =>
    show s_sm f (n + m) + f (n + m) = s_sm f n + (s_sm (fun j => f (n + j)) m + f (n + m))
    rw [ih]
    omega
theorem s_sm_mul {f : Nat → Nat} {b : Nat} : ∀ a, s_sm f (a * b) = s_sm (fun i => s_sm (fun j => f (b * i + j)) b) a := by
  intro a
  induction a with
  | zero => rw [Nat.zero_mul]; rfl
  | succ a ih =>
    rw [Nat.succ_mul, s_sm_adn, ih]
    show _ = s_sm (fun i => s_sm (fun j => f (b * i + j)) b) a + s_sm (fun j => f (b * a + j)) b
    rw [Nat.mul_comm b a]
theorem s_sm_if {p : Nat → Prop} {w : Nat} : ∀ n, s_sm (fun k => s_if (p k) w 0) n = w * s_cn p n := by
  intro n
  induction n with
  | zero => rfl
  | succ n ih =>
    show s_sm _ n + s_if (p n) w 0 = w * (s_cn p n + s_if (p n) 1 0)
    rw [ih]
    by_cases h : p n
    · rw [s_if_p h, s_if_p h, Nat.mul_add, Nat.mul_one]
    · rw [s_if_n h, s_if_n h, Nat.add_zero, Nat.add_zero]
theorem s_cn_prod {A B : Nat → Prop} : s_cn (fun q => A (q / 8) ∧ B (q % 8)) 64 = s_cn A 8 * s_cn B 8 := by
  unfold s_cn
  rw [show (64 : Nat) = 8 * 8 from rfl, s_sm_mul]
  rw [s_sm_congr (h := fun i => s_if (A i) (s_cn B 8) 0) (fun i hi => ?_)]
  · rw [s_sm_if, Nat.mul_comm]; rfl
  · by_cases h : A i
    · rw [s_if_p h]
      unfold s_cn
      refine s_sm_congr (fun j hj => ?_)
      show s_if (A ((8 * i + j) / 8) ∧ B ((8 * i + j) % 8)) 1 0 = _
      rw [show (8 * i + j) / 8 = i by omega, show (8 * i + j) % 8 = j by omega]
      by_cases h2 : B j
      · rw [s_if_p h2, s_if_p ⟨h, h2⟩]
      · rw [s_if_n h2, s_if_n (fun z => h2 z.2)]
    · rw [s_if_n h]
      refine (s_sm_congr (h := fun _ => 0) (fun j hj => ?_)).trans (s_sm_zero 8)
      show s_if (A ((8 * i + j) / 8) ∧ B ((8 * i + j) % 8)) 1 0 = 0
      rw [show (8 * i + j) / 8 = i by omega]
      exact s_if_n (fun z => h z.1)
theorem s_cn_cut {U : Nat → Prop} {n m : Nat} (h : n ≤ m) : s_cn (fun a => a < n ∧ U a) m = s_cn U n := by
  obtain ⟨r, rfl⟩ := Nat.exists_eq_add_of_le h
  unfold s_cn
  rw [s_sm_adn]
  rw [s_sm_congr (h := fun k => s_if (U k) 1 0) (fun k hk => ?_), s_sm_congr (f := fun j => s_if (n + j < n ∧ U (n + j)) 1 0) (h := fun _ => 0) (fun k hk => ?_), s_sm_zero, Nat.add_zero]
  · exact s_if_n (fun z => by omega)
  · by_cases q : U k
    · rw [s_if_p q, s_if_p ⟨hk, q⟩]
    · rw [s_if_n q, s_if_n (fun z => q z.2)]
theorem s_cn_1 {p : Nat → Prop} {n j : Nat} (hj : j < n) (h : ∀ k, k < n → (p k ↔ k = j)) : s_cn p n = 1 := by
  unfold s_cn
  rw [s_sm_1 (h := fun _ => 0) (w := 1) hj (fun k h1 h2 => s_if_n (fun z => h2 ((h k h1).mp z))) (by rw [s_if_p ((h j hj).mpr rfl)]), s_sm_zero]
/-- the first alike -/
noncomputable def cFi (k : Int32) (ns : List UInt64) (j : Nat) : Nat := Classical.epsilon (cFst (fun q => s_kp k (ns.getD q 0)) j)
def cFO (k : Int32) (ns : List UInt64) : Prop := ∀ j, j < ns.length → cFst (fun q => s_kp k (ns.getD q 0)) j (cFi k ns j)
theorem cKp.fo {k : Int32} {ns : List UInt64} {f : Nat → UInt64} {h : Nat → Int32} (hk : cKp k ns f h) : cFO k ns := fun j hj => by
  obtain ⟨i, h1, -⟩ := hk.2 j hj
  exact Classical.epsilon_spec (p := cFst (fun q => s_kp k (ns.getD q 0)) j) ⟨i, h1⟩
theorem cKp.fi {k : Int32} {ns : List UInt64} {f : Nat → UInt64} {h : Nat → Int32} (hk : cKp k ns f h) {j : Nat} (hj : j < ns.length) : h j = nI (cFi k ns j) := by
  obtain ⟨i, h1, h2⟩ := hk.2 j hj
  rw [h2, cFst_u h1 (hk.fo j hj)]
theorem cFO.lt {k : Int32} {ns : List UInt64} (h : cFO k ns) {j : Nat} (hj : j < ns.length) : cFi k ns j ≤ j := (h j hj).1
theorem cFO.eq {k : Int32} {ns : List UInt64} (h : cFO k ns) (hB : ∀ v ∈ ns, s_B v) {i j : Nat} (hi : i < ns.length) (hj : j < ns.length) (e : cFi k ns i = cFi k ns j) : s_kp k (ns.getD i 0) = s_kp k (ns.getD j 0) := by
  have a := (h i hi).2.1
  have b := (h j hj).2.1
  rw [e] at a
  have a := fb_same (fb_N (s_BgetD hB _)) (fb_N (s_BgetD hB _)) a
  have b := fb_same (fb_N (s_BgetD hB _)) (fb_N (s_BgetD hB _)) b
  exact a.symm.trans b
theorem cFO.cn {k : Int32} {ns : List UInt64} (h : cFO k ns) (hB : ∀ v ∈ ns, s_B v) (hn : ns.length ≤ 8) : s_cn (fun a => ∃ i, i < ns.length ∧ a = cFi k ns i) 8 = s_ul k ns := by
  unfold s_ul
  rw [← s_cn_cut hn]
  refine s_cn_congr (fun a ha => ⟨fun ⟨i, hi, e⟩ => ?_, fun ⟨h1, h2⟩ => ⟨a, h1, ?_⟩⟩)
  · have q := h i hi
    rw [← e] at q
    have e2 := fb_same (fb_N (s_BgetD hB _)) (fb_N (s_BgetD hB _)) q.2.1
    refine ⟨by have := q.1; omega, fun j hj => ?_⟩
    rw [e2]
    exact q.2.2 j hj
  · exact cFst_u ⟨Nat.le_refl _, fc_self (fb_kp (s_BgetD hB _)).f, h2⟩ (h a h1)
/-- the place of a cell in a case -/
noncomputable def cPa (fm : sF) (ly : sY) (kd : Nat → Int32) (L : sL) (e i : Nat) : Nat := s_if (s_RD fm ly e L.2.1) (cFi (kd L.2.1) L.2.2.2.1 i) 0
noncomputable def cPb (fm : sF) (ly : sY) (kd : Nat → Int32) (L : sL) (e j : Nat) : Nat := match L.2.2.1 with | none => 0 | some o => s_if (s_RD fm ly e o) (cFi (kd o) L.2.2.2.2 j) 0
noncomputable def cPl (fm : sF) (ly : sY) (kd : Nat → Int32) (L : sL) (x e : Nat) : Nat := 64 * e + 8 * cPa fm ly kd L e (x / s_my L) + cPb fm ly kd L e (x % s_my L)
def cFP (kd : Nat → Int32) (L : sL) : Prop := cFO (kd L.2.1) L.2.2.2.1 ∧ ∀ o, L.2.2.1 = some o → cFO (kd o) L.2.2.2.2
theorem cMy {L : sL} {o : Nat} (h : L.2.2.1 = some o) : s_my L = L.2.2.2.2.length := by unfold s_my; rw [if_neg (by rw [h]; exact fun z => by cases z)]
theorem cPa_lt {L : sL} (hT : cTk L) (hF : cFP kd L) {e i : Nat} (hi : i < L.2.2.2.1.length) : cPa fm ly kd L e i < 8 := by
  unfold cPa
  by_cases h : s_RD fm ly e L.2.1
  · rw [s_if_p h]; have := hF.1.lt hi; have := hT.2.2.2.1; omega
  · rw [s_if_n h]; decide
theorem cPb_lt {L : sL} (hT : cTk L) (hF : cFP kd L) {e j : Nat} (hj : j < s_my L) : cPb fm ly kd L e j < 8 := by
  unfold cPb
  cases ho : L.2.2.1 with
  | none => exact (show 0 < 8 by decide)
  | some o =>
    show s_if (s_RD fm ly e o) (cFi (kd o) L.2.2.2.2 j) 0 < 8
    by_cases h : s_RD fm ly e o
    · rw [s_if_p h]
      rw [cMy ho] at hj
      have := (hF.2 o ho).lt hj
      have := (hT.2.2.2.2 o ho).2.2.2
      omega
    · rw [s_if_n h]; decide
theorem cIJ {L : sL} {x : Nat} (hT : cTk L) (hx : x < s_nc L) : x / s_my L < L.2.2.2.1.length ∧ x % s_my L < s_my L := by
  have h1 := hT.my.1
  unfold s_nc at hx
  exact ⟨(Nat.div_lt_iff_lt_mul h1).mpr hx, Nat.mod_lt _ h1⟩
theorem cJI {L : sL} {i j : Nat} (hi : i < L.2.2.2.1.length) (hj : j < s_my L) : s_my L * i + j < s_nc L ∧ (s_my L * i + j) / s_my L = i ∧ (s_my L * i + j) % s_my L = j := by
  refine ⟨?_, ?_, ?_⟩
  · unfold s_nc
    have : s_my L * (i + 1) ≤ s_my L * L.2.2.2.1.length := Nat.mul_le_mul_left _ hi
    rw [Nat.mul_add, Nat.mul_one] at this
    rw [Nat.mul_comm L.2.2.2.1.length]
    omega
  · rw [Nat.mul_add_div (by omega), Nat.div_eq_of_lt hj, Nat.add_zero]
  · rw [Nat.mul_add_mod, Nat.mod_eq_of_lt hj]
/-- how often it's told: the places of the cases -/
theorem c_TL {t : Nat} {L : sL} (hST : sST fm ly rk) (ht : t < 6) (hl : ly t = some L) (hT : cTk L) (hF : cFP kd L) : cSW fm ly kd t (fun k => ∃ x, x < s_nc L ∧ cNw fm (cPl fm ly kd L x) L.1 k) = s_TL fm ly kd t := by
  have hB := hST.2.2.2.2.1 t ht L hl
  rw [s_TL_st hST.1 hST.2.1 hST.2.2.1 ht]
  unfold s_ts
  rw [hl]
  unfold cSW
  have ws : cWd t = 64 := by unfold cWd; rw [if_pos ht]
  rw [ws, s_sm_mul]
  refine s_sm_congr (fun c hc => ?_)
  obtain ⟨A, eA⟩ : ∃ A : Nat → Prop, A = fun a => ∃ i, i < L.2.2.2.1.length ∧ a = cPa fm ly kd L c i := ⟨_, rfl⟩
  obtain ⟨B, eB⟩ : ∃ B : Nat → Prop, B = fun b => ∃ j, j < s_my L ∧ b = cPb fm ly kd L c j := ⟨_, rfl⟩
  have hiff : ∀ q, q < 64 → ((∃ x, x < s_nc L ∧ cNw fm (cPl fm ly kd L x) L.1 (64 * c + q)) ↔ (s_RE fm L.1 c ∧ fm c ≠ []) ∧ (A (q / 8) ∧ B (q % 8))) := by
    intro q hq
    rw [eA, eB]
    constructor
    · rintro ⟨x, hx, e, h1, h2, h3⟩
      obtain ⟨x1, x2⟩ := cIJ hT hx
      have a1 := cPa_lt (fm := fm) (ly := ly) (e := e) hT hF x1
      have a2 := cPb_lt (fm := fm) (ly := ly) (e := e) hT hF x2
      unfold cPl at h3
      have he : e = c := by omega
      subst he
      exact ⟨⟨h1, h2⟩, ⟨_, x1, by omega⟩, ⟨_, x2, by omega⟩⟩
    · rintro ⟨⟨h1, h2⟩, ⟨i, hi, ei⟩, ⟨j, hj, ej⟩⟩
      obtain ⟨z1, z2, z3⟩ := cJI hi hj
      refine ⟨_, z1, c, h1, h2, ?_⟩
      unfold cPl
      rw [z2, z3, ← ei, ← ej]
      omega
  have e1 : s_sm (fun j => s_if (∃ x, x < s_nc L ∧ cNw fm (cPl fm ly kd L x) L.1 (64 * c + j)) (s_wt fm ly kd ((64 * c + j) / 64)) 0) 64 = s_if (s_RE fm L.1 c ∧ fm c ≠ []) (s_wt fm ly kd c * (s_cn A 8 * s_cn B 8)) 0 := by
    by_cases h : s_RE fm L.1 c ∧ fm c ≠ []
    · rw [s_if_p h, ← s_cn_prod, ← s_sm_if]
      refine s_sm_congr (fun q hq => ?_)
      rw [show (64 * c + q) / 64 = c by omega]
      by_cases h2 : A (q / 8) ∧ B (q % 8)
      · rw [s_if_p h2, s_if_p ((hiff q hq).mpr ⟨h, h2⟩)]
      · rw [s_if_n h2, s_if_n (fun z => h2 ((hiff q hq).mp z).2)]
    · rw [s_if_n h]
      refine (s_sm_congr (h := fun _ => 0) (fun q hq => ?_)).trans (s_sm_zero 64)
      exact s_if_n (fun z => h ((hiff q hq).mp z).1)
  rw [e1]
  have cA : s_cn A 8 = s_if (s_RD fm ly c L.2.1) (s_ul (kd L.2.1) L.2.2.2.1) 1 := by
    rw [eA]
    unfold cPa
    by_cases h : s_RD fm ly c L.2.1
    · simp only [s_if_p h]
      exact hF.1.cn hB.1 hT.2.2.2.1
    · simp only [s_if_n h]
      exact s_cn_1 (j := 0) (by decide) (fun k _ => ⟨fun ⟨i, _, e⟩ => e, fun e => ⟨0, hT.2.2.1, e⟩⟩)
  have cB : s_cn B 8 = (match L.2.2.1 with | none => 1 | some o => s_if (s_RD fm ly c o) (s_ul (kd o) L.2.2.2.2) 1) := by
    rw [eB]
    unfold cPb
    cases ho : L.2.2.1 with
    | none => exact s_cn_1 (j := 0) (by decide) (fun k _ => ⟨fun ⟨i, _, e⟩ => e, fun e => ⟨0, hT.my.1, e⟩⟩)
    | some o =>
      simp only []
      by_cases h : s_RD fm ly c o
      · simp only [s_if_p h]
        rw [cMy ho]
        exact (hF.2 o ho).cn hB.2.1 (hT.2.2.2.2 o ho).2.2.2
      · simp only [s_if_n h]
        exact s_cn_1 (j := 0) (by decide) (fun k _ => ⟨fun ⟨i, _, e⟩ => e, fun e => ⟨0, hT.my.1, e⟩⟩)
  rw [cA, cB]
  by_cases h : s_RE fm L.1 c ∧ fm c ≠ []
  · rw [s_if_p h, s_if_p h]
    unfold s_tc s_wt s_ak
    rw [Nat.mul_assoc]
    rfl
  · rw [s_if_n h, s_if_n h]
/-- the cases fit -/
theorem c_Cx {t : Nat} {L : sL} {ow : sO} (hST : sST fm ly rk) (ht : t < 6) (hl : ly t = some L) (hT : cTk L) (hF : cFP kd L) : cCx fm ly kd t (s_nc L) (cPl fm ly kd L) (fun x => s_bi L ow (x / s_my L) (x % s_my L)) := by
  have hB := hST.2.2.2.2.1 t ht L hl
  have ws : cWd t = 64 := by unfold cWd; rw [if_pos ht]
  refine ⟨by omega, fun x hx e he => ?_, fun x y hx hy e he h => ?_⟩
  · obtain ⟨x1, x2⟩ := cIJ hT hx
    have a1 := cPa_lt (fm := fm) (ly := ly) (e := e) hT hF x1
    have a2 := cPb_lt (fm := fm) (ly := ly) (e := e) hT hF x2
    rw [ws]
    unfold cPl
    omega
  · obtain ⟨x1, x2⟩ := cIJ hT hx
    obtain ⟨y1, y2⟩ := cIJ hT hy
    have a1 := cPa_lt (fm := fm) (ly := ly) (e := e) hT hF x1
    have a2 := cPb_lt (fm := fm) (ly := ly) (e := e) hT hF x2
    have b1 := cPa_lt (fm := fm) (ly := ly) (e := e) hT hF y1
    have b2 := cPb_lt (fm := fm) (ly := ly) (e := e) hT hF y2
    unfold cPl at h
    have ea : cPa fm ly kd L e (x / s_my L) = cPa fm ly kd L e (y / s_my L) := by omega
    have eb : cPb fm ly kd L e (x % s_my L) = cPb fm ly kd L e (y % s_my L) := by omega
    have ka : s_RD fm ly e L.2.1 → cFi (kd L.2.1) L.2.2.2.1 (x / s_my L) = cFi (kd L.2.1) L.2.2.2.1 (y / s_my L) := fun z => by
      unfold cPa at ea; rw [s_if_p z, s_if_p z] at ea; exact ea
    have kb : ∀ o, L.2.2.1 = some o → s_RD fm ly e o → cFi (kd o) L.2.2.2.2 (x % s_my L) = cFi (kd o) L.2.2.2.2 (y % s_my L) := fun o ho z => by
      unfold cPb at eb
      rw [ho] at eb
      simp only [s_if_p z] at eb
      exact eb
    refine ⟨fun r hr => ?_, fun q hq => ?_⟩
    · unfold s_bi
      by_cases h3 : r = L.2.1
      · subst h3
        simp only [if_true, Option.map_some]
        rw [hF.1.eq hB.1 x1 y1 (ka hr)]
      · by_cases h4 : L.2.2.1 = some r
        · simp only [if_neg h3, if_pos h4, Option.map_some]
          have m := cMy h4
          rw [(hF.2 r h4).eq hB.2.1 (by omega) (by omega) (kb r h4 hr)]
        · simp only [if_neg h3, if_neg h4]
    · have hrr : ∀ r, s_RD fm ly q r → s_RD fm ly e r := fun r z => s_RE_RD hST.1 hST.2.1 hST.2.2.1 he hq z
      have e1 : cPa fm ly kd L q (x / s_my L) = cPa fm ly kd L q (y / s_my L) := by
        unfold cPa
        by_cases z : s_RD fm ly q L.2.1
        · rw [s_if_p z, s_if_p z]; exact ka (hrr _ z)
        · rw [s_if_n z, s_if_n z]
      have e2 : cPb fm ly kd L q (x % s_my L) = cPb fm ly kd L q (y % s_my L) := by
        unfold cPb
        cases ho : L.2.2.1 with
        | none => rfl
        | some o =>
          show s_if (s_RD fm ly q o) _ 0 = s_if (s_RD fm ly q o) _ 0
          by_cases z : s_RD fm ly q o
          · rw [s_if_p z, s_if_p z]; exact kb o ho (hrr _ z)
          · rw [s_if_n z, s_if_n z]
      unfold cPl
      rw [e1, e2]
end CT
