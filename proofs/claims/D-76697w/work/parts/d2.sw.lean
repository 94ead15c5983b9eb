set_option maxRecDepth 100000
/-! swing -/
section SWI
variable {l : Launch} {g : zG} {d x0 : Nat} {P : cP} {σ σ' : cS} {hp hp' : zHp} {nx M M' : Nat} {A : sV} {S : sSt} {mc ms kc ks : Nat}
/-- what is told has no signed zero -/
theorem s_EV_N {fm : sF} {ly : sY} {kd : Nat → Int32} {rk : Nat → Nat} (hr : s_rk fm ly rk) (hm : s_mo fm) (hb : ∀ x, x < 30 → rk x < 30) (hF : s_BF fm) (hL : s_BL ly) : ∀ (n c : Nat), rk c < n → c < 24 → ∀ ow : sO, s_BO ow → s_N (s_EV fm ly kd ow c).1 := by
  intro n c hn hc ow ho
  have ih : ∀ c, c < 24 → ∀ ow : sO, s_BO ow → s_B (s_EV fm ly kd ow c).1 := fun c hc ow ho => s_EV_B hr hm hb hF hL _ c (Nat.lt_succ_self _) hc ow ho
  have n0 : s_N 0 := ⟨fk_B0.f, fun _ => rfl⟩
  rw [s_EV_st hr hm hb hc]
  unfold s_st
  by_cases he : fm c = []
  · rw [if_pos he]
    unfold s_in
    cases hv : ow c with
    | none => exact n0
    | some v => exact fb_N (ho c v hv)
  · rw [if_neg he]
    have hrun := s_run_B (cv := s_EV fm ly kd ow) (tv := fun t f => match ly t with | none => (0, 4) | some L => s_tv (fun k => s_EV fm ly kd (s_bi L ow (k / s_my L) (k % s_my L)) L.1) (s_nc L) f) (c := c) (ms := fm c) (st := [])
      (fun m hm1 h24 _ => ih m.1 h24 ow ho)
      (fun m hm1 h3 f => by
        have b := hm c hc m hm1 h3
        cases hl : ly (m.1 % 10) with
        | none => intro h; exact absurd (show (4 : Int32) = 0 from h) (by decide)
        | some L =>
          obtain ⟨q1, q2, q3⟩ := hL _ b L hl
          have q4 := hr.2.2 _ b L hl
          exact s_tv_B (fun k _ _ => ih L.1 q4.1 _ (s_bi_B ho q1 q2)) q3)
      (hF c hc) (fun a ha => by cases ha)
    unfold s_fn
    generalize s_run _ _ c (fm c) [] = st at hrun
    match st, hrun with
    | [], _ => exact n0
    | a :: r, hrun =>
      simp only
      by_cases h0 : a.2.1 = 0
      · rw [if_pos h0]; exact fb_N (hrun a (List.mem_cons_self ..) h0)
      · rw [if_neg h0]; exact n0
theorem s_N.nz {a : UInt64} (h : s_N a) : ∀ s q, fv a = .fin s 0 q → s = false := by
  intro s q e
  have hz : s_eq a 0 := (fq_nz e).mpr rfl
  have := h.2 hz
  subst this
  have e0 : fv 0 = .fin false 0 (-1074) := fq_v0
  rw [e0] at e
  cases e
  rfl
/-- the sheet with a number of an input -/
theorem s_vb_N (hV : sOK S) {i c : Nat} {x : UInt64} (hc : c < 24) (hx : s_B x) : s_N (s_vb S i c x).1 ∧ s_B (s_vb S i c x).1 := by
  obtain ⟨rk, hST⟩ := hV.st
  have ho : s_BO (s_up S.2.2.2 i (some x)) := fun e v he => by
    unfold s_up at he
    by_cases q : e = i
    · rw [if_pos q] at he; cases he; exact hx
    · rw [if_neg q] at he; exact hV.2.2.2.2.2.1 e v he
  exact ⟨s_EV_N hST.1 hST.2.1 hST.2.2.1 hST.2.2.2.1 hST.2.2.2.2.1 _ c (Nat.lt_succ_self _) hc _ ho, s_EV_B hST.1 hST.2.1 hST.2.2.1 hST.2.2.2.1 hST.2.2.2.2.1 _ c (Nat.lt_succ_self _) hc _ ho⟩
/-- an input is given a number, a cell is told, with the sheet else as it was -/
theorem c_try (hV : sOK A.1) (hI : cINV g x0 P hp σ A M) {i c : Nat} (hi : i < 24) (hc : c < 24) {x : UInt64} (hx : s_B x) {τ : cS} {M1 : Nat} (t1 : ∀ k, k ≠ 2 → k ≠ 3 → k ≠ 10 → τ.1 k = σ.1 k) (t3 : cSt τ M1) (t4 : ∀ e, e ≠ i → τ.2.2.2.1 e = σ.2.2.2.1 e) (t5 : τ.2.2.2.2 = σ.2.2.2.2) (hM : M1 + 192001 ≤ 2147483647) (hd : 1352 ≤ d) {K : UInt64 → zHp → Nat → Prop}
    (hK : ∀ v τ', τ'.2.1 = none → (∀ k, k ≠ 2 → k ≠ 3 → k ≠ 10 → τ'.1 k = σ.1 k) → cSt τ' (M1 + 192001) → (∀ e, e ≠ i → τ'.2.2.2.1 e = σ.2.2.2.1 e) → τ'.2.2.2.2 = σ.2.2.2.2 → τ'.1 2 = (s_vb A.1 i c x).2.1 → s_B v → ((s_vb A.1 i c x).2.1 = 0 → v = (s_vb A.1 i c x).1) → K v (cput g x0 P τ' hp) nx) : zMt l g yX0_asked cX0_asked 2 (some .double) d 0 0 [.ref x0, .int (nI c)] (cput g x0 P (cuO τ i (s_kp (A.1.2.2.1 i) x)) hp) nx (zQd g K) := by
  obtain ⟨rk, hST⟩ := hV.st
  obtain ⟨i1, i2, i3, i4, i5, i6, i7, i8, i9, i10⟩ := hI
  obtain ⟨τ2, e2⟩ : ∃ τ2, τ2 = cuO τ i (s_kp (A.1.2.2.1 i) x) := ⟨_, rfl⟩
  rw [← e2]
  have f5 : τ2.2.2.2.2 = σ.2.2.2.2 := by rw [e2]; exact t5
  have jS : cSH g x0 P hp τ2.2.2.2.2 A.1.1 A.1.2.1 A.1.2.2.1 := by rw [f5]; exact i6.sh
  have jO : cOW A.1.1 A.1.2.2.1 τ2.2.2.2.1 (s_up A.1.2.2.2 i (some x)) := by
    have := i6.2.2.1.up (c := i) (v := x) hx
    have eo : τ2.2.2.2.1 = va_up σ.2.2.2.1 i (s_kp (A.1.2.2.1 i) x) := by
      rw [e2]
      funext e
      show va_up τ.2.2.2.1 i _ e = _
      by_cases q : e = i
      · subst q; rw [va_s, va_s]
      · rw [va_o q, va_o q]; exact t4 e q
    rw [eo]; exact this
  have jt : cSt τ2 M1 := by rw [e2]; exact t3
  refine c_asked i1 jS hST hV.tm hc jO jt hM hd (fun v σ1 a1 a2 a3 a4 a5 a6 a7 a8 => ?_)
  refine hK v σ1 a2 (fun k p q r => by rw [a3 k p q r, e2]; exact t1 k p q r) a4 (fun e he => ?_) (by rw [a1]; exact f5) a5 a7 a8
  rw [a1, e2]
  show va_up τ.2.2.2.1 i _ e = _
  rw [va_o he]; exact t4 e he
theorem s_sw_gap {S : sSt} {cell : Nat} {e : UInt64} {i : Nat} : ∀ {k : Nat}, i ≤ k → (∀ q, i ≤ q → q < k → ¬ s_RD S.1 S.2.1 cell q) → s_sw S cell e k = s_sw S cell e i := by
  intro k
  induction k with
  | zero => intro h _; rw [show i = 0 by omega]
  | succ k ih =>
    intro h1 h2
    by_cases e : i = k + 1
    · rw [e]
    · have := ih (by omega) (fun q a b => h2 q a (by omega))
      rw [← this]
      simp only [s_sw]
      cases hv : S.2.2.2 k with
      | none => rfl
      | some v => exact s_if_n (fun z => h2 k (by omega) (by omega) z.1)
/-- back after the tries -/
theorem c_tried (hI : cINV g x0 P hp σ A M) {i : Nat} {τ : cS} {M1 : Nat} (t2 : τ.2.1 = none) (t1 : ∀ k, k ≠ 2 → k ≠ 3 → k ≠ 10 → τ.1 k = σ.1 k) (t3 : cSt τ M1) (t4 : ∀ e, e ≠ i → τ.2.2.2.1 e = σ.2.2.2.1 e) (t5 : τ.2.2.2.2 = σ.2.2.2.2) : cINV g x0 P hp (cuO τ i (σ.2.2.2.1 i)) A M1 := by
  refine hI.tl (Prod.ext (funext fun e => ?_) t5) t2 t1 t3
  show va_up τ.2.2.2.1 i _ e = _
  by_cases q : e = i
  · subst q; exact va_s
  · rw [va_o q]; exact t4 e q
theorem co_swing (hV : sOK A.1) (h39 : s_in39 A.1) (hI : cINV g x0 P hp σ A M) (hM : M + 10000000 ≤ 2147483647) (hd : 1400 ≤ d) {x e part : Int32} {K : Int64 → zHp → Nat → Prop} (hK : ∀ σ', cINV g x0 P hp σ' A (M + 10000000) → K (o_swing A x e part) (cput g x0 P σ' hp) nx) : zMtW l g yX0_swing cX0_swing 19 (some .long) [(87, 120, 238, 0), (130, 163, 238, 0), (173, 210, 238, 0), (220, 228, 238, 0), (238, 240, 238, 0)] d 0 0 [.ref x0, .int x, .int e, .int part] (cput g x0 P σ hp) nx (zQl g K) := by
  obtain ⟨d, rfl⟩ := Nat.exists_eq_add_of_le' (show 1 ≤ d by omega)
  have h0 := hK σ (cIV_tl hI (by omega))
  have hx := hV.2.2.2.2.2.2
  apply met_X0_swing
  unfold wp_X0_swing
  have m29 : ∀ h n, (o_swing A x e part = -2 ∧ h = cput g x0 P σ hp ∧ nx = n) → K (-2) h n := by
    rintro h n ⟨e, rfl, rfl⟩
    rw [e] at h0
    exact h0
  refine c_isCell (by omega) (fun ec => ?_) (fun c hc ex ec => ?_)
  · exact ⟨fun h n => o_swing A x e part = -2 ∧ h = cput g x0 P σ hp ∧ nx = n, m29, fun _ => ⟨by unfold o_swing; rw [ec], rfl, rfl⟩, fun z => absurd rfl z⟩
  refine ⟨fun h n => o_swing A x e part = -2 ∧ h = cput g x0 P σ hp ∧ nx = n, m29, fun z => absurd z (by decide), fun _ => ?_⟩
  subst ex
  have no : (e < 1 ∨ 80000 < e ∨ part < 0 ∨ 1 < part) → (o_swing A (nI c) e part = -2 ∧ cput g x0 P σ hp = cput g x0 P σ hp ∧ nx = nx) := fun h => ⟨by unfold o_swing; rw [ec]; simp only []; rw [s_if_p h], rfl, rfl⟩
  refine c_inn (a := 1) (b := 80000) (by decide) (by decide) (by omega) (fun z => ⟨fun _ => no (by rcases z with z | z; exact Or.inl z; exact Or.inr (Or.inl z)), fun y => absurd rfl y⟩) (fun h1 => ⟨fun y => absurd y (by decide), fun _ => ?_⟩)
  refine c_inn (a := 0) (b := 1) (by decide) (by decide) (by omega) (fun z => ⟨fun _ => no (Or.inr (Or.inr z)), fun y => absurd rfl y⟩) (fun h2 => ⟨fun y => absurd y (by decide), fun _ => ?_⟩)
  clear no m29 h0
  have eo : o_swing A (nI c) e part = (if part = 0 then (s_io (s_sw A.1 c (o_8 e) 24).1).toInt64 else match (s_sw A.1 c (o_8 e) 24).1 with
    | none => -1
    | some _ => (s_sw A.1 c (o_8 e) 24).2.toInt64) := by
    unfold o_swing
    rw [ec]
    simp only []
    have hn9 : ¬ (e < 1 ∨ 80000 < e ∨ part < 0 ∨ 1 < part) := by
      rintro (q | q | q | q)
      · exact h1 (Or.inl q)
      · exact h1 (Or.inr q)
      · exact h2 (Or.inl q)
      · exact h2 (Or.inr q)
    rw [s_if_n hn9]
    cases (s_sw A.1 c (o_8 e) 24).1 <;> rfl
  rw [eo] at hK
  have hI' := hI
  obtain ⟨i1, i2, i3, i4, i5, i6, i7, i8, i9, i10⟩ := hI
  have hB0 := i1.1
  have cc : (nI c).toNatClampNeg = c := nI_clamp (by omega)
  have hwg := ((i6.2.1 c (by omega)).1 hc).1.2
  have h24 : ∀ x, s_RD A.1.1 A.1.2.1 c x → x < 24 := fun x h => (s_RD_in hV hc h).1
  have h8 : s_B (o_8 e) := fb_8
  rw [cg_reads, ca_reads]
  refine ⟨vp_in_nI hc (by decide), ?_⟩
  intro r19 e19
  rw [cc] at e19
  subst e19
  rintro _ rfl
  rw [hz_o (cput_b (show 24 + c < 49 by omega)) (by decide)]
  have st : ∀ (τ : cS), τ.2.2.2.2 = σ.2.2.2.2 → ∀ i, i ≤ 24 → ∀ PP : Int32 → zHp → Nat → Prop, (∀ x, ((∃ k, i ≤ k ∧ k < 24 ∧ s_RD A.1.1 A.1.2.1 c k ∧ x = nI k ∧ s_sw A.1 c (o_8 e) k = s_sw A.1 c (o_8 e) i) ∨ (x = -1 ∧ s_sw A.1 c (o_8 e) 24 = s_sw A.1 c (o_8 e) i)) → PP x (cput g x0 P τ hp) nx) → zMt l g yJ0_nextSetBit cJ0_nextSetBit 5 (some .int) d 0 0 [.ref (x0 + cBA (24 + c)), .int (nI i)] (cput g x0 P τ hp) nx (zQi g PP) := by
    intro τ eτ i hi PP hx
    exact c_bnext (p := s_RD A.1.1 A.1.2.1 c) (by omega) (by rw [eτ]; exact hwg) h24 hi (by omega) (fun k k1 k2 k3 k4 => hx _ (Or.inl ⟨k, k1, k2, k3, rfl, s_sw_gap k1 k4⟩)) (fun z => hx _ (Or.inr ⟨rfl, s_sw_gap hi z⟩))
  refine st σ rfl 0 (by omega) _ (fun x hx0 => ?_)
  /- what was found, how wide -/
  let F : Option Nat × UInt64 → Int32 → UInt64 → Prop := fun q a b => a = s_io q.1 ∧ b = q.2
  refine ⟨fun n r a b y h n' => ∃ τ k M1, ((n = 25 - k ∧ k < 24 ∧ s_RD A.1.1 A.1.2.1 c k ∧ y = nI k) ∨ (n = 0 ∧ y = -1 ∧ k = 24)) ∧ r = some (x0 + cBA (24 + c)) ∧ F (s_sw A.1 c (o_8 e) k) a b ∧ s_F (s_sw A.1 c (o_8 e) k).2 ∧ M1 ≤ M + 384002 * k ∧ cINV g x0 P hp τ A M1 ∧ τ.2.2.2 = σ.2.2.2 ∧ h = cput g x0 P τ hp ∧ nx = n', ?_, ?_⟩
  · have hF0 : F (s_sw A.1 c (o_8 e) 0) (-1) FP.dconst0 := ⟨rfl, rfl⟩
    have hB00 : s_F (s_sw A.1 c (o_8 e) 0).2 := fk_B0.f
    rcases hx0 with ⟨k, -, k2, k3, rfl, k5⟩ | ⟨rfl, k5⟩
    · exact ⟨25 - k, σ, k, M, Or.inl ⟨rfl, k2, k3, rfl⟩, rfl, by rw [k5]; exact hF0, by rw [k5]; exact hB00, by omega, hI', rfl, rfl, rfl⟩
    · exact ⟨0, σ, 24, M, Or.inr ⟨rfl, rfl, rfl⟩, rfl, by rw [k5]; exact hF0, by rw [k5]; exact hB00, by omega, hI', rfl, rfl, rfl⟩
  rintro n r a b y h n' ⟨τ, k, M1, hy, rfl, ⟨rfl, rfl⟩, hBk, hM1, hIk, eτ, rfl, rfl⟩
  rcases hy with ⟨rfl, k2, k3, rfl⟩ | ⟨rfl, rfl, rfl⟩
  rotate_left
  · /- all tried -/
    refine ⟨fun _ => ?_, fun z => absurd (by decide) z⟩
    have hfin := hK τ (cIV_tl hIk (by omega))
    have hlt := s_sw_lt (S := A.1) (cell := c) (e := o_8 e) 24
    refine ⟨fun _ _ _ _ v h n => v = (if part = 0 then (s_io (s_sw A.1 c (o_8 e) 24).1).toInt64 else match (s_sw A.1 c (o_8 e) 24).1 with
      | none => -1
      | some _ => (s_sw A.1 c (o_8 e) 24).2.toInt64) ∧ h = cput g x0 P τ hp ∧ nx = n, ?_, ?_⟩
    · rintro _ _ _ _ v h n ⟨rfl, rfl, rfl⟩
      exact hfin
    refine ⟨fun _ a _ _ h n => a = s_io (s_sw A.1 c (o_8 e) 24).1 ∧ (part = 0 ∨ (s_sw A.1 c (o_8 e) 24).1 = none) ∧ h = cput g x0 P τ hp ∧ nx = n, ?_, fun z => ⟨rfl, Or.inl z, rfl, rfl⟩, fun z => ⟨fun y => ⟨rfl, Or.inr ((s_io_e hlt).mp y), rfl, rfl⟩, fun y => ?_⟩⟩
    · rintro _ a _ _ h n ⟨rfl, q, rfl, rfl⟩
      refine ⟨?_, rfl, rfl⟩
      rcases q with q | q
      · rw [if_pos q]
      · by_cases z : part = 0
        · rw [if_pos z]
        · rw [if_neg z, q]; rfl
    · refine t_dlb (by omega) hBk ⟨?_, rfl, rfl⟩
      rw [if_neg z]
      cases hq : (s_sw A.1 c (o_8 e) 24).1 with
      | none => exact absurd ((s_io_e hlt).mpr hq) y
      | some _ => rfl
  /- one input -/
  refine ⟨fun z => absurd z (nI_pos (by omega)), fun _ => ?_⟩
  obtain ⟨-, kf⟩ := s_RD_in hV hc k3
  have ck : (nI k).toNatClampNeg = k := nI_clamp (by omega)
  have eX : τ.2.2.2.2 = σ.2.2.2.2 := by rw [eτ]
  have eown : τ.2.2.2.1 = σ.2.2.2.1 := by rw [eτ]
  have jS := hIk.2.2.2.2.2.1
  refine cRC (S := A.1) jS.1 k2 ?_
  rw [cc_o i1 k2]
  /- on to the next -/
  have next : ∀ (τ1 : cS) (M2 : Nat), M2 ≤ M + 384002 * (k + 1) → cINV g x0 P hp τ1 A M2 → τ1.2.2.2 = σ.2.2.2 → s_F (s_sw A.1 c (o_8 e) (k + 1)).2 → ∀ a b, F (s_sw A.1 c (o_8 e) (k + 1)) a b → zo (cput g x0 P τ1 hp) (some (x0 + cBA (24 + c))) [34] fun a_69 ci_70 fs_71 => zMt l g yJ0_nextSetBit cJ0_nextSetBit 5 (some .int) d 0 0 (.ref a_69 :: [.int (nI k + (1 : Int32))]) (cput g x0 P τ1 hp) nx (zQi g fun x_67 hp_65 nx_66 =>
      (∃ k_68, k_68 < 25 - k ∧ ∃ τ k' M1, ((k_68 = 25 - k' ∧ k' < 24 ∧ s_RD A.1.1 A.1.2.1 c k' ∧ x_67 = nI k') ∨ (k_68 = 0 ∧ x_67 = -1 ∧ k' = 24)) ∧ some (x0 + cBA (24 + c)) = some (x0 + cBA (24 + c)) ∧ F (s_sw A.1 c (o_8 e) k') a b ∧ s_F (s_sw A.1 c (o_8 e) k').2 ∧ M1 ≤ M + 384002 * k' ∧ cINV g x0 P hp τ A M1 ∧ τ.2.2.2 = σ.2.2.2 ∧ hp_65 = cput g x0 P τ hp ∧ nx = nx_66)) := by
    intro τ1 M2 hM2 hI2 e2 hB2 a b hF2
    rw [hz_o (cput_b (show 24 + c < 49 by omega)) (by decide), nI_1]
    refine st τ1 (by rw [e2]) (k + 1) (by omega) _ (fun x hx1 => ?_)
    rcases hx1 with ⟨k', j1, j2, j3, rfl, j5⟩ | ⟨rfl, j5⟩
    · exact ⟨25 - k', by omega, τ1, k', M2, Or.inl ⟨rfl, j2, j3, rfl⟩, rfl, by rw [j5]; exact hF2, by rw [j5]; exact hB2, by omega, hI2, e2, rfl, rfl⟩
    · have hM24 : M2 ≤ M + 384002 * 24 := Nat.le_trans hM2 (Nat.add_le_add_left (Nat.mul_le_mul_left _ k2) _)
      exact ⟨0, by omega, τ1, 24, M2, Or.inr ⟨rfl, rfl, rfl⟩, rfl, by rw [j5]; exact hF2, by rw [j5]; exact hB2, hM24, hI2, e2, rfl, rfl⟩
  refine ⟨fun q h n => ((q = 1 ∧ A.1.2.2.2 k = none) ∨ (q = 0 ∧ A.1.2.2.2 k ≠ none)) ∧ h = cput g x0 P τ hp ∧ nx = n, ?_, c_isEm (S := A.1) i1 jS.2.2.1 k2 kf (by omega) (fun w => ⟨Or.inl ⟨rfl, w⟩, rfl, rfl⟩) (fun w => ⟨Or.inr ⟨rfl, w⟩, rfl, rfl⟩)⟩
  rintro q h n ⟨hq, rfl, rfl⟩
  refine ⟨fun r a b y r2 h n => ∃ τ1 M2, r = some (x0 + cBA (24 + c)) ∧ y = nI k ∧ M2 ≤ M + 384002 * (k + 1) ∧ cINV g x0 P hp τ1 A M2 ∧ τ1.2.2.2 = σ.2.2.2 ∧ s_F (s_sw A.1 c (o_8 e) (k + 1)).2 ∧ F (s_sw A.1 c (o_8 e) (k + 1)) a b ∧ h = cput g x0 P τ1 hp ∧ nx = n, ?_, fun w => ?_, fun w => ?_⟩
  · rintro r a b y r2 h n ⟨τ1, M2, rfl, rfl, w1, w2, w3, w4, w5, rfl, rfl⟩
    exact next τ1 M2 w1 w2 w3 w4 a b w5
  rotate_left
  · have hn : A.1.2.2.2 k = none := by
      rcases hq with ⟨-, e⟩ | ⟨e, -⟩
      · exact e
      · exact absurd e w
    have es : s_sw A.1 c (o_8 e) (k + 1) = s_sw A.1 c (o_8 e) k := by simp only [s_sw, hn]
    exact ⟨τ, M1, rfl, rfl, by omega, hIk, eτ, by rw [es]; exact hBk, by rw [es]; exact ⟨rfl, rfl⟩, rfl, rfl⟩
  obtain ⟨v, hv⟩ : ∃ v, A.1.2.2.2 k = some v := by
    rcases hq with ⟨e, -⟩ | ⟨-, e⟩
    · rw [e] at w; exact absurd w (by decide)
    · cases hv : A.1.2.2.2 k with
      | none => exact absurd hv e
      | some v => exact ⟨v, rfl⟩
  have hov : σ.2.2.2.1 k = v := by
    rcases i6.2.2.1.2 k k2 kf with ⟨e, -⟩ | ⟨v', e1, e2, -⟩
    · rw [hv] at e; cases e
    · rw [hv] at e1; cases e1
      rw [e2]; exact hx.2.2.1 k k2 v hv
  have hv39 : s_Bn 39 v := h39 k k2 v hv
  have he39 : s_Bn 39 (o_8 e) := fb_8n
  have hBa : s_B (FP.dadd v (o_8 e)) := fb_addn (by decide) hv39 he39
  have hBs : s_B (FP.dsub v (o_8 e)) := fb_subn (by decide) hv39 he39
  have es : s_sw A.1 c (o_8 e) (k + 1) = s_if (s_RD A.1.1 A.1.2.1 c k ∧ (s_vb A.1 k c (FP.dadd v (o_8 e))).2.1 = 0 ∧ (s_vb A.1 k c (FP.dsub v (o_8 e))).2.1 = 0 ∧ ((s_sw A.1 c (o_8 e) k).1 = none ∨ s_gt (s_ab (FP.dsub (s_vb A.1 k c (FP.dadd v (o_8 e))).1 (s_vb A.1 k c (FP.dsub v (o_8 e))).1)) (s_sw A.1 c (o_8 e) k).2))
        (some k, s_ab (FP.dsub (s_vb A.1 k c (FP.dadd v (o_8 e))).1 (s_vb A.1 k c (FP.dsub v (o_8 e))).1)) (s_sw A.1 c (o_8 e) k) := by simp only [s_sw, hv]
  rw [cc_w i1 k2, eown, hov]
  refine ⟨fb_nn h8, fb_nn hBa, ?_⟩
  rw [cc_o i1 k2]
  refine ⟨fun q h n => q = s_kp (A.1.2.2.1 k) (FP.dadd v (o_8 e)) ∧ h = cput g x0 P τ hp ∧ nx = n, ?_, c_kept (cput_c i1 k2) (i1.2.2.1 k k2).2.2.2 (by omega) hBa ⟨by rw [i6.1.2.1 k k2]; rfl, rfl, rfl⟩⟩
  rintro q h n ⟨rfl, rfl, rfl⟩
  rw [cc_pw i1 k2, cz_o]
  have hσ := hI'
  have τ1f : ∀ k, k ≠ 2 → k ≠ 3 → k ≠ 10 → τ.1 k = τ.1 k := fun _ _ _ _ => rfl
  refine c_try hV hIk k2 hc hBa (τ := τ) (M1 := M1) τ1f hIk.2.2.2.2.2.2.2.2.2 (fun _ _ => rfl) rfl (by omega) (by omega) (fun x85 τ1 a2 a1 a3 a4 a5 a6 a7 a8 => ?_)
  rw [cg_fault, a6]
  /- it failed: back -/
  have backτ : ∀ (τ1 : cS) (M2 : Nat), τ1.2.1 = none → (∀ k, k ≠ 2 → k ≠ 3 → k ≠ 10 → τ1.1 k = τ.1 k) → cSt τ1 M2 → (∀ e, e ≠ k → τ1.2.2.2.1 e = τ.2.2.2.1 e) → τ1.2.2.2.2 = τ.2.2.2.2 → cINV g x0 P hp (cuO τ1 k v) A M2 ∧ (cuO τ1 k v).2.2.2 = σ.2.2.2 := by
    intro τ1 M2 b2 b1 b3 b4 b5
    have := c_tried hIk b2 b1 b3 b4 b5
    rw [eown, hov] at this
    refine ⟨this, Prod.ext (funext fun e => ?_) (b5.trans eX)⟩
    show va_up τ1.2.2.2.1 k v e = _
    by_cases q : e = k
    · subst q; rw [va_s, hov]
    · rw [va_o q, b4 e q, eown]
  refine ⟨fun z1 => ?_, fun z1 => ?_⟩
  rotate_left
  · rw [cc_pw i1 k2]
    obtain ⟨y1, y2⟩ := backτ τ1 _ a2 a1 a3 a4 a5
    have es' : s_sw A.1 c (o_8 e) (k + 1) = s_sw A.1 c (o_8 e) k := by rw [es]; exact s_if_n (fun z => z1 z.2.1)
    exact ⟨_, _, rfl, rfl, by omega, y1, y2, by rw [es']; exact hBk, by rw [es']; exact ⟨rfl, rfl⟩, rfl, rfl⟩
  have e85 := a8 z1
  refine ⟨fb_nn h8, fb_nn hBs, ?_⟩
  rw [cc_o i1 k2]
  refine ⟨fun q h n => q = s_kp (A.1.2.2.1 k) (FP.dsub v (o_8 e)) ∧ h = cput g x0 P τ1 hp ∧ nx = n, ?_, c_kept (cput_c i1 k2) (i1.2.2.1 k k2).2.2.2 (by omega) hBs ⟨by rw [i6.1.2.1 k k2]; rfl, rfl, rfl⟩⟩
  rintro q h n ⟨rfl, rfl, rfl⟩
  rw [cc_pw i1 k2, cz_o]
  refine c_try hV hIk k2 hc hBs (τ := τ1) (M1 := M1 + 192001) a1 a3 a4 a5 (by omega) (by omega) (fun x99 τ2 b2 b1 b3 b4 b5 b6 b7 b8 => ?_)
  rw [cg_fault, b6]
  obtain ⟨y1, y2⟩ := backτ τ2 _ b2 b1 b3 b4 b5
  refine ⟨fun z2 => ?_, fun z2 => ?_⟩
  rotate_left
  · rw [cc_pw i1 k2]
    have es' : s_sw A.1 c (o_8 e) (k + 1) = s_sw A.1 c (o_8 e) k := by rw [es]; exact s_if_n (fun z => z2 z.2.2.1)
    exact ⟨_, _, rfl, rfl, by omega, y1, y2, by rw [es']; exact hBk, by rw [es']; exact ⟨rfl, rfl⟩, rfl, rfl⟩
  have e99 := b8 z2
  obtain ⟨n1, nB1⟩ := s_vb_N hV (i := k) hc hBa
  obtain ⟨n2, nB2⟩ := s_vb_N hV (i := k) hc hBs
  rw [← e85] at n1 nB1 es
  rw [← e99] at n2 nB2 es
  have hgF : ∀ g', g' = s_ab (FP.dsub x85 x99) → vf_n64 g' → True := fun _ _ _ => trivial
  have hlt := s_sw_lt (S := A.1) (cell := c) (e := o_8 e) k
  have hgB : s_Bn 41 (FP.dsub x85 x99) := fb_subn (by decide) nB1 nB2
  /- the gap -/
  refine ⟨fun r a b y r2 v' w1 w2 gp h n => r = some (x0 + cBA (24 + c)) ∧ a = s_io (s_sw A.1 c (o_8 e) k).1 ∧ b = (s_sw A.1 c (o_8 e) k).2 ∧ y = nI k ∧ r2 = some (P.1 k) ∧ v' = v ∧ gp = s_ab (FP.dsub x85 x99) ∧ h = cput g x0 P τ2 hp ∧ nx = n, ?_, fun z => ⟨fb_sub nB1.f nB2.f, rfl, rfl, rfl, rfl, rfl, rfl, ?_, rfl, rfl⟩, fun z => ⟨fb_sub nB2.f nB1.f, rfl, rfl, rfl, rfl, rfl, rfl, ?_, rfl, rfl⟩⟩
  rotate_left
  · exact (fb_ab2 nB1.f nB2.f n1.nz (fc_gle.mp z)).symm
  · exact (fb_ab1 nB1.f nB2.f (Classical.not_not.mp (fun y => z (fc_gle.mpr y)))).symm
  rintro r a b y r2 v' w1 w2 gp h n ⟨rfl, rfl, rfl, rfl, rfl, hv9, rfl, rfl, rfl⟩
  have hv9 := hv9.symm
  subst hv9
  have hBg : s_F (s_ab (FP.dsub x85 x99)) := s_ab_F hgB.f
  refine ⟨fun r a b y r2 v' w1 w2 gp h n => r = some (x0 + cBA (24 + c)) ∧ y = nI k ∧ r2 = some (P.1 k) ∧ v' = v ∧ gp = s_ab (FP.dsub x85 x99) ∧ ((s_sw A.1 c (o_8 e) k).1 = none ∨ s_gt (s_ab (FP.dsub x85 x99)) (s_sw A.1 c (o_8 e) k).2) ∧ h = cput g x0 P τ2 hp ∧ nx = n, ?_, fun z => ⟨rfl, rfl, rfl, rfl, rfl, Or.inl ((s_io_e (fun j hj => by have := hlt j hj; omega)).mp z), rfl, rfl⟩, fun z => ⟨fun z3 => ⟨rfl, rfl, rfl, rfl, rfl, Or.inr ((fc_gg hBg hBk).mp z3), rfl, rfl⟩, fun z3 => ?_⟩⟩
  · rintro r a b y r2 v' w1 w2 gp h n ⟨rfl, rfl, rfl, hv9, rfl, hor, rfl, rfl⟩
    have hv9 := hv9.symm
    subst hv9
    rw [cc_pw i1 k2]
    have es' : s_sw A.1 c (o_8 e) (k + 1) = (some k, s_ab (FP.dsub x85 x99)) := by rw [es]; exact s_if_p ⟨k3, z1, z2, hor⟩
    exact ⟨_, _, rfl, rfl, by omega, y1, y2, by rw [es']; exact hBg, by rw [es']; exact ⟨rfl, rfl⟩, rfl, rfl⟩
  · rw [cc_pw i1 k2]
    have es' : s_sw A.1 c (o_8 e) (k + 1) = s_sw A.1 c (o_8 e) k := by
      rw [es]
      refine s_if_n (fun y => ?_)
      rcases y.2.2.2 with q | q
      · exact z ((s_io_e (fun j hj => by have := hlt j hj; omega)).mpr q)
      · exact z3 ((fc_gg hBg hBk).mpr q)
    exact ⟨_, _, rfl, rfl, by omega, y1, y2, by rw [es']; exact hBk, by rw [es']; exact ⟨rfl, rfl⟩, rfl, rfl⟩
end SWI
