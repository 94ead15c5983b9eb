set_option maxRecDepth 100000
/-! told no more often than burdens say; asked, a table's cases -/
section AS
variable {l : Launch} {g : zG} {d x0 : Nat} {P : cP} {σ σ' σ1 σ2 τ : cS} {hp : zHp} {nx : Nat} {fm : sF} {ly : sY} {kd : Nat → Int32} {rk : Nat → Nat} {X : cX} {c M : Nat} {ow : sO}
theorem s_suml {α : Type} {f h : α → Nat} : ∀ {ms : List α}, (∀ m ∈ ms, f m ≤ h m) → (ms.map f).sum ≤ (ms.map h).sum := by
  intro ms
  induction ms with
  | nil => intro _; exact Nat.le_refl _
  | cons m ms ih =>
    intro e
    rw [List.map_cons, List.map_cons, List.sum_cons, List.sum_cons]
    have a := e m (List.mem_cons_self ..)
    have b := ih (fun n hn => e n (List.mem_cons_of_mem _ hn))
    omega
theorem s_sm_mulr {f : Nat → Nat} {w : Nat} : ∀ n, s_sm f n * w = s_sm (fun k => f k * w) n := by
  intro n
  induction n with
  | zero => exact Nat.zero_mul _
  | succ n ih =>
    show (s_sm f n + f n) * w = s_sm _ n + f n * w
    rw [Nat.add_mul, ih]
def cTA (ly : sY) : Prop := ∀ t, t < 6 → ∀ L, ly t = some L → cTk L
theorem s_TL_le (hST : sST fm ly rk) (hT : cTA ly) : ∀ (n t : Nat), rk (24 + t) < n → t < 6 → ∀ L, ly t = some L → s_TL fm ly kd t ≤ s_BU fm ly L.1 * s_nc L := by
  intro n
  induction n with
  | zero => intro t h; exact absurd h (Nat.not_lt_zero _)
  | succ n ih =>
    intro t h ht L hl
    have hTk := hT t ht L hl
    have hr := hST.1.2.2 t ht L hl
    rw [s_TL_st hST.1 hST.2.1 hST.2.2.1 ht]
    unfold s_ts
    rw [hl, s_BU_st hST.1 hST.2.1 hST.2.2.1 hr.1]
    unfold s_bs
    rw [s_sm_mulr]
    refine s_sm_le (fun k hk => ?_)
    by_cases hx : s_RE fm L.1 k ∧ fm k ≠ []
    · rw [s_if_p hx, s_if_p hx]
      unfold s_tc s_ld s_nc
      have hrk := s_RE_rk hST.1 hST.2.2.1 hr.1 hx.1
      have a1 : 1 + ((fm k).map (fun m => if 300 ≤ m.1 then (match ly (m.1 % 10) with | none => 0 | some _ => s_TL fm ly kd (m.1 % 10)) else 0)).sum ≤ 1 + ((fm k).map (fun m => if 300 ≤ m.1 then (match ly (m.1 % 10) with | none => 0 | some L => s_BU fm ly L.1 * s_nc L) else 0)).sum := by
        refine Nat.add_le_add_left (s_suml (fun m hm => ?_)) 1
        by_cases h3 : 300 ≤ m.1
        · simp only [if_pos h3]
          cases hl2 : ly (m.1 % 10) with
          | none => exact Nat.le_refl _
          | some U => exact ih (m.1 % 10) (by have := hST.1.2.1 k hk m hm h3; omega) (hST.2.1 k hk m hm h3) U hl2
        · simp only [if_neg h3]; exact Nat.le_refl _
      have a2 : s_if (s_RD fm ly k L.2.1) (s_ul (kd L.2.1) L.2.2.2.1) 1 ≤ L.2.2.2.1.length := by
        by_cases q : s_RD fm ly k L.2.1
        · rw [s_if_p q]; exact s_cn_le _ _
        · rw [s_if_n q]; exact hTk.2.2.1
      have a3 : (match L.2.2.1 with | none => 1 | some o => s_if (s_RD fm ly k o) (s_ul (kd o) L.2.2.2.2) 1) ≤ s_my L := by
        have := hTk.my.1
        cases ho : L.2.2.1 with
        | none => exact this
        | some o =>
          show s_if (s_RD fm ly k o) (s_ul (kd o) L.2.2.2.2) 1 ≤ s_my L
          by_cases q : s_RD fm ly k o
          · rw [s_if_p q, cMy ho]; exact s_cn_le _ _
          · rw [s_if_n q]; exact this
      rw [← Nat.mul_assoc]
      exact Nat.mul_le_mul (Nat.mul_le_mul a1 a2) a3
    · rw [s_if_n hx, s_if_n hx]; exact Nat.zero_le _
theorem s_wt_ld (hST : sST fm ly rk) (hT : cTA ly) {k : Nat} (hk : k < 24) : s_wt fm ly kd k ≤ s_ld (s_BU fm ly) fm ly k := by
  unfold s_wt s_ak s_ld
  refine Nat.add_le_add_left (s_suml (fun m hm => ?_)) 1
  by_cases h3 : 300 ≤ m.1
  · simp only [if_pos h3]
    cases hl2 : ly (m.1 % 10) with
    | none => exact Nat.le_refl _
    | some U => exact s_TL_le hST hT _ (m.1 % 10) (Nat.lt_succ_self _) (hST.2.1 k hk m hm h3) U hl2
  · simp only [if_neg h3]; exact Nat.le_refl _
theorem cSW_pl (hST : sST fm ly rk) (hT : cTA ly) (hc : c < 24) : cSW fm ly kd 6 (cNw fm (fun e => e) c) ≤ s_BU fm ly c := by
  rw [s_BU_st hST.1 hST.2.1 hST.2.2.1 hc]
  unfold cSW s_bs
  rw [show 24 * cWd 6 = 24 by decide, show cWd 6 = 1 by decide]
  refine s_sm_le (fun k hk => ?_)
  rw [Nat.div_one]
  by_cases q : cNw fm (fun e => e) c k
  · rw [s_if_p q]
    obtain ⟨e, h1, h2, h3⟩ := q
    have h3 : k = e := h3
    subst h3
    rw [s_if_p ⟨h1, h2⟩]
    exact s_wt_ld hST hT hk
  · rw [s_if_n q]; exact Nat.zero_le _
theorem cSH.ta (hS : cSH g x0 P hp X fm ly kd) : cTA ly := fun t ht L hl => by
  rcases hS.2.2.2.1 t ht with ⟨q, -⟩ | ⟨a, L', q1, -, -, q4⟩
  · rw [hl] at q; cases q
  · rw [hl] at q1; cases q1; exact q4
theorem kT1 {s : Nat} {v : Int32} : (cuT σ s v).1 = σ.1 := rfl
theorem kT4 {s : Nat} {v : Int32} : (cuT σ s v).2.2.2 = σ.2.2.2 := rfl
theorem c_asked (hW : cW g x0 P hp) (hS : cSH g x0 P hp σ.2.2.2.2 fm ly kd) (hST : sST fm ly rk) (hTm : ¬ s_tm fm ly) (hc : c < 24) (hOW : cOW fm kd σ.2.2.2.1 ow) (hSt : cSt σ M) (hM : M + 192001 ≤ 2147483647) (hd : 1352 ≤ d) {K : UInt64 → zHp → Nat → Prop}
    (hK : ∀ v σ', σ'.2.2.2 = σ.2.2.2 → σ'.2.1 = none → (∀ k, k ≠ 2 → k ≠ 3 → k ≠ 10 → σ'.1 k = σ.1 k) → cSt σ' (M + 192001) → σ'.1 2 = (s_EV fm ly kd ow c).2.1 → σ'.1 3 = (s_EV fm ly kd ow c).2.2 → s_B v → ((s_EV fm ly kd ow c).2.1 = 0 → v = (s_EV fm ly kd ow c).1) → K v (cput g x0 P σ' hp) nx) : zMt l g yX0_asked cX0_asked 2 (some .double) d 0 0 [.ref x0, .int (nI c)] (cput g x0 P σ hp) nx (zQd g K) := by
  obtain ⟨d, rfl⟩ := Nat.exists_eq_add_of_le' (show 1 ≤ d by omega)
  have hB0 := hW.1
  have hT := (c_all (l := l) (nx := nx) hW hS hST 30).1 c hc (hST.2.2.1 c (by omega))
  have hE : s_Ec (s_EV fm ly kd ow c) := s_EV_E hST.1 hST.2.1 hST.2.2.1 _ c (Nat.lt_succ_self _) hc ow
  have hbu : s_BU fm ly c ≤ 2000 := by
    by_cases q : s_BU fm ly c ≤ 2000
    · exact q
    · exact absurd (Or.inl ⟨c, hc, by omega⟩) hTm
  have hsw := cSW_pl (kd := kd) hST hS.ta hc
  have zB0 : zB g ≤ x0 + cSA 6 := by omega
  obtain ⟨j, j1, j2, j3⟩ := hSt 6 (by decide)
  apply met_X0_asked
  unfold wp_X0_asked
  simp only [cg_plain, cs_stamp (show 6 < 7 by decide), cs_pstamp (show 6 < 7 by decide), zB0, cp_now, cp_fault, cp_blamed, hB0, true_and]
  obtain ⟨σ1, e1⟩ : ∃ σ1, σ1 = cuI (cuI (cuN (cuT σ 6 ((σ.2.2.1 6).2.2 + 1)) none) 2 0) 3 (-1) := ⟨_, rfl⟩
  rw [← e1, cz_o]
  have i2 : σ1.1 2 = 0 := by rw [e1, cI_o (by decide), cI_s]
  have i3 : σ1.1 3 = -1 := by rw [e1, cI_s]
  have io : ∀ k, k ≠ 2 → k ≠ 3 → σ1.1 k = σ.1 k := fun k a b => by rw [e1, cI_o b, cI_o a]; rfl
  have n1 : σ1.2.1 = none := by rw [e1]; rfl
  have g1 : σ1.2.2.1 = (cuT σ 6 ((σ.2.2.1 6).2.2 + 1)).2.2.1 := by rw [e1]; rfl
  have w1 : σ1.2.2.2 = σ.2.2.2 := by rw [e1]; rfl
  clear e1
  have hno : ∀ k, ¬ cFl 6 (σ1.2.2.1 6) k := by
    rintro k ⟨q1, q2⟩
    rw [g1, cT_1, cT_s] at q2
    obtain ⟨i, i1, i2⟩ := j3 k q1
    rw [i2, j2, nI_1, nI_eq (by omega) (by omega)] at q2
    omega
  have hsw0 : cSW fm ly kd 6 (cFl 6 (σ1.2.2.1 6)) = 0 := cSW_0 (fun k _ => hno k)
  have hst1 : cSt σ1 (M + 1) := by
    intro q hq
    rw [g1]
    by_cases e : q = 6
    · subst e
      refine ⟨j + 1, by omega, by rw [cT_s, j2, nI_1], fun k hk => ?_⟩
      rw [cT_1]
      obtain ⟨i, i1, i2⟩ := j3 k hk
      exact ⟨i, by omega, i2⟩
    · rw [cT_o e]
      obtain ⟨j', a1, a2, a3⟩ := hSt q hq
      exact ⟨j', by omega, a2, a3⟩
  refine hT d 6 1 0 (M + 1) (fun _ e => e) (fun _ => ow) σ1 _ (by omega) ⟨by decide, ⟨by decide, fun x _ e he => ?_, fun x y _ _ e _ _ => ⟨fun r _ => rfl, fun q _ => rfl⟩⟩, Or.inl ⟨rfl, n1, fun c _ => rfl⟩, by rw [w1]; exact hOW, by rw [w1], fun k hk => absurd hk (hno k), hst1⟩ (Or.inl rfl) ?_ (fun v σ2 hPo hRs => ?_)
  · show e < 24 * cWd 6 ∧ e / cWd 6 = e
    rw [show cWd 6 = 1 by decide, Nat.div_one]
    exact ⟨by omega, rfl⟩
  · unfold cBg
    rw [hsw0, cSW_congr (F' := cNw fm (fun e => e) c) (fun k _ => ⟨fun z => z.elim (fun y => absurd y (hno k)) id, Or.inr⟩)]
    omega
  · obtain ⟨p1, p2, p3, n, M', p4, p5, p6, p7⟩ := hPo
    rw [hsw0] at p5 p7
    have hf : cSW fm ly kd 6 (cFl 6 (σ2.2.2.1 6)) ≤ 2000 := by
      rw [cSW_congr (F' := cNw fm (fun e => e) c) (fun k _ => (p3 k).trans ⟨fun z => z.elim (fun y => absurd y (hno k)) id, Or.inr⟩)]
      omega
    refine hK v σ2 (by rw [p1.1, w1]) (by rw [p1.2.1, n1]) (fun k a b e => by rw [p1.2.2.1 k a b e, io k a b]) (fun q hq => ?_) ?_ ?_ hRs.1 (fun z => ((hRs.2.2 i2).1 z).1)
    · obtain ⟨j', a1, a2, a3⟩ := p6 q hq
      exact ⟨j', by omega, a2, a3⟩
    · by_cases z : (s_EV fm ly kd ow c).2.1 = 0
      · rw [z]; exact ((hRs.2.2 i2).1 z).2.1
      · exact ((hRs.2.2 i2).2 z).1
    · by_cases z : (s_EV fm ly kd ow c).2.1 = 0
      · rw [((hRs.2.2 i2).1 z).2.2, i3, hE.z z]
      · exact ((hRs.2.2 i2).2 z).2
/-- a table's cases, from the sheet -/
theorem c_cas {t a : Nat} {L : sL} {one : Option (Nat × Nat)} (hW : cW g x0 P hp) (hS : cSH g x0 P hp σ.2.2.2.2 fm ly kd) (hST : sST fm ly rk) (hTm : ¬ s_tm fm ly) (ht : t < 6) (ha : σ.2.2.2.2.2.2.1 1 t = some a) (hl : ly t = some L) (hOW : cOW fm kd σ.2.2.2.1 ow) (hSt : cSt σ M) (hM : M + 192001 ≤ 2147483647) (hone : ∀ p, one = some p → p.1 < L.2.2.2.1.length ∧ p.2 < s_my L) (hd : 1352 ≤ d) {K : zHp → Nat → Prop}
    (hK : ∀ σ', σ'.2.2.2 = σ.2.2.2 → σ'.2.1 = σ.2.1 → (∀ k, k ≠ 10 → σ'.1 k = σ.1 k) → (one = none → σ'.1 10 = σ.1 10 + nI (s_TL fm ly kd t)) → cSt σ' (M + 192001) → (∀ k, k < s_nc L → (∀ p, one = some p → k = s_my L * p.1 + p.2) → cRk (σ'.2.2.1 t) k (s_EV fm ly kd (s_bi L ow (k / s_my L) (k % s_my L)) L.1)) → K (cput g x0 P σ' hp) nx) : zMtW l g yX0_runs cX0_runs 18 none [(103, 128, 269, 0), (178, 217, 269, 0), (269, 271, 269, 0)] d 0 0 [.ref x0, va_rf (some a), .int (cIx one), .int (cJx one)] (cput g x0 P σ hp) nx (zQv g K) := by
  have hR := (c_all (l := l) (nx := nx) hW hS hST 30).2 t ht (hST.2.2.1 (24 + t) (by omega))
  have hTL := s_TL_le (kd := kd) hST hS.ta _ t (Nat.lt_succ_self _) ht L hl
  have hbu : s_BU fm ly L.1 * s_nc L ≤ 2000 := by
    by_cases q : s_BU fm ly L.1 * s_nc L ≤ 2000
    · exact q
    · exact absurd (Or.inr ⟨t, ht, L, hl, by omega⟩) hTm
  refine hR d M a L one ow σ K (by omega) ha hl hOW rfl hSt (by omega) hone (fun σ' n M' u1 u2 u3 u4 u5 u6 u7 => ?_)
  refine hK σ' u1.1 u1.2.1 u1.2.2.1 (fun e => by rw [u4, u3 e]) (fun q hq => ?_) u7
  obtain ⟨j', a1, a2, a3⟩ := u5 q hq
  exact ⟨j', by omega, a2, a3⟩
theorem c_casA {t a : Nat} {L : sL} (hW : cW g x0 P hp) (hS : cSH g x0 P hp σ.2.2.2.2 fm ly kd) (hST : sST fm ly rk) (hTm : ¬ s_tm fm ly) (ht : t < 6) (ha : σ.2.2.2.2.2.2.1 1 t = some a) (hl : ly t = some L) (hOW : cOW fm kd σ.2.2.2.1 ow) (hSt : cSt σ M) (hM : M + 192001 ≤ 2147483647) (hd : 1353 ≤ d) {K : zHp → Nat → Prop}
    (hK : ∀ σ', σ'.2.2.2 = σ.2.2.2 → σ'.2.1 = σ.2.1 → (∀ k, k ≠ 10 → σ'.1 k = σ.1 k) → σ'.1 10 = σ.1 10 + nI (s_TL fm ly kd t) → cSt σ' (M + 192001) → (∀ k, k < s_nc L → cRk (σ'.2.2.1 t) k (s_EV fm ly kd (s_bi L ow (k / s_my L) (k % s_my L)) L.1)) → K (cput g x0 P σ' hp) nx) : zMt l g yX0_runsAll cX0_runsAll 2 none d 0 0 [.ref x0, va_rf (some a)] (cput g x0 P σ hp) nx (zQv g K) := by
  obtain ⟨d, rfl⟩ := Nat.exists_eq_add_of_le' (show 1 ≤ d by omega)
  apply met_X0_runsAll
  unfold wp_X0_runsAll
  rw [cz_o]
  exact c_cas (one := none) hW hS hST hTm ht ha hl hOW hSt hM (fun p q => by cases q) (by omega) (fun σ' u1 u2 u3 u4 u5 u6 => hK σ' u1 u2 u3 (u4 rfl) u5 (fun k hk => u6 k hk (fun p q => by cases q)))
end AS
