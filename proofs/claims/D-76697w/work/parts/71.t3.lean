set_option maxRecDepth 100000
/-! THE REFERENCE's contracts: telling. The sheet as the state has it -/
section T3
variable {l : Launch} {g : zG} {d m0 : Nat} {τ τ' : tS} {hp : zHp} {nx : Nat}
def tmk (τ : tS) (c k : Nat) : sM := ((τ.2.2.1 4 c k).toNatClampNeg, if 100 ≤ (τ.2.2.1 4 c k).toNatClampNeg ∧ (τ.2.2.1 4 c k).toNatClampNeg < 200 then τ.2.2.2 5 c ((τ.2.2.1 4 c k).toNatClampNeg - 100) else 0)
def tfm (τ : tS) : sF := fun c => (List.range (τ.2.2.1 3 0 c).toNatClampNeg).map (tmk τ c)
def tkd (τ : tS) : Nat → Int32 := τ.2.2.1 0 0
def tow (τ : tS) : sO := fun c => if τ.2.2.1 1 0 c = 0 then none else some (τ.2.2.2 2 0 c)
def tax (τ : tS) (a : Nat) : List UInt64 := (List.range (τ.2.2.1 10 0 a).toNatClampNeg).map (τ.2.2.2 11 a)
def tly (τ : tS) : sY := fun t => if τ.2.2.1 6 0 t = 0 then none else some ((τ.2.2.1 7 0 t).toNatClampNeg, (τ.2.2.1 8 0 t).toNatClampNeg, if τ.2.2.1 9 0 t = -1 then none else some (τ.2.2.1 9 0 t).toNatClampNeg, tax τ (2 * t), if τ.2.2.1 9 0 t = -1 then [] else tax τ (2 * t + 1))
/-- a mark that may stand -/
def tok (m : Nat) : Prop := m < 24 ∨ (100 ≤ m ∧ m < 196) ∨ (200 ≤ m ∧ m ≤ 210) ∨ (300 ≤ m ∧ m < 350 ∧ m % 10 < 6)
def tWc (τ : tS) : Prop := ∀ c, c < 24 → ∃ n, n ≤ 96 ∧ τ.2.2.1 3 0 c = nI n ∧ (∀ k, k < n → ∃ m, tok m ∧ τ.2.2.1 4 c k = nI m) ∧ (n ≠ 0 → s_ht (tfm τ c) 0 = some 1)
def tWt (τ : tS) : Prop := ∀ t, t < 6 → τ.2.2.1 6 0 t ≠ 0 → ∃ o a n, o < 24 ∧ a < 24 ∧ 1 ≤ n ∧ n ≤ 8 ∧ τ.2.2.1 7 0 t = nI o ∧ τ.2.2.1 8 0 t = nI a ∧ τ.2.2.1 10 0 (2 * t) = nI n ∧ (τ.2.2.1 9 0 t = -1 ∨ ∃ b m, b < 24 ∧ b ≠ a ∧ 1 ≤ m ∧ m ≤ 8 ∧ τ.2.2.1 9 0 t = nI b ∧ τ.2.2.1 10 0 (2 * t + 1) = nI m)
/-- booleans are 0 or 1 -/
def tBo (τ : tS) : Prop := (∀ c, c < 24 → τ.2.2.1 1 0 c = 0 ∨ τ.2.2.1 1 0 c = 1) ∧ ∀ t, t < 6 → τ.2.2.1 6 0 t = 0 ∨ τ.2.2.1 6 0 t = 1
def tOK (rk : Nat → Nat) (τ : tS) : Prop := tWc τ ∧ tWt τ ∧ s_rk (tfm τ) (tly τ) rk ∧ (∀ x, x < 30 → rk x < 30) ∧ s_BF (tfm τ) ∧ s_BL (tly τ) ∧ s_BO (tow τ) ∧ tBo τ
/-- the sheet is as it was -/
def tpe (τ τ' : tS) : Prop := (∀ k, k < 14 → τ'.2.2.1 k = τ.2.2.1 k) ∧ ∀ k, k < 14 → τ'.2.2.2 k = τ.2.2.2 k
theorem tfr.pe {dp tp : Nat} (h : tfr dp tp τ τ') : tpe τ τ' := ⟨fun k hk => h.I k (by omega), fun k hk => h.D k (by omega)⟩
theorem tpe.fm (h : tpe τ τ') : tfm τ' = tfm τ := by
  funext c
  unfold tfm
  rw [h.1 3 (by decide)]
  congr 1
  funext k
  unfold tmk
  rw [h.1 4 (by decide), h.2 5 (by decide)]
theorem tpe.kd (h : tpe τ τ') : tkd τ' = tkd τ := by unfold tkd; rw [h.1 0 (by decide)]
theorem tpe.ow (h : tpe τ τ') : tow τ' = tow τ := by unfold tow; rw [h.1 1 (by decide), h.2 2 (by decide)]
theorem tpe.ax (h : tpe τ τ') : tax τ' = tax τ := by funext a; unfold tax; rw [h.1 10 (by decide), h.2 11 (by decide)]
theorem tpe.ly (h : tpe τ τ') : tly τ' = tly τ := by
  funext t
  unfold tly
  rw [h.1 6 (by decide), h.1 7 (by decide), h.1 8 (by decide), h.1 9 (by decide), h.ax]
theorem tOK.pe {rk : Nat → Nat} (h : tpe τ τ') (hK : tOK rk τ) : tOK rk τ' := by
  obtain ⟨h1, h2, h3, h4, h5, h6, h7, h8⟩ := hK
  refine ⟨?_, ?_, by rw [h.fm, h.ly]; exact h3, h4, by rw [h.fm]; exact h5, by rw [h.ly]; exact h6, by rw [h.ow]; exact h7, ?_⟩
  · unfold tWc
    rw [h.fm, h.1 3 (by decide), h.1 4 (by decide)]
    exact h1
  · unfold tWt
    rw [h.1 6 (by decide), h.1 7 (by decide), h.1 8 (by decide), h.1 9 (by decide), h.1 10 (by decide)]
    exact h2
  · unfold tBo
    rw [h.1 1 (by decide), h.1 6 (by decide)]
    exact h8
theorem tfm_len {c n : Nat} (h : τ.2.2.1 3 0 c = nI n) (hn : n ≤ 96) : tfm τ c = (List.range n).map (tmk τ c) := by
  unfold tfm
  rw [h, nI_clamp (by omega)]
theorem tfm_mem {c n : Nat} (h : τ.2.2.1 3 0 c = nI n) (hn : n ≤ 96) {m : sM} : m ∈ tfm τ c ↔ ∃ k, k < n ∧ m = tmk τ c k := by
  rw [tfm_len h hn, List.mem_map]
  constructor
  · rintro ⟨k, hk, rfl⟩; exact ⟨k, List.mem_range.mp hk, rfl⟩
  · rintro ⟨k, hk, rfl⟩; exact ⟨k, List.mem_range.mpr hk, rfl⟩
theorem tmk_1 {c k m : Nat} (hm : tok m) (h : τ.2.2.1 4 c k = nI m) : (tmk τ c k).1 = m := by
  unfold tmk
  have : m < 2 ^ 31 := by unfold tok at hm; omega
  rw [h, nI_clamp this]
theorem tmk_2 {c k m : Nat} (h : τ.2.2.1 4 c k = nI m) (h1 : 100 ≤ m) (h2 : m < 200) : (tmk τ c k).2 = τ.2.2.2 5 c (m - 100) := by
  unfold tmk
  rw [h, nI_clamp (by omega)]
  exact if_pos ⟨h1, h2⟩
theorem tWc.mo (h : tWc τ) : s_mo (tfm τ) := by
  intro c hc m hm h3
  obtain ⟨n, h1, h2, h4, -⟩ := h c hc
  obtain ⟨k, hk, rfl⟩ := (tfm_mem h2 h1).mp hm
  obtain ⟨m, hm, e⟩ := h4 k hk
  rw [tmk_1 hm e] at h3 ⊢
  unfold tok at hm
  omega
noncomputable def tEV (τ : tS) : Nat → sT := s_EV (tfm τ) (tly τ) (tkd τ) (tow τ)
noncomputable def tTV (τ : tS) (t f : Nat) : UInt64 × Int32 := match tly τ t with | none => (0, 4) | some L => s_tv (fun k => s_EV (tfm τ) (tly τ) (tkd τ) (s_bi L (tow τ) (k / s_my L) (k % s_my L)) L.1) (s_nc L) f
theorem tpe.EV (h : tpe τ τ') : tEV τ' = tEV τ := by unfold tEV; rw [h.fm, h.ly, h.kd, h.ow]
theorem tpe.TV (h : tpe τ τ') : tTV τ' = tTV τ := by funext t f; unfold tTV; rw [h.fm, h.ly, h.kd, h.ow]
def tVal (τ : tS) (dp c : Nat) (v : sT) : Prop := τ.2.2.2 20 dp c = v.1 ∧ τ.2.2.1 21 dp c = v.2.1 ∧ τ.2.2.1 22 dp c = v.2.2
/-- what was told at this depth is right -/
def tMem (τ : tS) (dp : Nat) : Prop := (∀ c, c < 24 → τ.2.2.1 19 dp c ≠ 0 → tVal τ dp c (tEV τ c)) ∧ ∀ t, t < 6 → τ.2.2.1 23 dp t ≠ 0 → ∀ f, f < 5 → τ.2.2.2 24 dp (5 * t + f) = (tTV τ t f).1 ∧ τ.2.2.1 25 dp (5 * t + f) = (tTV τ t f).2
theorem tEV_st {rk : Nat → Nat} (hK : tOK rk τ) {c : Nat} (hc : c < 24) : tEV τ c = s_st (s_EV (tfm τ) (tly τ) (tkd τ)) (tfm τ) (tly τ) (tkd τ) (tow τ) c := s_EV_st hK.2.2.1 hK.1.mo hK.2.2.2.1 hc
theorem tEV_in {rk : Nat → Nat} (hK : tOK rk τ) {c : Nat} (hc : c < 24) (h : τ.2.2.1 3 0 c = 0) : tEV τ c = s_in (tkd τ c) (tow τ c) c := by
  rw [tEV_st hK hc]
  unfold s_st
  rw [if_pos]
  unfold tfm
  rw [h]
  rfl
theorem tEV_fm {rk : Nat → Nat} (hK : tOK rk τ) {c : Nat} (hc : c < 24) (h : tfm τ c ≠ []) : tEV τ c = s_fn (tkd τ c) (s_run (tEV τ) (tTV τ) c (tfm τ c) []) := by
  rw [tEV_st hK hc]
  unfold s_st
  rw [if_neg h]
  rfl
theorem tEV_B {rk : Nat → Nat} (hK : tOK rk τ) {c : Nat} (hc : c < 24) : s_B (tEV τ c).1 := by
  obtain ⟨h1, h2, h3, h4, h5, h6, h7, h8⟩ := hK
  exact s_EV_B h3 h1.mo h4 h5 h6 _ c (Nat.lt_succ_self _) hc _ h7
/-- the list of a row, by places -/
theorem tax_get {a n i : Nat} (h : τ.2.2.1 10 0 a = nI n) (hn : n ≤ 8) (hi : i < n) : (tax τ a).getD i 0 = τ.2.2.2 11 a i := by
  unfold tax
  rw [h, nI_clamp (by omega), List.getD_eq_getElem?_getD, List.getElem?_map, List.getElem?_range hi]
  rfl
theorem tax_len {a n : Nat} (h : τ.2.2.1 10 0 a = nI n) (hn : n ≤ 8) : (tax τ a).length = n := by
  unfold tax
  rw [h, nI_clamp (by omega)]
  simp
theorem t_afresh {dp tp : Nat} {K : zHp → Nat → Prop} (hd : 1 ≤ d) (hB : zB g ≤ m0) (h18 : τ.1 18 = nI dp) (hdp : dp < 7) (hK : ∀ τ', tfr dp tp τ τ' → τ'.1 = τ.1 → (∀ c, c < 24 → τ'.2.2.1 19 dp c = 0) → (∀ t, t < 6 → τ'.2.2.1 23 dp t = 0) → K (tput g m0 τ' hp) nx) : zMt l g yX5_afresh cX5_afresh 2 none d 0 0 [.ref m0] (tput g m0 τ hp) nx (zQv g K) := by
  obtain ⟨d, rfl⟩ := Nat.exists_eq_add_of_le' hd
  apply met_X5_afresh
  unfold wp_X5_afresh
  have hc : (nI dp).toNatClampNeg = dp := nI_clamp (by omega)
  have hi : vp_in (nI dp) 7 := vp_in_nI hdp (by decide)
  have hB3 : ∀ a b n, zB g ≤ m0 + a + b + n := fun a b n => by omega
  have n0 : vp_nar .boolean 0 = 0 := by decide
  refine ⟨fun n x h => ∃ i τ1, i ≤ 24 ∧ n = 24 - i ∧ x = nI i ∧ h = tput g m0 τ1 hp ∧ tfr dp tp τ τ1 ∧ τ1.1 = τ.1 ∧ ∀ j, j < i → τ1.2.2.1 19 dp j = 0, ⟨24, 0, τ, by omega, rfl, rfl, rfl, tfr.rf, rfl, fun j hj => absurd hj (by omega)⟩, ?_⟩
  rintro n _ _ ⟨i, τ1, hi24, hn, rfl, rfl, hf, h1, h19⟩
  refine pk_le 24 i (fun hle => ?_) (fun hlt => ?_)
  · refine ⟨fun n x h => ∃ i τ2, i ≤ 6 ∧ n = 6 - i ∧ x = nI i ∧ h = tput g m0 τ2 hp ∧ tfr dp tp τ τ2 ∧ τ2.1 = τ.1 ∧ (∀ j, j < 24 → τ2.2.2.1 19 dp j = 0) ∧ ∀ j, j < i → τ2.2.2.1 23 dp j = 0, ⟨6, 0, τ1, by omega, rfl, rfl, rfl, hf, h1, fun j hj => h19 j (by omega), fun j hj => absurd hj (by omega)⟩, ?_⟩
    rintro n _ _ ⟨i, τ2, hi6, hn, rfl, rfl, hf, h1, h19, h23⟩
    refine pk_le 6 i (fun hle => hK _ hf h1 h19 (fun t ht => h23 t (by omega))) (fun hlt => ?_)
    have hci : (nI i).toNatClampNeg = i := nI_clamp (by omega)
    have hii : vp_in (nI i) 6 := vp_in_nI hlt (by decide)
    simp only [tg_summed, ta_summed, tg_deep, tp_deep, forall_eq, h1, h18, hc, hi, tb_summed hdp, tv_summed hdp, hci, hii, hB3, true_and, n0]
    refine ⟨6 - (i + 1), by omega, i + 1, _, by omega, rfl, nI_1 i, rfl, hf.aI ⟨by decide, Nat.le_refl _⟩, h1, fun j hj => ?_, fun j hj => ?_⟩
    · rw [tqc (by decide)]; exact h19 j hj
    · rw [tqa]
      by_cases hj2 : j = i
      · rw [hj2, va_s]
      · rw [va_o hj2]; exact h23 j (by omega)
  · have hci : (nI i).toNatClampNeg = i := nI_clamp (by omega)
    have hii : vp_in (nI i) 24 := vp_in_nI hlt (by decide)
    simp only [tg_told, ta_told, tg_deep, tp_deep, forall_eq, h1, h18, hc, hi, tb_told hdp, tv_told hdp, hci, hii, hB3, true_and, n0]
    refine ⟨24 - (i + 1), by omega, i + 1, _, by omega, rfl, nI_1 i, rfl, hf.aI ⟨by decide, Nat.le_refl _⟩, h1, fun j hj => ?_⟩
    rw [tqa]
    by_cases hj2 : j = i
    · rw [hj2, va_s]
    · rw [va_o hj2]; exact h19 j (by omega)
end T3
