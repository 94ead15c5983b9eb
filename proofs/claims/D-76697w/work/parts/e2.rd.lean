set_option maxRecDepth 100000
/-! the Reader: here, fault, digits -/
section RD
variable {l : Launch} {g : zG} {d x0 : Nat} {P : cP} {σ σ' : cS} {hp hp' : zHp} {nx M M' : Nat} {A : sV} {S : sSt} {mc ms kc ks : Nat} {tp : List Nat}
/-- the sign at a place -/
def r_at (tp : List Nat) (k : Nat) : Int32 := match tp[k]? with | none => -1 | some b => nI b
theorem r_by : ∀ b, b < 256 → ((nI b).toInt8.toInt32 &&& (255 : Int32)) = nI b := by decide +kernel
theorem c_here {q k : Nat} {fs : List Value} (hW : cW g x0 P hp) (hT : cTp σ tp) (hq : hp q = some (.inr (11, fs))) (h0 : fs[0]? = some (.int (nI k))) (h9 : fs[9]? = some (va_rf (some x0))) (hk : k ≤ tp.length) (hd : 1 ≤ d) {K : Int32 → zHp → Nat → Prop} (hK : K (r_at tp k) (cput g x0 P σ hp) nx) : zMt l g yX11_here cX11_here 1 (some .int) d 0 0 [.ref q] (cput g x0 P σ hp) nx (zQi g K) := by
  obtain ⟨d, rfl⟩ := Nat.exists_eq_add_of_le' (show 1 ≤ d by omega)
  obtain ⟨t1, t2, t3⟩ := hT
  apply met_X11_here
  unfold wp_X11_here
  rw [ch_I hW hq h0 (by decide), ch_R hW hq (r := some x0) h9 (by decide), cg_taped, t1]
  refine ⟨fun y => y = r_at tp k, ?_, fun z => ?_, fun z => ?_⟩
  · rintro y rfl; exact hK
  · have h2 := (nI_leI (by omega) (by omega)).mp z
    unfold r_at
    rw [List.getElem?_eq_none (by omega)]
  · have h2 : k < tp.length := by
      rcases Nat.lt_or_ge k tp.length with y | y
      · exact y
      · exact absurd ((nI_leI (by omega) (by omega)).mpr y) z
    rw [ch_R hW hq (r := some x0) h9 (by decide), cg_tape, ch_I hW hq h0 (by decide), ca_tape]
    refine ⟨vp_in_nI (by omega) (by decide), ?_⟩
    intro x e
    obtain ⟨b1, b2⟩ := t3 k tp[k] (List.getElem?_eq_getElem h2)
    rw [nI_clamp (by omega), b2] at e
    rw [e, r_by _ b1]
    unfold r_at
    rw [List.getElem?_eq_getElem h2]
theorem zNn_12 : zNn 12 = 7 := by decide +kernel
theorem zNf_12 : (zNf 12).length = 7 := by decide +kernel
theorem x_flt {q : Nat} {fs : List Value} {x : Int32} (h : hp q = some (.inr (12, fs))) (hl : fs.length = 7) (hz : zB g ≤ q) (hd : 4 ≤ d) {K : zHp → Nat → Prop} (hK : ∀ fs', fs'.length = 7 → fs'[6]? = some (.int x) → K (va_up hp q (some (.inr (12, fs')))) nx) : zMt l g yX12_init cX12_init 2 none d 0 0 [.ref q, .int x] hp nx (zQv g K) := by
  obtain ⟨d, rfl⟩ := Nat.exists_eq_add_of_le' (show 3 ≤ d by omega)
  apply met_X12_init
  unfold wp_X12_init
  refine ⟨0, 0, Nat.le_refl _, Nat.le_refl _, ?_⟩
  apply met_J3_init_4
  unfold wp_J3_init_4
  refine ⟨0, 0, Nat.le_refl _, Nat.le_refl _, ?_⟩
  apply met_J2_init_4
  unfold wp_J2_init_4
  refine ⟨0, 0, Nat.le_refl _, Nat.le_refl _, ?_⟩
  refine j_thr h (by decide) hl hz (by omega) (fun fs' hl' => ?_)
  refine ⟨Nat.le_refl _, Nat.le_refl _, ?_⟩
  refine ⟨Nat.le_refl _, Nat.le_refl _, ?_⟩
  show zpt g (va_up hp q (some (.inr (12, fs')))) (some q) [12] 6 (.int x) _
  rw [hz_p va_s (by decide) (by omega)]
  refine ⟨hz, ?_⟩
  rw [cva_uu]
  refine ⟨Nat.le_refl _, Nat.le_refl _, hK _ (by rw [List.length_set]; exact hl') ?_⟩
  rw [List.getElem?_set_self (by omega)]
/-- a Fault is made -/
theorem c_fault {q : Nat} {fs : List Value} {x : Int32} (hW : cW g x0 P hp) (hq : hp q = some (.inr (11, fs))) (h1 : fs[1]? = some (.int x)) (hd : 6 ≤ d) (hmc : 1 ≤ mc) (hms : 7 ≤ ms) {K : Option Nat → zHp → Nat → Prop} (hK : ∀ fs', fs'[6]? = some (.int x) → ¬ cOv x0 P nx → hp nx = none → zB g ≤ nx → K (some nx) (cput g x0 P σ (va_up hp nx (some (.inr (12, fs'))))) (nx + 1)) : zMt l g yX11_fault cX11_fault 1 (some (.object "WhatIfSheet$Fault")) d mc ms [.ref q] (cput g x0 P σ hp) nx (zQq g K) := by
  obtain ⟨d, rfl⟩ := Nat.exists_eq_add_of_le' (show 1 ≤ d by omega)
  apply met_X11_fault
  unfold wp_X11_fault
  refine c_nw hW (by omega) (by rw [zNn_12]; omega) (fun u1 u2 u3 u4 => ?_)
  rintro _ _ _ rfl rfl rfl
  have w1 : cW g x0 P (va_up hp nx (some (.inr (12, zNf 12)))) := cW_hq u1 hW
  have hne : q ≠ nx := fun z => by rw [z, u2] at hq; cases hq
  have hq1 : va_up hp nx (some (.inr (12, zNf 12))) q = some (.inr (11, fs)) := by rw [va_o hne]; exact hq
  rw [ch_I w1 hq1 h1 (by decide), zNn_12]
  refine ⟨0, 0, by omega, by omega, x_flt (cput_h w1 va_s) zNf_12 u3 (by omega) (fun fs' l1 l2 => ⟨by omega, by omega, ?_⟩)⟩
  rw [c_put2 u1]
  exact hK fs' l2 u1 u2 u3
end RD
