set_option maxRecDepth 100000
/-! the Reader: numbers -/
section NU
variable {l : Launch} {g : zG} {d x0 : Nat} {P : cP} {σ σ' : cS} {hp hp' : zHp} {nx M M' : Nat} {A : sV} {S : sSt} {mc ms kc ks : Nat} {tp : List Nat}
/-- the Reader's fields -/
def rF (k fr op : Nat) (wd : Option Nat) (nu si pl : Int32) (nm ak x0 : Nat) : List Value := [.int (nI k), .int (nI fr), .int (nI op), va_rf wd, .int nu, .int si, .int pl, .ref nm, .ref ak, va_rf (some x0)]
theorem r_46 {i : Nat} (h256 : ∀ b, tp[i]? = some b → b < 256) : r_at tp i = 46 ↔ tp[i]? = some 46 := by
  unfold r_at
  cases hb : tp[i]? with
  | none => exact ⟨fun h => absurd h (by decide), fun h => by cases h⟩
  | some b =>
    have hl := h256 b hb
    have e : nI b = (46 : Int32) ↔ b = 46 := nI_eq (b := 46) (by omega) (by decide)
    show nI b = 46 ↔ _
    rw [e]
    exact ⟨fun h => by rw [h], fun h => Option.some.inj h⟩
theorem c_number {q b op nm ak : Nat} {wd : Option Nat} {nu si pl : Int32} (hW : cW g x0 P hp) (hT : cTp σ tp) (hq : ¬ cOv x0 P q) (hz : zB g ≤ q) (hR : hp q = some (.inr (11, rF b b op wd nu si pl nm ak x0))) (hb : p_at p_09 tp b = true) (hd : 20 ≤ d) (hmc : 2 ≤ mc) (hms : 14 ≤ ms) {K : zHp → Nat → Prop} {KX : Nat → zHp → Nat → Prop}
    (hK : ∀ e w f pl', p_tok tp b = some (e, 2, w, f) → ((f = none ∧ pl' = 1) ∨ (f ≠ none ∧ pl' = 0)) → e ≤ tp.length → K (cput g x0 P σ (va_up hp q (some (.inr (11, rF e b op wd (nI (1000 * w + f.getD 0)) si pl' nm ak x0))))) nx)
    (hX : ∀ fl2 fs', p_tok tp b = none → fs'[6]? = some (.int (nI b)) → ¬ cOv x0 P nx → hp nx = none → nx ≠ q → KX nx (cput g x0 P σ (va_up (va_up hp q (some (.inr (11, fl2)))) nx (some (.inr (12, fs'))))) (nx + 1)) :
    zMx l g yX11_number cX11_number 1 none d mc ms [.ref q] (cput g x0 P σ hp) nx (zQv g K) "WhatIfSheet$Fault" KX := by
  obtain ⟨d, rfl⟩ := Nat.exists_eq_add_of_le' (show 1 ≤ d by omega)
  have htok := p_tok_9 hb
  have h256 : ∀ i b, tp[i]? = some b → b < 256 := fun i b h => (hT.2.2 i b h).1
  have hbl : b < tp.length := by
    obtain ⟨c, c1, -⟩ := p_at_s.mp hb
    exact (List.getElem?_eq_some_iff.mp c1).1
  have hn1 : b < p_run p_09 tp b := (p_at_run (Nat.le_refl b) p_run_ge).mp hb
  obtain ⟨n, en⟩ : ∃ n, n = p_run p_09 tp b - b := ⟨_, rfl⟩
  have hen : p_run p_09 tp b = b + n := by omega
  have hle : b + n ≤ tp.length := by rw [← hen]; exact p_run_le (by omega)
  rw [← en, hen] at htok
  have Wf : ∀ fl, cW g x0 P (va_up hp q (some (.inr (11, fl)))) := fun fl => cW_hq hq hW
  apply met_X11_number
  unfold wp_X11_number
  refine ⟨1, 7, by omega, by omega, ?_⟩
  rw [ch_o hW hR (by decide)]
  refine c_digits (k := b) (fr := b) (most := 4) hW hT hq hz hR rfl rfl (by omega) (Or.inr rfl) en (by omega) (by omega) (by omega) (fun n1 n2 => ?_) (fun k2 fs' hn y1 y2 y3 y4 => ⟨by omega, by omega, hX _ fs' ?_ y1 y2 y3 y4⟩)
  rotate_left
  · have h4 : ¬ n ≤ 4 := fun y => hn ⟨by omega, y⟩
    rw [htok]
    by_cases u : tp[b + n]? = some 46
    · rw [if_pos u, if_neg (fun y => h4 y.1)]
    · rw [if_neg u, if_neg h4]
  rw [if_neg (by decide)]
  obtain ⟨v, ev⟩ : ∃ v, v = p_val tp b n := ⟨_, rfl⟩
  rw [← ev] at htok ⊢
  rw [hz_p (cput_h (Wf _) va_s) (by decide) (by simp)]
  refine ⟨hz, ?_⟩
  rw [c_put2 hq]
  have eS2 : va_up hp q (some (.inr (11, (.int (nI (b + n)) :: [.int (nI b), .int (nI op), va_rf wd, .int nu, .int si, .int pl, .ref nm, .ref ak, va_rf (some x0)]).set 4 (.int ((1000 : Int32) * nI v))))) = va_up hp q (some (.inr (11, rF (b + n) b op wd (nI (1000 * v)) si pl nm ak x0))) := by
    rw [show (1000 : Int32) = nI 1000 from rfl, pk_mul]; rfl
  rw [eS2]
  refine ⟨by omega, by omega, ?_⟩
  rw [ch_o (Wf _) va_s (by decide)]
  refine c_here (Wf _) hT va_s rfl rfl hle (by omega) ?_
  refine ⟨fun r y h n' kc ks => r = some q ∧ ((y = 0 ∧ tp[b + n]? = some 46) ∨ (y = 1 ∧ tp[b + n]? ≠ some 46)) ∧ h = cput g x0 P σ (va_up hp q (some (.inr (11, rF (b + n) b op wd (nI (1000 * v)) si pl nm ak x0)))) ∧ nx = n' ∧ kc = 1 ∧ ks = 7, ?_, fun z => ⟨rfl, Or.inl ⟨rfl, (r_46 (h256 _)).mp z⟩, rfl, rfl, rfl, rfl⟩, fun z => ⟨rfl, Or.inr ⟨rfl, fun y => z ((r_46 (h256 _)).mpr y)⟩, rfl, rfl, rfl, rfl⟩⟩
  rintro r y h n' kc ks ⟨rfl, hy, rfl, rfl, rfl, rfl⟩
  refine ⟨by rcases hy with ⟨rfl, -⟩ | ⟨rfl, -⟩ <;> simp, ?_⟩
  rw [hz_p (cput_h (Wf _) va_s) (by decide) (by simp [rF])]
  refine ⟨hz, ?_⟩
  rw [c_put2 hq]
  have eS3 : va_up hp q (some (.inr (11, (rF (b + n) b op wd (nI (1000 * v)) si pl nm ak x0).set 6 (.int y)))) = va_up hp q (some (.inr (11, rF (b + n) b op wd (nI (1000 * v)) si y nm ak x0))) := rfl
  rw [eS3, ch_I (Wf _) va_s (k := 6) (x := y) rfl (by decide)]
  refine ⟨fun z => ?_, fun z => ?_⟩
  · have hdot : tp[b + n]? = some 46 := by
      rcases hy with ⟨-, u⟩ | ⟨u, -⟩
      · exact u
      · rw [u] at z; exact absurd z (by decide)
    subst z
    have hlt : b + n < tp.length := (List.getElem?_eq_some_iff.mp hdot).1
    rw [ch_I (Wf _) va_s (k := 0) (x := nI (b + n)) rfl (by decide), hz_p (cput_h (Wf _) va_s) (by decide) (by simp [rF])]
    refine ⟨hz, ?_⟩
    rw [c_put2 hq, nI_1]
    have eS4 : va_up hp q (some (.inr (11, (rF (b + n) b op wd (nI (1000 * v)) si 0 nm ak x0).set 0 (.int (nI (b + n + 1)))))) = va_up hp q (some (.inr (11, rF (b + n + 1) b op wd (nI (1000 * v)) si 0 nm ak x0))) := rfl
    rw [eS4, ch_I (Wf _) va_s (k := 4) (x := nI (1000 * v)) rfl (by decide)]
    refine ⟨1, 7, by omega, by omega, ?_⟩
    rw [ch_o (Wf _) va_s (by decide)]
    obtain ⟨m, em⟩ : ∃ m, m = p_run p_09 tp (b + n + 1) - (b + n + 1) := ⟨_, rfl⟩
    have hge2 := p_run_ge (P := p_09) (t := tp) (k := b + n + 1)
    have hem : p_run p_09 tp (b + n + 1) = b + n + 1 + m := by omega
    have hle2 : b + n + 1 + m ≤ tp.length := by rw [← hem]; exact p_run_le (by omega)
    rw [if_pos hdot, ← em, hem] at htok
    refine c_digits (k := b + n + 1) (fr := b) (most := 3) (Wf _) hT hq hz (va_s.trans rfl) rfl rfl (by omega) (Or.inl rfl) em (by omega) (by omega) (by omega) (fun m1 m2 => ?_) (fun k2 fs' hm y1 y2 y3 y4 => ⟨by omega, by omega, ?_⟩)
    · rw [if_pos rfl, cva_uu, hz_p (cput_h (Wf _) va_s) (by decide) (by simp)]
      refine ⟨hz, ?_⟩
      rw [c_put2 hq, nI_add]
      rw [if_pos ⟨n2, m1, m2⟩] at htok
      refine ⟨by omega, by omega, ?_⟩
      exact hK (b + n + 1 + m) v (some (p_val tp (b + n + 1) m * 10 ^ (3 - m))) 0 htok (Or.inr ⟨by simp, rfl⟩) hle2
    · rw [va_o y4] at y3
      rw [cva_uu]
      rw [if_neg (fun u => hm ⟨u.2.1, u.2.2⟩)] at htok
      exact hX _ fs' htok y1 y2 y3 y4
  · have hno : tp[b + n]? ≠ some 46 := by
      rcases hy with ⟨u, -⟩ | ⟨-, u⟩
      · exact absurd u z
      · exact u
    have hy1 : y = 1 := by
      rcases hy with ⟨u, -⟩ | ⟨u, -⟩
      · exact absurd u z
      · exact u
    subst hy1
    rw [if_neg hno, if_pos n2] at htok
    exact ⟨by omega, by omega, hK (b + n) v none 1 htok (Or.inl ⟨rfl, rfl⟩) hle⟩
end NU
