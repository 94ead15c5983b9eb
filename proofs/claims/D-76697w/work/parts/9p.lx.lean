set_option maxRecDepth 100000
/-! THE REFERENCE's reader: tokens -/
section LX
variable {l : Launch} {g : zG} {d m0 : Nat} {τ τ' τm τ1 τ2 : tS} {hp : zHp} {nx : Nat} {t : List Nat}
def tTt (τ : tS) (t : List Nat) : Prop := τ.1 34 = nI t.length ∧ t.length ≤ 96 ∧ ∀ k b, t[k]? = some b → τ.2.2.1 33 0 k = nI b ∧ b < 256
/-- only the reader's own numbers change -/
def tlx (τ τ' : tS) : Prop := (∀ k, ¬ (39 ≤ k ∧ k ≤ 44) → k ≠ 46 → τ'.1 k = τ.1 k) ∧ τ'.2 = τ.2
theorem tlx.rf : tlx τ τ := ⟨fun _ _ _ => rfl, rfl⟩
theorem tlx.tr {a b c : tS} (h : tlx a b) (h2 : tlx b c) : tlx a c := ⟨fun k p q => (h2.1 k p q).trans (h.1 k p q), h2.2.trans h.2⟩
theorem tlx.sI {k : Nat} {v : Int32} (h : tlx τ τ') (hk : (39 ≤ k ∧ k ≤ 44) ∨ k = 46) : tlx τ (tsI τ' k v) := h.tr ⟨fun j p q => tq2 (by omega), rfl⟩
theorem tTt.lx (h : tlx τ τ') (hT : tTt τ t) : tTt τ' t := by
  unfold tTt
  rw [h.1 34 (by omega) (by omega), h.2]
  exact hT
def p_by (t : List Nat) (k : Nat) : Int32 := match t[k]? with | none => -1 | some b => nI b
def p_at (P : Nat → Bool) (t : List Nat) (k : Nat) : Bool := match t[k]? with | none => false | some b => P b
theorem t_byteAt {k : Nat} {K : Int32 → zHp → Nat → Prop} (hd : 1 ≤ d) (hT : tTt τ t) (hk : k < 1000) (hK : K (p_by t k) (tput g m0 τ hp) nx) : zMt l g yX5_byteAt cX5_byteAt 2 (some .int) d 0 0 [.ref m0, .int (nI k)] (tput g m0 τ hp) nx (zQi g K) := by
  obtain ⟨d, rfl⟩ := Nat.exists_eq_add_of_le' hd
  obtain ⟨h1, h2, h3⟩ := hT
  apply met_X5_byteAt
  unfold wp_X5_byteAt
  simp only [tg_taped, tp_taped, tg_tape, ta_tape, tu_tape, h1]
  refine ⟨_, fun _ h => h, ?_⟩
  refine pk_le t.length k (fun hle => ?_) (fun hlt => ?_)
  · have e : p_by t k = -1 := by unfold p_by; rw [List.getElem?_eq_none hle]
    rw [e] at hK
    exact hK
  · have hb := List.getElem?_eq_getElem hlt
    have e : p_by t k = nI t[k] := by unfold p_by; rw [hb]
    have ck : (nI k).toNatClampNeg = k := nI_clamp (by omega)
    have ik : vp_in (nI k) 96 := vp_in_nI (by omega) (by decide)
    simp only [ck, ik, true_implies, false_implies, implies_true, and_true, true_and, forall_eq]
    rw [(h3 k _ hb).1, ← e]
    exact hK
theorem p_by_in {k lo hi : Nat} (hT : tTt τ t) (hh : hi < 2 ^ 30) (hl : lo < 2 ^ 30) : (p_by t k < nI lo ∨ nI hi < p_by t k) ↔ ¬ p_at (fun b => decide (lo ≤ b) && decide (b ≤ hi)) t k = true := by
  unfold p_by p_at
  cases hb : t[k]? with
  | none =>
    simp only [Bool.false_eq_true, not_false_eq_true, iff_true]
    left
    rw [Int32.lt_iff_toInt_lt, nI_toInt (by omega)]
    have : (-1 : Int32).toInt = -1 := by decide
    omega
  | some b =>
    have := (hT.2.2 k b hb).2
    simp only [Bool.and_eq_true, decide_eq_true_eq]
    rw [nI_ltI (by omega) (by omega), nI_ltI (by omega) (by omega)]
    omega
theorem p_by_eq {k c : Nat} (hT : tTt τ t) (hc : c < 2 ^ 30) : p_by t k = nI c ↔ t[k]? = some c := by
  unfold p_by
  cases hb : t[k]? with
  | none =>
    constructor
    · intro h
      have h1 := congrArg Int32.toInt h
      rw [nI_toInt (by omega)] at h1
      have : (-1 : Int32).toInt = -1 := by decide
      rw [this] at h1
      omega
    · intro h; cases h
  | some b =>
    have := (hT.2.2 k b hb).2
    simp only [Option.some.injEq]
    exact nI_eq (by omega) (by omega)
theorem p_at_s {P : Nat → Bool} {k : Nat} : p_at P t k = true ↔ ∃ b, t[k]? = some b ∧ P b = true := by
  unfold p_at
  cases hb : t[k]? with
  | none => simp
  | some b => simp
theorem t_isDigit {a : Nat} {K : Int32 → zHp → Nat → Prop} (hd : 2 ≤ d) (hT : tTt τ t) (ha : τ.1 39 = nI a) (hal : a < 1000) (hK : K (if p_at p_09 t a = true then 1 else 0) (tput g m0 τ hp) nx) : zMt l g yX5_isDigit cX5_isDigit 1 (some .boolean) d 0 0 [.ref m0] (tput g m0 τ hp) nx (zQi g K) := by
  obtain ⟨d, rfl⟩ := Nat.exists_eq_add_of_le' (show 1 ≤ d by omega)
  apply met_X5_isDigit
  unfold wp_X5_isDigit
  simp only [tg_at, tp_at, ha, tw_zo]
  refine t_byteAt (by omega) hT hal ?_
  refine t_in' (by omega) ?_
  refine ⟨s_01, ?_⟩
  have h := p_by_in (k := a) (lo := 48) (hi := 57) hT (by decide) (by decide)
  have e48 : (48 : Int32) = nI 48 := rfl
  have e57 : (57 : Int32) = nI 57 := rfl
  rw [e48, e57]
  have e : p_at p_09 t a = p_at (fun b => decide (48 ≤ b) && decide (b ≤ 57)) t a := rfl
  rw [e] at hK
  by_cases q : p_at (fun b => decide (48 ≤ b) && decide (b ≤ 57)) t a = true
  · rw [if_pos q] at hK
    rw [if_neg (fun h' => h.mp h' q)]
    exact hK
  · rw [if_neg q] at hK
    rw [if_pos (h.mpr q)]
    exact hK
/-- whether a word stands from b on, so long -/
theorem p_tk {b a : Nat} {w : List Nat} (hb : b ≤ a) (ha : a ≤ t.length) : (t.drop b).take (a - b) = w ↔ w.length = a - b ∧ ∀ i, i < w.length → t[b + i]? = w[i]? := by
  have hl : ((t.drop b).take (a - b)).length = a - b := by
    rw [List.length_take, List.length_drop]
    omega
  constructor
  · intro h
    refine ⟨by rw [← h, hl], fun i hi => ?_⟩
    rw [← h, List.getElem?_take, List.getElem?_drop, if_pos (by rw [← h, hl] at hi; exact hi)]
  · rintro ⟨h1, h2⟩
    apply List.ext_getElem?
    intro i
    by_cases hi : i < a - b
    · rw [List.getElem?_take, if_pos hi, List.getElem?_drop]
      exact h2 i (by omega)
    · rw [List.getElem?_eq_none (by omega), List.getElem?_eq_none (by omega)]
theorem t_isWord {k a b : Nat} {w : List Nat} {K : Int32 → zHp → Nat → Prop} (hd : 6 ≤ d) (hs : zStrs g m0 hp) (hk : zTx[k]? = some w) (hT : tTt τ t) (ha : τ.1 39 = nI a) (hb : τ.1 40 = nI b) (hba : b ≤ a) (hal : a ≤ t.length) (hK : K (if (t.drop b).take (a - b) = w then 1 else 0) (tput g m0 τ hp) nx) : zMt l g yX5_isWord cX5_isWord 3 (some .boolean) d 0 0 [.ref m0, .ref (g.2.2.2.2 k)] (tput g m0 τ hp) nx (zQi g K) := by
  obtain ⟨d, rfl⟩ := Nat.exists_eq_add_of_le' (show 1 ≤ d by omega)
  have h96 := hT.2.1
  have hS := hs.t τ hk
  obtain ⟨b0, fs, f, h1, h2, h3, h4, h5, h6⟩ := id hS
  show zMt l g yX5_isWord cX5_isWord 3 (some .boolean) (d + 1) 0 0 [.ref m0, va_rf (some (g.2.2.2.2 k))] (tput g m0 τ hp) nx (zQi g K)
  apply met_X5_isWord
  unfold wp_X5_isWord
  rw [st_o (w := w) h1 (by decide)]
  refine t_slen (by omega) hS ?_
  simp only [tg_at, tp_at, tg_begin, tp_begin, ha, hb]
  rw [pk_sub hba]
  refine pk_eq w.length (a - b) (fun he => ?_) (fun hne => ?_)
  · refine ⟨fun n i h n' => ∃ ii, ii ≤ w.length ∧ n = w.length - ii ∧ i = nI ii ∧ h = tput g m0 τ hp ∧ nx = n' ∧ ∀ j, j < ii → t[b + j]? = w[j]?, ⟨w.length, 0, by omega, rfl, rfl, rfl, rfl, fun j hj => absurd hj (by omega)⟩, ?_⟩
    rintro n _ _ _ ⟨i, hi, hn, rfl, rfl, rfl, hall⟩
    rw [st_o (w := w) h1 (by decide)]
    refine t_slen (by omega) hS ?_
    refine pk_le w.length i (fun hle => ?_) (fun hlt => ?_)
    · have : (t.drop b).take (a - b) = w := (p_tk hba hal).mpr ⟨he, fun j hj => hall j (by omega)⟩
      rw [if_pos this] at hK
      exact hK
    · rw [st_o (w := w) h1 (by decide)]
      refine t_charAt (by omega) hS hlt ?_
      simp only [tg_begin, tp_begin, hb, tw_zo, nI_add]
      refine t_byteAt (by omega) hT (by omega) ?_
      have hw := List.getElem?_eq_getElem hlt
      have hg : w.getD i 0 = w[i] := by rw [List.getD_eq_getElem?_getD, hw]; rfl
      have hlt2 := (h6 i hlt).2
      have heq : nI (w.getD i 0) = p_by t (b + i) ↔ t[b + i]? = w[i]? := by
        rw [eq_comm, p_by_eq hT (by omega), hg, hw]
      rw [heq]
      refine ⟨fun h => ?_, fun h => ?_⟩
      · intro z hz
        subst hz
        refine ⟨w.length - (i + 1), by omega, i + 1, by omega, rfl, nI_1 i, rfl, rfl, fun j hj => ?_⟩
        by_cases e : j = i
        · subst e; exact h
        · exact hall j (by omega)
      · rw [if_neg (fun q => h (((p_tk hba hal).mp q).2 i hlt))] at hK
        exact hK
  · rw [if_neg (fun q => hne ((p_tk hba hal).mp q).1)] at hK
    exact hK
theorem t_word {a b : Nat} {K : Int32 → zHp → Nat → Prop} (hd : 7 ≤ d) (hs : zStrs g m0 hp) (hT : tTt τ t) (ha : τ.1 39 = nI a) (hb : τ.1 40 = nI b) (hba : b ≤ a) (hal : a ≤ t.length) (hK : K (s_io (p_kw ((t.drop b).take (a - b)))) (tput g m0 τ hp) nx) : zMt l g yX5_word cX5_word 1 (some .int) d 0 0 [.ref m0] (tput g m0 τ hp) nx (zQi g K) := by
  obtain ⟨d, rfl⟩ := Nat.exists_eq_add_of_le' (show 1 ≤ d by omega)
  apply met_X5_word
  unfold wp_X5_word
  unfold p_kw at hK
  generalize hW : (t.drop b).take (a - b) = W at hK
  have call : ∀ (k : Nat) (w : List Nat) (K2 : Int32 → zHp → Nat → Prop), zTx[k]? = some w → K2 (if W = w then 1 else 0) (tput g m0 τ hp) nx → zMt l g yX5_isWord cX5_isWord 3 (some .boolean) d 0 0 [.ref m0, .ref (g.2.2.2.2 k)] (tput g m0 τ hp) nx (zQi g K2) := fun k w K2 hk hK2 => t_isWord (by omega) hs hk hT ha hb hba hal (by rw [hW]; exact hK2)
  rw [tw_zo]
  refine call 9 _ _ rfl ?_
  refine ⟨_, fun _ _ _ h => h, ?_⟩
  by_cases c0 : W = [115, 117, 109]
  · rw [if_pos c0] at hK ⊢
    exact ⟨fun h => absurd h (by decide), fun _ => hK⟩
  rw [if_neg c0] at hK ⊢
  refine ⟨fun _ => ?_, fun h => absurd rfl h⟩
  rw [tw_zo]
  refine call 10 _ _ rfl ?_
  by_cases c1 : W = [109, 101, 97, 110]
  · rw [if_pos c1] at hK ⊢
    exact ⟨fun h => absurd h (by decide), fun _ => hK⟩
  rw [if_neg c1] at hK ⊢
  refine ⟨fun _ => ?_, fun h => absurd rfl h⟩
  rw [tw_zo]
  refine call 11 _ _ rfl ?_
  by_cases c2 : W = [108, 101, 97, 115, 116]
  · rw [if_pos c2] at hK ⊢
    exact ⟨fun h => absurd h (by decide), fun _ => hK⟩
  rw [if_neg c2] at hK ⊢
  refine ⟨fun _ => ?_, fun h => absurd rfl h⟩
  rw [tw_zo]
  refine call 12 _ _ rfl ?_
  by_cases c3 : W = [109, 111, 115, 116]
  · rw [if_pos c3] at hK ⊢
    exact ⟨fun h => absurd h (by decide), fun _ => hK⟩
  rw [if_neg c3] at hK ⊢
  refine ⟨fun _ => ?_, fun h => absurd rfl h⟩
  rw [tw_zo]
  refine call 13 _ _ rfl ?_
  by_cases c4 : W = [102, 97, 105, 108, 115]
  · rw [if_pos c4] at hK ⊢
    exact ⟨fun h => absurd h (by decide), fun _ => hK⟩
  rw [if_neg c4] at hK ⊢
  refine ⟨fun _ => ?_, fun h => absurd rfl h⟩
  rw [tw_zo]
  refine call 14 _ _ rfl ?_
  by_cases c5 : W = [112, 105, 99, 107]
  · rw [if_pos c5] at hK ⊢
    exact ⟨fun h => absurd h (by decide), fun _ => hK⟩
  rw [if_neg c5] at hK ⊢
  refine ⟨fun _ => ?_, fun h => absurd rfl h⟩
  rw [tw_zo]
  refine call 15 _ _ rfl ?_
  by_cases c6 : W = [109, 105, 110]
  · rw [if_pos c6] at hK ⊢
    exact ⟨fun h => absurd h (by decide), fun _ => hK⟩
  rw [if_neg c6] at hK ⊢
  refine ⟨fun _ => ?_, fun h => absurd rfl h⟩
  rw [tw_zo]
  refine call 16 _ _ rfl ?_
  by_cases c7 : W = [109, 97, 120]
  · rw [if_pos c7] at hK ⊢
    exact ⟨fun h => absurd h (by decide), fun _ => hK⟩
  rw [if_neg c7] at hK ⊢
  exact ⟨fun _ => hK, fun h => absurd rfl h⟩
end LX
