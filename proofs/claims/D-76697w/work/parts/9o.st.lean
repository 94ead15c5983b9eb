set_option maxRecDepth 100000
/-! String constants: their cells, length, charAt, indexOf -/
section ST
variable {l : Launch} {g : zG} {d : Nat} {hp : zHp} {nx : Nat}
/-- the texts of the String constants, by number -/
def zTx : List (List Nat) := [[40, 41, 44, 43, 45, 42, 47, 37, 60, 61], [112, 105, 99, 107], [109, 105, 110], [109, 97, 120], [115, 117, 109], [109, 101, 97, 110], [108, 101, 97, 115, 116], [109, 111, 115, 116], [102, 97, 105, 108, 115], [115, 117, 109], [109, 101, 97, 110], [108, 101, 97, 115, 116], [109, 111, 115, 116], [102, 97, 105, 108, 115], [112, 105, 99, 107], [109, 105, 110], [109, 97, 120], [40, 41, 44, 43, 45, 42, 47, 37, 60, 61]]
/-- a String at an address: its bytes -/
def zStr (g : zG) (hp : zHp) (a : Nat) (w : List Nat) : Prop := ∃ (b : Nat) (fs : List Value) (f : Nat → Int32), hp a = some (.inr (40, fs)) ∧ fs[0]? = some (va_rf (some b)) ∧ fs[1]? = some (.int 0) ∧ hp b = some (.inl (g.2.1 2, w.length, .inl f)) ∧ w.length < 100 ∧ (∀ i, i < w.length → f i = nI (w.getD i 0) ∧ w.getD i 0 < 128)
/-- the constants stand below m0 -/
def zStrs (g : zG) (m0 : Nat) (hp : zHp) : Prop := ∀ k w, zTx[k]? = some w → ∃ (b : Nat) (fs : List Value) (f : Nat → Int32), g.2.2.2.2 k < m0 ∧ b < m0 ∧ hp (g.2.2.2.2 k) = some (.inr (40, fs)) ∧ fs[0]? = some (va_rf (some b)) ∧ fs[1]? = some (.int 0) ∧ hp b = some (.inl (g.2.1 2, w.length, .inl f)) ∧ w.length < 100 ∧ (∀ i, i < w.length → f i = nI (w.getD i 0) ∧ w.getD i 0 < 128)
theorem zStrs.t {m0 : Nat} (h : zStrs g m0 hp) (τ : tS) {k : Nat} {w : List Nat} (hk : zTx[k]? = some w) : zStr g (tput g m0 τ hp) (g.2.2.2.2 k) w := by
  obtain ⟨b, fs, f, h1, h2, h3, h4, h5, h6, h7, h8⟩ := h k w hk
  exact ⟨b, fs, f, by rw [tput_o _ _ _ _ (Or.inl h1)]; exact h3, h4, h5, by rw [tput_o _ _ _ _ (Or.inl h2)]; exact h6, h7, h8⟩
theorem st_o {a : Nat} {w : List Nat} {fs : List Value} {S : List Nat} {K : Nat → Nat → List Value → Prop} (h : hp a = some (.inr (40, fs))) (hS : 40 ∈ S) : zo hp (some a) S K = K a 40 fs := by
  unfold zo
  simp only [h]
  exact propext ⟨fun q => q.2, fun q => ⟨hS, q⟩⟩
theorem st_R {a : Nat} {fs : List Value} {k : Nat} {r : Option Nat} {K : Option Nat → Prop} (h : hp a = some (.inr (40, fs))) (hf : fs[k]? = some (va_rf r)) : zgR hp (some a) [40] k K = K r := by
  unfold zgR
  rw [st_o (w := []) h (by decide), hf]
  cases r <;> rfl
theorem st_I {a : Nat} {fs : List Value} {k : Nat} {x : Int32} {K : Int32 → Prop} (h : hp a = some (.inr (40, fs))) (hf : fs[k]? = some (.int x)) : zgI hp (some a) [40] k K = K x := by
  unfold zgI
  rw [st_o (w := []) h (by decide), hf]
  rfl
theorem st_l {b n : Nat} {f : Nat → Int32} {K : Int32 → Prop} (h : hp b = some (.inl (g.2.1 2, n, .inl f))) : zln (g.2.1 2) hp (some b) K = K (nI n) := by
  unfold zln
  simp only [h, true_and]
  rfl
theorem st_a {b n : Nat} {f : Nat → Int32} {K : Nat → Nat → (Nat → Int32) → Prop} (h : hp b = some (.inl (g.2.1 2, n, .inl f))) : zaI (g.2.1 2) hp (some b) K = K b n f := by
  unfold zaI
  simp only [h, true_and]
theorem t_coder {a : Nat} {fs : List Value} {K : Int32 → zHp → Nat → Prop} (hd : 1 ≤ d) (h : hp a = some (.inr (40, fs))) (hf : fs[1]? = some (.int 0)) (hK : K 0 hp nx) : zMt l g yJ7_coder cJ7_coder 1 (some .byte) d 0 0 [.ref a] hp nx (zQi g K) := by
  obtain ⟨d, rfl⟩ := Nat.exists_eq_add_of_le' hd
  apply met_J7_coder
  unfold wp_J7_coder
  refine ⟨_, fun _ h => h, fun h => absurd h (by decide), fun _ => ?_⟩
  rw [st_I h hf]
  exact ⟨rfl, hK⟩
theorem t_isLatin1 {a : Nat} {fs : List Value} {K : Int32 → zHp → Nat → Prop} (hd : 1 ≤ d) (h : hp a = some (.inr (40, fs))) (hf : fs[1]? = some (.int 0)) (hK : K 1 hp nx) : zMt l g yJ7_isLatin1 cJ7_isLatin1 1 (some .boolean) d 0 0 [.ref a] hp nx (zQi g K) := by
  obtain ⟨d, rfl⟩ := Nat.exists_eq_add_of_le' hd
  apply met_J7_isLatin1
  unfold wp_J7_isLatin1
  refine ⟨_, fun _ h => h, False, fun h => h.elim, fun h => absurd h (by decide), fun _ => ?_⟩
  rw [st_I h hf]
  exact ⟨fun _ => ⟨Or.inr rfl, hK⟩, fun h => absurd rfl h⟩
theorem st_sh (x : Int32) : x >>> ((0 : Int32) &&& 31) = x := by
  have : (0 : Int32) &&& 31 = 0 := by decide
  rw [this]
  exact Int32.shiftRight_zero
theorem t_slen {a : Nat} {w : List Nat} {K : Int32 → zHp → Nat → Prop} (hd : 2 ≤ d) (hs : zStr g hp a w) (hK : K (nI w.length) hp nx) : zMt l g yJ7_length cJ7_length 1 (some .int) d 0 0 [.ref a] hp nx (zQi g K) := by
  obtain ⟨d, rfl⟩ := Nat.exists_eq_add_of_le' (show 1 ≤ d by omega)
  obtain ⟨b, fs, f, h1, h2, h3, h4, h5, h6⟩ := hs
  apply met_J7_length
  unfold wp_J7_length
  rw [st_R h1 h2, st_l h4, st_o (w := w) h1 (by decide)]
  refine t_coder (by omega) h1 h3 ?_
  rw [st_sh]
  exact hK
theorem st_ch {c : Nat} (h : c < 128) : ((((nI c) &&& (255 : Int32)).toUInt32 % 65536).toInt32) = nI c ∧ narrow .char (.int (nI c)) = .int (nI c) := by
  have key : ∀ x : Fin 128, ((((nI x.1) &&& (255 : Int32)).toUInt32 % 65536).toInt32) = nI x.1 ∧ narrow .char (.int (nI x.1)) = .int (nI x.1) := by decide +kernel
  exact key ⟨c, h⟩
theorem t_checkIndex {i n : Nat} {K : zHp → Nat → Prop} (hd : 2 ≤ d) (hi : i < n) (hn : n < 100) (hK : K hp nx) : zMt l g yJ7_checkIndex cJ7_checkIndex 2 none d 0 0 [.int (nI i), .int (nI n)] hp nx (zQv g K) := by
  obtain ⟨d, rfl⟩ := Nat.exists_eq_add_of_le' (show 1 ≤ d by omega)
  apply met_J7_checkIndex
  unfold wp_J7_checkIndex
  intro r
  obtain ⟨d, rfl⟩ := Nat.exists_eq_add_of_le' (show 1 ≤ d by omega)
  apply met_J12_checkIndex
  unfold wp_J12_checkIndex
  exact ⟨fun h => absurd h (nI_pos (by omega)), fun _ => ⟨fun _ => hK, fun h => absurd (nI_lt hi (by omega)) h⟩⟩
theorem t_charAt {a i : Nat} {w : List Nat} {K : Int32 → zHp → Nat → Prop} (hd : 4 ≤ d) (hs : zStr g hp a w) (hi : i < w.length) (hK : K (nI (w.getD i 0)) hp nx) : zMt l g yJ7_charAt cJ7_charAt 2 (some .char) d 0 0 [.ref a, .int (nI i)] hp nx (zQi g K) := by
  obtain ⟨d, rfl⟩ := Nat.exists_eq_add_of_le' (show 1 ≤ d by omega)
  obtain ⟨b, fs, f, h1, h2, h3, h4, h5, h6⟩ := hs
  apply met_J7_charAt
  unfold wp_J7_charAt
  rw [st_o (w := w) h1 (by decide)]
  refine t_isLatin1 (by omega) h1 h3 ⟨fun h => absurd h (by decide), fun _ => ?_⟩
  rw [st_R h1 h2]
  obtain ⟨d, rfl⟩ := Nat.exists_eq_add_of_le' (show 1 ≤ d by omega)
  show zMt l g yJ13_charAt cJ13_charAt 2 (some .char) (d + 1) 0 0 [va_rf (some b), .int (nI i)] hp nx _
  apply met_J13_charAt
  unfold wp_J13_charAt
  rw [st_l h4]
  refine t_checkIndex (by omega) hi (by omega) ?_
  rw [st_a h4]
  refine ⟨vp_in_nI hi (by omega), fun x hx => ?_⟩
  rw [nI_clamp (by omega), (h6 i hi).1] at hx
  subst hx
  obtain ⟨q1, q2⟩ := st_ch (h6 i hi).2
  rw [q1]
  exact ⟨q2, q2, hK⟩
/-- the first place of a number; none -/
def s_fi (w : List Nat) (c : Nat) : Option Nat := w.findIdx? (· == c)
theorem st_by {c : Nat} (h : c < 128) : (nI c).toInt8.toInt32 = nI c := by
  have key : ∀ x : Fin 128, (nI x.1).toInt8.toInt32 = nI x.1 := by decide +kernel
  exact key ⟨c, h⟩
theorem st_by2 {c : Nat} (h : c < 256) (h2 : 128 ≤ c) : (nI c).toInt8.toInt32 < 0 := by
  have key : ∀ x : Fin 256, 128 ≤ x.1 → (nI x.1).toInt8.toInt32 < 0 := by decide +kernel
  exact key ⟨c, h⟩ h2
/-- whether a byte is among those of a String -/
theorem t_indexOf {a c : Nat} {w : List Nat} {K : Int32 → zHp → Nat → Prop} (hd : 6 ≤ d) (hs : zStr g hp a w) (h0 : w ≠ []) (hc : c < 256) (hK : ∀ x : Int32, (0 ≤ x ↔ c ∈ w) → K x hp nx) : zMt l g yJ7_indexOf cJ7_indexOf 2 (some .int) d 0 0 [.ref a, .int (nI c)] hp nx (zQi g K) := by
  obtain ⟨d, rfl⟩ := Nat.exists_eq_add_of_le' (show 1 ≤ d by omega)
  have hs' := hs
  obtain ⟨b, fs, f, h1, h2, h3, h4, h5, h6⟩ := hs
  have hl : 0 < w.length := List.length_pos_iff.mpr h0
  apply met_J7_indexOf
  unfold wp_J7_indexOf
  rw [st_o (w := w) h1 (by decide)]
  obtain ⟨d, rfl⟩ := Nat.exists_eq_add_of_le' (show 1 ≤ d by omega)
  apply met_J7_indexOf_2
  unfold wp_J7_indexOf_2
  rw [st_o (w := w) h1 (by decide)]
  refine t_isLatin1 (by omega) h1 h3 ?_
  refine ⟨_, fun _ _ _ h => h, fun h => absurd h (by decide), fun _ => ?_⟩
  rw [st_R h1 h2, st_o (w := w) h1 (by decide)]
  refine t_slen (by omega) hs' ?_
  obtain ⟨d, rfl⟩ := Nat.exists_eq_add_of_le' (show 1 ≤ d by omega)
  show zMt l g yJ13_indexOf cJ13_indexOf 4 (some .int) (d + 1) 0 0 [va_rf (some b), .int (nI c), .int 0, .int (nI w.length)] hp nx _
  apply met_J13_indexOf
  unfold wp_J13_indexOf
  obtain ⟨d, rfl⟩ := Nat.exists_eq_add_of_le' (show 1 ≤ d by omega)
  apply met_J13_canEncode_2
  unfold wp_J13_canEncode_2
  refine ⟨_, fun _ h => h, False, fun h => h.elim, fun h => absurd h (nI_pos (by omega)), fun _ => ⟨fun h => ?_, fun _ => ⟨Or.inr rfl, fun h => absurd h (by decide), fun _ => ?_⟩⟩⟩
  · exact absurd h (show ¬ nI 255 < nI c from nI_nlt (by omega) (by decide))
  apply met_J10_max
  unfold wp_J10_max
  have fin : zMt l g yJ13_indexOfChar cJ13_indexOfChar 6 (some .int) (d + 1) 0 0 [va_rf (some b), .int (nI c), .int 0, .int (nI w.length)] hp nx (zQi g K) := by
    apply met_J13_indexOfChar
    unfold wp_J13_indexOfChar
    intro x1 hx1
    refine ⟨fun n y i => ∃ ii, ii ≤ w.length ∧ n = w.length - ii ∧ i = nI ii ∧ x1 = y ∧ ∀ j, j < ii → w.getD j 0 ≠ c, ⟨w.length, 0, by omega, rfl, rfl, rfl, fun j hj => absurd hj (by omega)⟩, ?_⟩
    rintro n _ _ ⟨ii, hii, hn, rfl, rfl, hno⟩
    refine pk_le w.length ii (fun hle => ?_) (fun hlt => ?_)
    · refine hK (-1) ⟨fun h => absurd h (by decide), fun h => ?_⟩
      obtain ⟨j, hj, e⟩ := List.getElem_of_mem h
      exact absurd (by rw [List.getD_eq_getElem?_getD, List.getElem?_eq_getElem hj, e]; rfl) (hno j (by omega))
    · rw [st_a h4]
      refine ⟨vp_in_nI hlt (by omega), fun z hz => ?_⟩
      rw [nI_clamp (by omega), (h6 ii hlt).1] at hz
      subst hz
      have hw := (h6 ii hlt).2
      have heq : nI (w.getD ii 0) = x1 ↔ w.getD ii 0 = c := by
        rw [hx1]
        by_cases c1 : c < 128
        · rw [st_by c1]
          exact nI_eq (by omega) (by omega)
        · constructor
          · intro h
            have := st_by2 hc (by omega)
            rw [← h] at this
            exact absurd this (nI_pos (by omega))
          · intro h
            omega
      rw [heq]
      refine ⟨fun h => ?_, fun h => ?_⟩
      · refine hK (nI ii) ⟨fun _ => ?_, fun _ => nI_pos' (by omega)⟩
        rw [← h, List.getD_eq_getElem?_getD, List.getElem?_eq_getElem hlt]
        exact List.getElem_mem hlt
      · intro z hz
        subst hz
        refine ⟨w.length - (ii + 1), by omega, ii + 1, by omega, rfl, nI_1 ii, rfl, fun j hj => ?_⟩
        by_cases e : j = ii
        · subst e; exact h
        · exact hno j (by omega)
  have fin2 : (0 : Int32) < nI w.length := by
    have := nI_lt (a := 0) hl (by omega)
    rw [nI_0] at this
    exact this
  refine ⟨_, fun _ h => h, fun h => absurd h (by decide), fun _ => ?_⟩
  dsimp only
  rw [st_l h4]
  apply met_J10_min
  unfold wp_J10_min
  refine ⟨_, fun _ h => h, fun h => absurd h (nI_nlt (Nat.le_refl _) (by omega)), fun _ => ⟨fun _ => ?_, fun h => absurd fin2 h⟩⟩
  exact fin
end ST
