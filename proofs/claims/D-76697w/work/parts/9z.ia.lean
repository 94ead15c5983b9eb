set_option maxRecDepth 100000
/-! THE REFERENCE's constructor -/
section IA
variable {l : Launch} {g : zG} {d m0 : Nat} {hp0 hp : zHp}
def iMk : Nat → Int32 := va_up (va_up (va_up (va_up (fun _ => 0) 0 (-1)) 1 (-1)) 2 (-1)) 3 (-1)
def iT : tS := (fun _ => 0, fun _ => 0, fun k _ => if k = 70 then iMk else fun _ => 0, fun _ _ _ => 0)
def iF (m0 : Nat) (F : List Value) (k0 : Nat) : Prop := F.length = 76 ∧ ∀ k, k < 76 → (twO.getD k 0 = 0 ∨ k < k0) → F[k]? = some (twF m0 iT k)
def iH (g : zG) (m0 : Nat) (hp0 hp : zHp) (n k0 : Nat) : Prop := 0 < n ∧ (∀ q, q < m0 → hp q = hp0 q) ∧ (∃ F, iF m0 F k0 ∧ hp m0 = some (.inr (5, F))) ∧ (∀ q, 0 < q → q < n → hp (m0 + q) = (twL[q]?).map (twR g m0 iT q)) ∧ ∀ q, m0 + n ≤ q → hp q = hp0 q
theorem i_end (h : iH g m0 hp0 hp 257 76) : hp = tput g m0 iT hp0 := by
  obtain ⟨h0, h1, ⟨F, ⟨f1, f2⟩, h2⟩, h3, h4⟩ := h
  have eF : F = (List.range 76).map (twF m0 iT) := by
    apply List.ext_getElem?
    intro k
    by_cases hk : k < 76
    · rw [f2 k hk (Or.inr hk), twF_get hk]
    · rw [List.getElem?_eq_none (by omega), List.getElem?_eq_none (by simp; omega)]
  funext q
  by_cases a1 : q < m0
  · rw [h1 q a1, tput_o g m0 iT hp0 (Or.inl a1)]
  · by_cases a2 : q = m0
    · subst a2; rw [h2, tput_0, eF]
    · by_cases a3 : q < m0 + 257
      · obtain ⟨r, rfl⟩ := Nat.exists_eq_add_of_le (Nat.le_of_not_lt a1)
        rw [h3 r (by omega) (by omega), tput_q g m0 iT hp0 (by omega) (by omega)]
      · rw [h4 q (by omega), tput_o g m0 iT hp0 (Or.inr (by omega))]
theorem i_put {K : zHp → Prop} {n k0 k a : Nat} (h : iH g m0 hp0 hp n k0) (hk : k < 76) (hO : twO.getD k 0 = a) (ha : a ≠ 0) (hj : ∀ j, j < k → k0 ≤ j → twO.getD j 0 = 0) (hB : zB g ≤ m0) (hK : ∀ hp', iH g m0 hp0 hp' n (k + 1) → K hp') : zpt g hp (some m0) [5] k (va_rf (some (m0 + a))) K := by
  obtain ⟨h0, h1, ⟨F, ⟨f1, f2⟩, h2⟩, h3, h4⟩ := h
  unfold zpt zo
  simp only [h2, List.mem_singleton, true_and]
  refine ⟨hB, by omega, hK _ ⟨h0, fun q hq => ?_, ⟨F.set k (va_rf (some (m0 + a))), ⟨by simp [f1], fun j hj1 hj2 => ?_⟩, by simp [va_up]⟩, fun q a1 a2 => ?_, fun q hq => ?_⟩⟩
  · simp only [va_up]; rw [if_neg (by omega)]; exact h1 q hq
  · by_cases e : j = k
    · subst e
      rw [List.getElem?_set_self (by omega)]
      unfold twF
      rw [hO, if_neg ha]
      rfl
    · rw [List.getElem?_set_ne (by omega)]
      refine f2 j hj1 ?_
      by_cases b : j < k0
      · exact Or.inr b
      · rcases hj2 with c | c
        · exact Or.inl c
        · exact Or.inl (hj j (by omega) (by omega))
  · simp only [va_up]; rw [if_neg (by omega)]; exact h3 q a1 a2
  · simp only [va_up]; rw [if_neg (by omega)]; exact h4 q hq
theorem i_cell {n k0 : Nat} {e : va_E} (h : iH g m0 hp0 hp n k0) (he : (twL[n]?).map (twR g m0 iT n) = some e) : iH g m0 hp0 (va_up hp (m0 + n) (some e)) (n + 1) k0 := by
  obtain ⟨h0, h1, ⟨F, hF, h2⟩, h3, h4⟩ := h
  refine ⟨by omega, fun q hq => ?_, ⟨F, hF, ?_⟩, fun q a1 a2 => ?_, fun q hq => ?_⟩
  · simp only [va_up]; rw [if_neg (by omega)]; exact h1 q hq
  · simp only [va_up]; rw [if_neg (by omega)]; exact h2
  · by_cases b : q = n
    · subst b; simp only [va_up, if_true]; exact he.symm
    · simp only [va_up]; rw [if_neg (by omega)]; exact h3 q a1 (by omega)
  · simp only [va_up]; rw [if_neg (by omega)]; exact h4 q (by omega)
theorem i_mat {n k0 tO tI N M k : Nat} {x : (Nat → Int32) ⊕ (Nat → Int64) ⊕ (Nat → UInt32) ⊕ (Nat → UInt64) ⊕ (Nat → Option Nat)} (h : iH g m0 hp0 hp n k0) (hO : twL[n]? = some (k, 0, tO, N)) (hx0 : twR g m0 iT n (k, 0, tO, N) = .inl (g.2.1 tO, N, .inr (.inr (.inr (.inr (fun j => some (m0 + n + 1 + j))))))) (hI : ∀ i, i < N → twL[n + 1 + i]? = some (k, i, tI, M)) (hx : ∀ q i, twR g m0 iT q (k, i, tI, M) = .inl (g.2.1 tI, M, x)) : iH g m0 hp0 (zmHp hp (m0 + n) (g.2.1 tO) (g.2.1 tI) N M x) (n + 1 + N) k0 := by
  obtain ⟨h0, h1, ⟨F, hF, h2⟩, h3, h4⟩ := h
  refine ⟨by omega, fun q hq => ?_, ⟨F, hF, ?_⟩, fun q a1 a2 => ?_, fun q hq => ?_⟩
  · simp only [zmHp]; rw [if_pos (by omega)]; exact h1 q hq
  · simp only [zmHp]; rw [if_pos (by omega)]; exact h2
  · by_cases b : q < n
    · simp only [zmHp]; rw [if_pos (by omega)]; exact h3 q a1 b
    · by_cases b2 : q = n
      · subst b2
        simp only [zmHp]
        rw [if_neg (by omega), if_pos trivial, hO, Option.map_some, hx0]
      · simp only [zmHp]
        rw [if_neg (by omega), if_neg (by omega), if_pos (by omega)]
        obtain ⟨i, rfl⟩ := Nat.exists_eq_add_of_le (show n + 1 ≤ q by omega)
        rw [hI i (by omega), Option.map_some, hx]
  · simp only [zmHp]; rw [if_neg (by omega), if_neg (by omega), if_neg (by omega)]; exact h4 q (by omega)
theorem i_na {mc ms kc ks n k0 t len : Nat} (k : Nat) (N : Int32) {x : (Nat → Int32) ⊕ (Nat → Int64) ⊕ (Nat → UInt32) ⊕ (Nat → UInt64) ⊕ (Nat → Option Nat)} {K : zHp → Nat → Nat → Nat → Prop} (hB : zB g ≤ m0) (h : iH g m0 hp0 hp n k0) (n' k' kc' ks' : Nat) (hL : twL[n]? = some (k, 0, t, len)) (hO : twO.getD k 0 = n) (hx : twR g m0 iT n (k, 0, t, len) = .inl (g.2.1 t, len, x)) (hk : k < 76) (hj : ∀ j, j < k → k0 ≤ j → twO.getD j 0 = 0) (hN0 : ¬ N < 0) (hN : N.toNatClampNeg = len) (hl : len ≤ 65536) (e1 : n + 1 = n') (e2 : k + 1 = k') (e3 : kc + 1 = kc') (e4 : ks + len = ks') (hmc : kc' ≤ mc) (hms : ks' ≤ ms) (hK : ∀ hp', iH g m0 hp0 hp' n' k' → K hp' (m0 + n') kc' ks') : zna g mc ms hp (m0 + n) kc ks t N x fun hp1 => ∀ nx1 kc1 ks1 : Nat, nx1 = (m0 + n) + 1 → kc1 = kc + 1 → ks1 = ks + N.toNatClampNeg → zpt g hp1 (some m0) [5] k (va_rf (some (m0 + n))) fun hp2 => K hp2 nx1 kc1 ks1 := by
  subst hN e1 e2 e3 e4
  have h0 := h.1
  refine ⟨hN0, hl, hmc, hms, fun _ _ nx1 kc1 ks1 a1 a2 a3 => ?_⟩
  subst a1 a2 a3
  exact i_put (i_cell h (by rw [hL, Option.map_some, hx])) hk hO (by omega) hj hB hK
theorem i_nm {mc ms kc ks n k0 tO tI lN lM : Nat} (k : Nat) (N M : Int32) {x : (Nat → Int32) ⊕ (Nat → Int64) ⊕ (Nat → UInt32) ⊕ (Nat → UInt64) ⊕ (Nat → Option Nat)} {K : zHp → Nat → Nat → Nat → Prop} (hB : zB g ≤ m0) (h : iH g m0 hp0 hp n k0) (n' k' kc' ks' : Nat) (hL : twL[n]? = some (k, 0, tO, lN)) (hN : N.toNatClampNeg = lN) (hM : M.toNatClampNeg = lM) (hI : ∀ i, i < lN → twL[n + 1 + i]? = some (k, i, tI, lM)) (hx0 : twR g m0 iT n (k, 0, tO, lN) = .inl (g.2.1 tO, lN, .inr (.inr (.inr (.inr (fun j => some (m0 + n + 1 + j))))))) (hx : ∀ q i, twR g m0 iT q (k, i, tI, lM) = .inl (g.2.1 tI, lM, x)) (hO : twO.getD k 0 = n) (hk : k < 76) (hj : ∀ j, j < k → k0 ≤ j → twO.getD j 0 = 0) (hN0 : ¬ N < 0) (hM0 : ¬ M < 0) (hlN : lN ≤ 65536) (hlM : lM ≤ 65536) (e1 : n + 1 + lN = n') (e2 : k + 1 = k') (e3 : kc + 1 + lN = kc') (e4 : ks + lN + lN * lM = ks') (hmc : kc' ≤ mc) (hms : ks' ≤ ms) (hK : ∀ hp', iH g m0 hp0 hp' n' k' → K hp' (m0 + n') kc' ks') : znm g mc ms hp (m0 + n) kc ks tO tI N M x fun hp1 => ∀ nx1 kc1 ks1 : Nat, nx1 = (m0 + n) + 1 + N.toNatClampNeg → kc1 = kc + 1 + N.toNatClampNeg → ks1 = ks + N.toNatClampNeg + N.toNatClampNeg * M.toNatClampNeg → zpt g hp1 (some m0) [5] k (va_rf (some (m0 + n))) fun hp2 => K hp2 nx1 kc1 ks1 := by
  subst hN hM e1 e2 e3 e4
  have h0 := h.1
  refine ⟨hN0, hM0, hlN, hlM, by omega, by rw [← Nat.add_assoc]; exact hms, fun _ _ nx1 kc1 ks1 a1 a2 a3 => ?_⟩
  subst a1 a2 a3
  refine i_put (i_mat h hL hx0 hI hx) hk hO (by omega) hj hB fun hp' q => ?_
  have := hK hp' q
  rw [show m0 + n + 1 + N.toNatClampNeg = m0 + (n + 1 + N.toNatClampNeg) by omega]
  exact this
theorem i_four {hp1 : zHp} {a : Nat} {f : Nat → Int32} {v : Int32} {K : zHp → Prop} (e : hp1 = va_up hp a (some (.inl (g.2.1 0, 4, .inl f)))) (hB : zB g ≤ a) (i : Int32) (hi : vp_in i 4) (hK : K (va_up hp a (some (.inl (g.2.1 0, 4, .inl (va_up f i.toNatClampNeg v)))))) : zaI (g.2.1 0) hp1 (some a) fun a1 n1 f1 => vp_in i n1 ∧ zB g ≤ a1 ∧ ∀ hp2 : zHp, hp2 = va_up hp1 a1 (some (.inl (g.2.1 0, n1, .inl (va_up f1 i.toNatClampNeg v)))) → K hp2 := by
  subst e
  have e1 : va_up hp a (some (.inl (g.2.1 0, 4, .inl f))) a = some (.inl (g.2.1 0, 4, .inl f)) := by simp [va_up]
  unfold zaI
  simp only [e1, true_and]
  refine ⟨hi, hB, fun hp2 e2 => ?_⟩
  have : hp2 = va_up hp a (some (.inl (g.2.1 0, 4, .inl (va_up f i.toNatClampNeg v)))) := by
    rw [e2]; funext q; by_cases hq : q = a <;> simp [va_up, hq]
  rw [this]; exact hK
set_option maxHeartbeats 4000000 in
theorem i_init {mc ms : Nat} {K : zHp → Nat → Prop} (hB : zB g ≤ m0) (hmc : 256 ≤ mc) (hms : 26859 ≤ ms) (h : iH g m0 hp0 hp 1 0) (hK : K (tput g m0 iT hp0) (m0 + 257)) : zMt l g yX5_init cX5_init 1 none (d + 1) mc ms [.ref m0] hp (m0 + 1) (zQv g K) := by
  apply met_X5_init
  unfold wp_X5_init
  refine i_na (n := 1) 0 24 hB h 2 1 1 24 rfl (by decide) rfl (by decide) (by decide) (by decide) (by decide) (by decide) rfl rfl rfl rfl (by omega) (by omega) fun hp1 h => ?_
  refine i_na (n := 2) 1 24 hB h 3 2 2 48 rfl (by decide) rfl (by decide) (by decide) (by decide) (by decide) (by decide) rfl rfl rfl rfl (by omega) (by omega) fun hp1 h => ?_
  refine i_na (n := 3) 2 24 hB h 4 3 3 72 rfl (by decide) rfl (by decide) (by decide) (by decide) (by decide) (by decide) rfl rfl rfl rfl (by omega) (by omega) fun hp1 h => ?_
  refine i_na (n := 4) 3 24 hB h 5 4 4 96 rfl (by decide) rfl (by decide) (by decide) (by decide) (by decide) (by decide) rfl rfl rfl rfl (by omega) (by omega) fun hp1 h => ?_
  refine i_nm (n := 5) (lM := 96) 4 24 96 hB h 30 5 29 2424 rfl (by decide) (by decide) (by decide) rfl (fun _ _ => rfl) (by decide) (by decide) (by decide) (by decide) (by decide) (by decide) (by decide) rfl rfl rfl rfl (by omega) (by omega) fun hp1 h => ?_
  refine i_nm (n := 30) (lM := 96) 5 24 96 hB h 55 6 54 4752 rfl (by decide) (by decide) (by decide) rfl (fun _ _ => rfl) (by decide) (by decide) (by decide) (by decide) (by decide) (by decide) (by decide) rfl rfl rfl rfl (by omega) (by omega) fun hp1 h => ?_
  refine i_na (n := 55) 6 6 hB h 56 7 55 4758 rfl (by decide) rfl (by decide) (by decide) (by decide) (by decide) (by decide) rfl rfl rfl rfl (by omega) (by omega) fun hp1 h => ?_
  refine i_na (n := 56) 7 6 hB h 57 8 56 4764 rfl (by decide) rfl (by decide) (by decide) (by decide) (by decide) (by decide) rfl rfl rfl rfl (by omega) (by omega) fun hp1 h => ?_
  refine i_na (n := 57) 8 6 hB h 58 9 57 4770 rfl (by decide) rfl (by decide) (by decide) (by decide) (by decide) (by decide) rfl rfl rfl rfl (by omega) (by omega) fun hp1 h => ?_
  refine i_na (n := 58) 9 6 hB h 59 10 58 4776 rfl (by decide) rfl (by decide) (by decide) (by decide) (by decide) (by decide) rfl rfl rfl rfl (by omega) (by omega) fun hp1 h => ?_
  refine i_na (n := 59) 10 12 hB h 60 11 59 4788 rfl (by decide) rfl (by decide) (by decide) (by decide) (by decide) (by decide) rfl rfl rfl rfl (by omega) (by omega) fun hp1 h => ?_
  refine i_nm (n := 60) (lM := 8) 11 12 8 hB h 73 12 72 4896 rfl (by decide) (by decide) (by decide) rfl (fun _ _ => rfl) (by decide) (by decide) (by decide) (by decide) (by decide) (by decide) (by decide) rfl rfl rfl rfl (by omega) (by omega) fun hp1 h => ?_
  refine i_na (n := 73) 12 24 hB h 74 13 73 4920 rfl (by decide) rfl (by decide) (by decide) (by decide) (by decide) (by decide) rfl rfl rfl rfl (by omega) (by omega) fun hp1 h => ?_
  refine i_nm (n := 74) (lM := 6) 13 24 6 hB h 99 14 98 5088 rfl (by decide) (by decide) (by decide) rfl (fun _ _ => rfl) (by decide) (by decide) (by decide) (by decide) (by decide) (by decide) (by decide) rfl rfl rfl rfl (by omega) (by omega) fun hp1 h => ?_
  refine i_na (n := 99) 14 24 hB h 100 15 99 5112 rfl (by decide) rfl (by decide) (by decide) (by decide) (by decide) (by decide) rfl rfl rfl rfl (by omega) (by omega) fun hp1 h => ?_
  refine i_na (n := 100) 15 24 hB h 101 16 100 5136 rfl (by decide) rfl (by decide) (by decide) (by decide) (by decide) (by decide) rfl rfl rfl rfl (by omega) (by omega) fun hp1 h => ?_
  refine i_na (n := 101) 16 24 hB h 102 17 101 5160 rfl (by decide) rfl (by decide) (by decide) (by decide) (by decide) (by decide) rfl rfl rfl rfl (by omega) (by omega) fun hp1 h => ?_
  refine i_na (n := 102) 17 24 hB h 103 18 102 5184 rfl (by decide) rfl (by decide) (by decide) (by decide) (by decide) (by decide) rfl rfl rfl rfl (by omega) (by omega) fun hp1 h => ?_
  refine i_nm (n := 103) (lM := 24) 19 7 24 hB h 111 20 110 5359 rfl (by decide) (by decide) (by decide) rfl (fun _ _ => rfl) (by decide) (by decide) (by decide) (by decide) (by decide) (by decide) (by decide) rfl rfl rfl rfl (by omega) (by omega) fun hp1 h => ?_
  refine i_nm (n := 111) (lM := 24) 20 7 24 hB h 119 21 118 5534 rfl (by decide) (by decide) (by decide) rfl (fun _ _ => rfl) (by decide) (by decide) (by decide) (by decide) (by decide) (by decide) (by decide) rfl rfl rfl rfl (by omega) (by omega) fun hp1 h => ?_
  refine i_nm (n := 119) (lM := 24) 21 7 24 hB h 127 22 126 5709 rfl (by decide) (by decide) (by decide) rfl (fun _ _ => rfl) (by decide) (by decide) (by decide) (by decide) (by decide) (by decide) (by decide) rfl rfl rfl rfl (by omega) (by omega) fun hp1 h => ?_
  refine i_nm (n := 127) (lM := 24) 22 7 24 hB h 135 23 134 5884 rfl (by decide) (by decide) (by decide) rfl (fun _ _ => rfl) (by decide) (by decide) (by decide) (by decide) (by decide) (by decide) (by decide) rfl rfl rfl rfl (by omega) (by omega) fun hp1 h => ?_
  refine i_nm (n := 135) (lM := 6) 23 7 6 hB h 143 24 142 5933 rfl (by decide) (by decide) (by decide) rfl (fun _ _ => rfl) (by decide) (by decide) (by decide) (by decide) (by decide) (by decide) (by decide) rfl rfl rfl rfl (by omega) (by omega) fun hp1 h => ?_
  refine i_nm (n := 143) (lM := 30) 24 7 30 hB h 151 25 150 6150 rfl (by decide) (by decide) (by decide) rfl (fun _ _ => rfl) (by decide) (by decide) (by decide) (by decide) (by decide) (by decide) (by decide) rfl rfl rfl rfl (by omega) (by omega) fun hp1 h => ?_
  refine i_nm (n := 151) (lM := 30) 25 7 30 hB h 159 26 158 6367 rfl (by decide) (by decide) (by decide) rfl (fun _ _ => rfl) (by decide) (by decide) (by decide) (by decide) (by decide) (by decide) (by decide) rfl rfl rfl rfl (by omega) (by omega) fun hp1 h => ?_
  refine i_na (n := 159) 27 4800 hB h 160 28 159 11167 rfl (by decide) rfl (by decide) (by decide) (by decide) (by decide) (by decide) rfl rfl rfl rfl (by omega) (by omega) fun hp1 h => ?_
  refine i_na (n := 160) 28 4800 hB h 161 29 160 15967 rfl (by decide) rfl (by decide) (by decide) (by decide) (by decide) (by decide) rfl rfl rfl rfl (by omega) (by omega) fun hp1 h => ?_
  refine i_na (n := 161) 29 4800 hB h 162 30 161 20767 rfl (by decide) rfl (by decide) (by decide) (by decide) (by decide) (by decide) rfl rfl rfl rfl (by omega) (by omega) fun hp1 h => ?_
  refine i_na (n := 162) 33 96 hB h 163 34 162 20863 rfl (by decide) rfl (by decide) (by decide) (by decide) (by decide) (by decide) rfl rfl rfl rfl (by omega) (by omega) fun hp1 h => ?_
  refine i_na (n := 163) 35 96 hB h 164 36 163 20959 rfl (by decide) rfl (by decide) (by decide) (by decide) (by decide) (by decide) rfl rfl rfl rfl (by omega) (by omega) fun hp1 h => ?_
  refine i_na (n := 164) 36 96 hB h 165 37 164 21055 rfl (by decide) rfl (by decide) (by decide) (by decide) (by decide) (by decide) rfl rfl rfl rfl (by omega) (by omega) fun hp1 h => ?_
  refine i_na (n := 165) 47 96 hB h 166 48 165 21151 rfl (by decide) rfl (by decide) (by decide) (by decide) (by decide) (by decide) rfl rfl rfl rfl (by omega) (by omega) fun hp1 h => ?_
  refine i_na (n := 166) 48 96 hB h 167 49 166 21247 rfl (by decide) rfl (by decide) (by decide) (by decide) (by decide) (by decide) rfl rfl rfl rfl (by omega) (by omega) fun hp1 h => ?_
  refine i_na (n := 167) 49 6 hB h 168 50 167 21253 rfl (by decide) rfl (by decide) (by decide) (by decide) (by decide) (by decide) rfl rfl rfl rfl (by omega) (by omega) fun hp1 h => ?_
  refine i_na (n := 168) 50 6 hB h 169 51 168 21259 rfl (by decide) rfl (by decide) (by decide) (by decide) (by decide) (by decide) rfl rfl rfl rfl (by omega) (by omega) fun hp1 h => ?_
  refine i_na (n := 169) 55 24 hB h 170 56 169 21283 rfl (by decide) rfl (by decide) (by decide) (by decide) (by decide) (by decide) rfl rfl rfl rfl (by omega) (by omega) fun hp1 h => ?_
  refine i_na (n := 170) 56 24 hB h 171 57 170 21307 rfl (by decide) rfl (by decide) (by decide) (by decide) (by decide) (by decide) rfl rfl rfl rfl (by omega) (by omega) fun hp1 h => ?_
  refine i_na (n := 171) 58 24 hB h 172 59 171 21331 rfl (by decide) rfl (by decide) (by decide) (by decide) (by decide) (by decide) rfl rfl rfl rfl (by omega) (by omega) fun hp1 h => ?_
  refine i_na (n := 172) 59 24 hB h 173 60 172 21355 rfl (by decide) rfl (by decide) (by decide) (by decide) (by decide) (by decide) rfl rfl rfl rfl (by omega) (by omega) fun hp1 h => ?_
  refine i_na (n := 173) 60 24 hB h 174 61 173 21379 rfl (by decide) rfl (by decide) (by decide) (by decide) (by decide) (by decide) rfl rfl rfl rfl (by omega) (by omega) fun hp1 h => ?_
  refine i_na (n := 174) 61 6 hB h 175 62 174 21385 rfl (by decide) rfl (by decide) (by decide) (by decide) (by decide) (by decide) rfl rfl rfl rfl (by omega) (by omega) fun hp1 h => ?_
  refine i_na (n := 175) 62 24 hB h 176 63 175 21409 rfl (by decide) rfl (by decide) (by decide) (by decide) (by decide) (by decide) rfl rfl rfl rfl (by omega) (by omega) fun hp1 h => ?_
  refine i_nm (n := 176) (lM := 96) 63 24 96 hB h 201 64 200 23737 rfl (by decide) (by decide) (by decide) rfl (fun _ _ => rfl) (by decide) (by decide) (by decide) (by decide) (by decide) (by decide) (by decide) rfl rfl rfl rfl (by omega) (by omega) fun hp1 h => ?_
  refine i_nm (n := 201) (lM := 96) 64 24 96 hB h 226 65 225 26065 rfl (by decide) (by decide) (by decide) rfl (fun _ _ => rfl) (by decide) (by decide) (by decide) (by decide) (by decide) (by decide) (by decide) rfl rfl rfl rfl (by omega) (by omega) fun hp1 h => ?_
  refine i_na (n := 226) 65 6 hB h 227 66 226 26071 rfl (by decide) rfl (by decide) (by decide) (by decide) (by decide) (by decide) rfl rfl rfl rfl (by omega) (by omega) fun hp1 h => ?_
  refine i_na (n := 227) 66 6 hB h 228 67 227 26077 rfl (by decide) rfl (by decide) (by decide) (by decide) (by decide) (by decide) rfl rfl rfl rfl (by omega) (by omega) fun hp1 h => ?_
  refine i_na (n := 228) 67 6 hB h 229 68 228 26083 rfl (by decide) rfl (by decide) (by decide) (by decide) (by decide) (by decide) rfl rfl rfl rfl (by omega) (by omega) fun hp1 h => ?_
  refine i_na (n := 229) 68 12 hB h 230 69 229 26095 rfl (by decide) rfl (by decide) (by decide) (by decide) (by decide) (by decide) rfl rfl rfl rfl (by omega) (by omega) fun hp1 h => ?_
  refine i_nm (n := 230) (lM := 8) 69 12 8 hB h 243 70 242 26203 rfl (by decide) (by decide) (by decide) rfl (fun _ _ => rfl) (by decide) (by decide) (by decide) (by decide) (by decide) (by decide) (by decide) rfl rfl rfl rfl (by omega) (by omega) fun hp1 h => ?_
  refine ⟨by decide, by decide, by omega, by rw [show (4 : Int32).toNatClampNeg = 4 by decide]; omega, fun _ _ => ?_⟩
  intro nx1 kc1 ks1 e1 e2 e3
  obtain rfl : nx1 = m0 + 244 := e1
  obtain rfl : kc1 = 243 := e2
  obtain rfl : ks1 = 26207 := e3.trans (by decide)
  refine i_four (f := fun _ => 0) rfl (by omega) 0 (by unfold vp_in; decide) ?_
  refine i_four (f := _) rfl (by omega) 1 (by unfold vp_in; decide) ?_
  refine i_four (f := _) rfl (by omega) 2 (by unfold vp_in; decide) ?_
  refine i_four (f := _) rfl (by omega) 3 (by unfold vp_in; decide) ?_
  refine i_put (a := 243) (k := 70) (i_cell (n := 243) h rfl) (by decide) (by decide) (by decide) (by decide) hB fun hp1 h => ?_
  refine i_na (n := 244) 71 4 hB h 245 72 244 26211 rfl (by decide) rfl (by decide) (by decide) (by decide) (by decide) (by decide) rfl rfl rfl rfl (by omega) (by omega) fun hp1 h => ?_
  refine i_nm (n := 245) (lM := 64) 72 4 64 hB h 250 73 249 26471 rfl (by decide) (by decide) (by decide) rfl (fun _ _ => rfl) (by decide) (by decide) (by decide) (by decide) (by decide) (by decide) (by decide) rfl rfl rfl rfl (by omega) (by omega) fun hp1 h => ?_
  refine i_nm (n := 250) (lM := 64) 73 4 64 hB h 255 74 254 26731 rfl (by decide) (by decide) (by decide) rfl (fun _ _ => rfl) (by decide) (by decide) (by decide) (by decide) (by decide) (by decide) (by decide) rfl rfl rfl rfl (by omega) (by omega) fun hp1 h => ?_
  refine i_na (n := 255) 74 64 hB h 256 75 255 26795 rfl (by decide) rfl (by decide) (by decide) (by decide) (by decide) (by decide) rfl rfl rfl rfl (by omega) (by omega) fun hp1 h => ?_
  refine i_na (n := 256) 75 64 hB h 257 76 256 26859 rfl (by decide) rfl (by decide) (by decide) (by decide) (by decide) (by decide) rfl rfl rfl rfl (by omega) (by omega) fun hp1 h => ?_
  exact ⟨hmc, hms, by rw [i_end h]; exact hK⟩
end IA
