set_option maxRecDepth 100000
/-! THE REFERENCE's contracts: a case -/
section T4
variable {l : Launch} {g : zG} {d m0 : Nat} {τ τ' τm τ2 : tS} {hp : zHp} {nx : Nat}
def tTell (l : Launch) (g : zG) (m0 : Nat) (hp : zHp) (nx : Nat) (rk : Nat → Nat) (n : Nat) : Prop := ∀ (d dp tp c : Nat) (τ : tS) (K : zHp → Nat → Prop), c < 24 → rk c < n → 4 * rk c + 8 ≤ d → tOK rk τ → dp + s_cn (fun t => rk (24 + t) < rk c) 6 ≤ 6 → τ.1 18 = nI dp → τ.1 26 = nI tp → tp + 96 * (rk c + 1) ≤ 4800 → tMem τ dp → (∀ τ', tfr dp tp τ τ' → τ'.1 26 = nI tp → tMem τ' dp → τ'.2.2.1 19 dp c ≠ 0 → K (tput g m0 τ' hp) nx) → zMt l g yX5_tell cX5_tell 3 none d 0 0 [.ref m0, .int (nI c)] (tput g m0 τ hp) nx (zQv g K)
theorem tly_some {t : Nat} {L : sL} (h : tWt τ) (ht : t < 6) (hL : tly τ t = some L) : τ.2.2.1 6 0 t ≠ 0 ∧ L.1 < 24 ∧ L.2.1 < 24 ∧ τ.2.2.1 7 0 t = nI L.1 ∧ τ.2.2.1 8 0 t = nI L.2.1 ∧ (1 ≤ L.2.2.2.1.length ∧ L.2.2.2.1.length ≤ 8 ∧ τ.2.2.1 10 0 (2 * t) = nI L.2.2.2.1.length) ∧ L.2.2.2.1 = tax τ (2 * t) ∧ ((τ.2.2.1 9 0 t = -1 ∧ L.2.2.1 = none ∧ L.2.2.2.2 = [] ∧ s_my L = 1) ∨ ∃ b, b < 24 ∧ b ≠ L.2.1 ∧ 1 ≤ s_my L ∧ s_my L ≤ 8 ∧ τ.2.2.1 9 0 t = nI b ∧ τ.2.2.1 9 0 t ≠ -1 ∧ τ.2.2.1 10 0 (2 * t + 1) = nI (s_my L) ∧ L.2.2.1 = some b ∧ L.2.2.2.2 = tax τ (2 * t + 1)) := by
  unfold tly at hL
  by_cases h6 : τ.2.2.1 6 0 t = 0
  · rw [if_pos h6] at hL; cases hL
  · rw [if_neg h6] at hL
    cases hL
    obtain ⟨o, a, n, ho, ha, hn1, hn8, e7, e8, e10, hot⟩ := h t ht h6
    have c7 : (τ.2.2.1 7 0 t).toNatClampNeg = o := by rw [e7]; exact nI_clamp (by omega)
    have c8 : (τ.2.2.1 8 0 t).toNatClampNeg = a := by rw [e8]; exact nI_clamp (by omega)
    have len := tax_len e10 hn8
    refine ⟨h6, by rw [c7]; exact ho, by rw [c8]; exact ha, by rw [c7]; exact e7, by rw [c8]; exact e8, ⟨by simp only [len]; exact hn1, by simp only [len]; exact hn8, by simp only [len]; exact e10⟩, rfl, ?_⟩
    rcases hot with h9 | ⟨b, m, hb, hba, hm1, hm8, e9, e11⟩
    · left
      simp only [h9, if_true, s_my]
      exact ⟨trivial, trivial, trivial, trivial⟩
    · right
      have hne : τ.2.2.1 9 0 t ≠ -1 := by
        rw [e9]
        intro h
        have := congrArg Int32.toInt h
        rw [nI_toInt (by omega)] at this
        have h2 : (-1 : Int32).toInt = -1 := by decide
        omega
      have c9 : (τ.2.2.1 9 0 t).toNatClampNeg = b := by rw [e9]; exact nI_clamp (by omega)
      have len2 := tax_len e11 hm8
      have my : s_my ((τ.2.2.1 7 0 t).toNatClampNeg, (τ.2.2.1 8 0 t).toNatClampNeg, if τ.2.2.1 9 0 t = -1 then none else some (τ.2.2.1 9 0 t).toNatClampNeg, tax τ (2 * t), if τ.2.2.1 9 0 t = -1 then [] else tax τ (2 * t + 1)) = m := by
        unfold s_my
        simp only [if_neg hne, reduceCtorEq, if_false, len2]
      rw [my]
      refine ⟨b, hb, by simp only [c8]; exact hba, hm1, hm8, e9, hne, e11, ?_, ?_⟩
      · simp only [if_neg hne, c9]
      · simp only [if_neg hne]
theorem vp_nb {x : Int32} (h : x = 0 ∨ x = 1) : vp_nar .boolean x = x := by rcases h with rfl | rfl <;> decide
/-- what was bound is given back -/
theorem t_rest {dp tp a o : Nat} {v : UInt64} {e b : Int32} (h18 : τ.1 18 = nI dp) (hm1 : ∀ k, k ≠ 18 → τm.1 k = τ.1 k) (hm2 : τm.2.1 = τ.2.1) (hm3 : ∀ k i j, ¬ (k = 1 ∧ i = 0) → τm.2.2.1 k i j = τ.2.2.1 k i j) (hm4 : ∀ k i j, ¬ (k = 2 ∧ i = 0) → τm.2.2.2 k i j = τ.2.2.2 k i j) (hG : ∀ x, x ≠ a → x ≠ o → τm.2.2.1 1 0 x = τ.2.2.1 1 0 x) (hN : ∀ x, x ≠ a → x ≠ o → τm.2.2.2 2 0 x = τ.2.2.2 2 0 x) (hf : tfr (dp + 1) tp τm τ2) :
    tfr (dp + 1) tp τ (taI (taD (taI (taD (tsI (tsI (tsI (tsD τ2 30 v) 31 e) 32 b) 18 (nI dp)) 2 0 (va_up (τ2.2.2.2 2 0) o (τ.2.2.2 2 0 o))) 1 0 (va_up (τ2.2.2.1 1 0) o (τ.2.2.1 1 0 o))) 2 0 (va_up (va_up (τ2.2.2.2 2 0) o (τ.2.2.2 2 0 o)) a (τ.2.2.2 2 0 a))) 1 0 (va_up (va_up (τ2.2.2.1 1 0) o (τ.2.2.1 1 0 o)) a (τ.2.2.1 1 0 a))) := by
  refine ⟨fun k k1 k2 k3 => ?_, fun k k1 => ?_, fun k i j h1 h2 => ?_, fun k i j h1 h2 => ?_⟩
  · simp only [tq8, tqe]
    by_cases hk : k = 18
    · subst hk; rw [tq1, h18]
    · rw [tq2 hk, tq2 k3, tq2 k2, tq4, hf.1 k k1 k2 k3, hm1 k hk]
  · simp only [tq9, tqf, tq3, tq6 k1]
    rw [hf.2.1 k k1, hm2]
  · by_cases hk : k = 1
    · subst hk
      by_cases hi : i = 0
      · subst hi
        rw [tqa]
        by_cases ha : j = a
        · subst ha; rw [va_s]
        · rw [va_o ha]
          by_cases ho : j = o
          · subst ho; rw [va_s]
          · rw [va_o ho, hf.2.2.1 1 0 j (by omega) (by omega), hG j ha ho]
      · rw [tqb hi, tqg, tqb hi, tqg]
        simp only [tq3, tq7]
        rw [hf.2.2.1 1 i j (by omega) (by omega), hm3 1 i j (by omega)]
    · rw [tqc hk, tqg, tqc hk, tqg]
      simp only [tq3, tq7]
      rw [hf.2.2.1 k i j h1 h2, hm3 k i j (by omega)]
  · simp only [tqd]
    by_cases hk : k = 2
    · subst hk
      by_cases hi : i = 0
      · subst hi
        rw [tqh]
        by_cases ha : j = a
        · subst ha; rw [va_s]
        · rw [va_o ha]
          by_cases ho : j = o
          · subst ho; rw [va_s]
          · rw [va_o ho, hf.2.2.2 2 0 j (by omega) (by omega), hN j ha ho]
      · rw [tqi hi, tqd, tqi hi]
        simp only [tq3, tq7]
        rw [hf.2.2.2 2 i j (by omega) (by omega), hm4 2 i j (by omega)]
    · rw [tqj hk, tqd, tqj hk]
      simp only [tq3, tq7]
      rw [hf.2.2.2 k i j h1 h2, hm4 k i j (by omega)]
/-- a state with what varies bound -/
theorem tOK.bound {rk : Nat → Nat} {t i j : Nat} {L : sL} (hO : tOK rk τ) (ht : t < 6) (hL : tly τ t = some L) (hm3 : ∀ k i j, ¬ (k = 1 ∧ i = 0) → τm.2.2.1 k i j = τ.2.2.1 k i j) (hm4 : ∀ k i j, ¬ (k = 2 ∧ i = 0) → τm.2.2.2 k i j = τ.2.2.2 k i j) (how : tow τm = s_bi L (tow τ) i j) (hbo : ∀ c, c < 24 → τm.2.2.1 1 0 c = 0 ∨ τm.2.2.1 1 0 c = 1) : tOK rk τm ∧ tfm τm = tfm τ ∧ tly τm = tly τ ∧ tkd τm = tkd τ := by
  have q : ∀ k, k ≠ 1 → τm.2.2.1 k = τ.2.2.1 k := fun k hk => funext fun i => funext fun j => hm3 k i j (fun h => hk h.1)
  have r : ∀ k, k ≠ 2 → τm.2.2.2 k = τ.2.2.2 k := fun k hk => funext fun i => funext fun j => hm4 k i j (fun h => hk h.1)
  have efm : tfm τm = tfm τ := by
    funext c
    unfold tfm
    rw [q 3 (by decide)]
    congr 1
    funext k
    unfold tmk
    rw [q 4 (by decide), r 5 (by decide)]
  have eax : tax τm = tax τ := by funext a; unfold tax; rw [q 10 (by decide), r 11 (by decide)]
  have ely : tly τm = tly τ := by
    funext t
    unfold tly
    rw [q 6 (by decide), q 7 (by decide), q 8 (by decide), q 9 (by decide), eax]
  have ekd : tkd τm = tkd τ := by unfold tkd; rw [q 0 (by decide)]
  obtain ⟨h1, h2, h3, h4, h5, h6, h7, h8⟩ := hO
  refine ⟨⟨?_, ?_, by rw [efm, ely]; exact h3, h4, by rw [efm]; exact h5, by rw [ely]; exact h6, ?_, hbo, ?_⟩, efm, ely, ekd⟩
  · unfold tWc
    rw [efm, q 3 (by decide), q 4 (by decide)]
    exact h1
  · unfold tWt
    rw [q 6 (by decide), q 7 (by decide), q 8 (by decide), q 9 (by decide), q 10 (by decide)]
    exact h2
  · rw [how]
    exact s_bi_B h7 (h6 t ht L hL).1 (h6 t ht L hL).2.1
  · rw [q 6 (by decide)]
    exact h8.2
theorem t_tellCase {rk : Nat → Nat} {t i j dp tp n : Nat} {L : sL} {K : zHp → Nat → Prop} (ih : tTell l g m0 hp nx rk n) (hB : zB g ≤ m0) (hO : tOK rk τ) (ht : t < 6) (hL : tly τ t = some L) (hrk : rk L.1 < n) (hd : 4 * rk L.1 + 9 ≤ d) (hdp : dp + 1 + s_cn (fun t => rk (24 + t) < rk L.1) 6 ≤ 6) (h18 : τ.1 18 = nI dp) (h26 : τ.1 26 = nI tp) (htp : tp + 96 * (rk L.1 + 1) ≤ 4800) (hi : i < L.2.2.2.1.length) (hj : j < s_my L)
    (hK : ∀ τ', tfr (dp + 1) tp τ τ' → τ'.1 26 = nI tp → (τ'.2.1 30, τ'.1 31, τ'.1 32) = s_EV (tfm τ) (tly τ) (tkd τ) (s_bi L (tow τ) i j) L.1 → K (tput g m0 τ' hp) nx) : zMt l g yX5_tellCase cX5_tellCase 12 none d 0 0 [.ref m0, .int (nI t), .int (nI i), .int (nI j)] (tput g m0 τ hp) nx (zQv g K) := by
  obtain ⟨d, rfl⟩ := Nat.exists_eq_add_of_le' (show 1 ≤ d by omega)
  apply met_X5_tellCase
  unfold wp_X5_tellCase
  obtain ⟨h6, lo, la, e7, e8, ⟨hn1, hn8, e10⟩, eax, hot⟩ := tly_some hO.2.1 ht hL
  have ct : (nI t).toNatClampNeg = t := nI_clamp (by omega)
  have it : vp_in (nI t) 6 := vp_in_nI ht (by decide)
  have e2 : (2 : Int32) * nI t = nI (2 * t) := pk_mul 2 t
  have e21 : nI (2 * t) + 1 = nI (2 * t + 1) := nI_1 _
  have c2 : (nI (2 * t)).toNatClampNeg = 2 * t := nI_clamp (by omega)
  have c21 : (nI (2 * t + 1)).toNatClampNeg = 2 * t + 1 := nI_clamp (by omega)
  have i2 : vp_in (nI (2 * t)) 12 := vp_in_nI (by omega) (by decide)
  have i21 : vp_in (nI (2 * t + 1)) 12 := vp_in_nI (by omega) (by decide)
  have l2 : 2 * t < 12 := by omega
  have l21 : 2 * t + 1 < 12 := by omega
  have ci : (nI i).toNatClampNeg = i := nI_clamp (by omega)
  have ii : vp_in (nI i) 8 := vp_in_nI (by omega) (by decide)
  have ca : (nI L.2.1).toNatClampNeg = L.2.1 := nI_clamp (by omega)
  have ia : vp_in (nI L.2.1) 24 := vp_in_nI la (by decide)
  have co : (nI L.1).toNatClampNeg = L.1 := nI_clamp (by omega)
  have io : vp_in (nI L.1) 24 := vp_in_nI lo (by decide)
  have hB2 : ∀ n, zB g ≤ m0 + n := fun n => by omega
  have hB3 : ∀ a b n, zB g ≤ m0 + a + b + n := fun a b n => by omega
  have n1 : vp_nar .boolean 1 = 1 := by decide
  have cd : (nI (dp + 1)).toNatClampNeg = dp + 1 := nI_clamp (by omega)
  have ed : nI dp + 1 = nI (dp + 1) := nI_1 dp
  have ed2 : nI (dp + 1) - 1 = nI dp := nI_pred dp
  have id : vp_in (nI (dp + 1)) 7 := vp_in_nI (by omega) (by decide)
  have ld : dp + 1 < 7 := by omega
  have bo : ∀ c, c < 24 → vp_nar .boolean (τ.2.2.1 1 0 c) = τ.2.2.1 1 0 c := fun c hc => vp_nb (hO.2.2.2.2.2.2.2.1 c hc)
  have axi : (L.2.2.2.1).getD i 0 = τ.2.2.2 11 (2 * t) i := by rw [eax]; exact tax_get e10 hn8 hi
  -- the rest, for either kind of table
  have rest : ∀ (o : Nat) (τm : tS), o < 24 → (∀ k, k ≠ 18 → τm.1 k = τ.1 k) → τm.1 18 = nI (dp + 1) → τm.2.1 = τ.2.1 → (∀ k i j, ¬ (k = 1 ∧ i = 0) → τm.2.2.1 k i j = τ.2.2.1 k i j) → (∀ k i j, ¬ (k = 2 ∧ i = 0) → τm.2.2.2 k i j = τ.2.2.2 k i j) → (∀ x, x ≠ L.2.1 → x ≠ o → τm.2.2.1 1 0 x = τ.2.2.1 1 0 x) → (∀ x, x ≠ L.2.1 → x ≠ o → τm.2.2.2 2 0 x = τ.2.2.2 2 0 x) → tow τm = s_bi L (tow τ) i j → (∀ c, c < 24 → τm.2.2.1 1 0 c = 0 ∨ τm.2.2.1 1 0 c = 1) →
      zMt l g yX5_afresh cX5_afresh 2 none d 0 0 [.ref m0] (tput g m0 τm hp) nx (zQv g fun hp_105 nx_106 =>
        zgR hp_105 (some m0) [5] 7 fun r_110 => zaI (g.2.1 0) hp_105 r_110 fun a_111 n_112 f_113 => vp_in (nI t) n_112 ∧ ∀ x_114 : Int32, x_114 = f_113 (nI t).toNatClampNeg →
        zo hp_105 (some m0) [5] fun a_241 ci_242 fs_243 => zMt l g yX5_tell cX5_tell 3 none d 0 0 (.ref a_241 :: [.int x_114]) hp_105 nx_106 (zQv g fun hp_115 nx_116 =>
        zgR hp_115 (some m0) [5] 20 fun r_120 => zgI hp_115 (some m0) [5] 18 fun x_124 => zaR (g.2.1 15) hp_115 r_120 fun a_125 n_126 f_127 => vp_in x_124 n_126 ∧ ∀ r_128 : Option Nat, r_128 = f_127 x_124.toNatClampNeg →
        zgR hp_115 (some m0) [5] 7 fun r_132 => zaI (g.2.1 0) hp_115 r_132 fun a_133 n_134 f_135 => vp_in (nI t) n_134 ∧ ∀ x_136 : Int32, x_136 = f_135 (nI t).toNatClampNeg →
        zaD (g.2.1 1) hp_115 r_128 fun a_137 n_138 f_139 => vp_in x_136 n_138 ∧ ∀ x_140 : UInt64, x_140 = f_139 x_136.toNatClampNeg →
        zpt g hp_115 (some m0) [5] 30 (.double x_140) fun hp_144 =>
        zgR hp_144 (some m0) [5] 21 fun r_148 => zgI hp_144 (some m0) [5] 18 fun x_152 => zaR (g.2.1 14) hp_144 r_148 fun a_153 n_154 f_155 => vp_in x_152 n_154 ∧ ∀ r_156 : Option Nat, r_156 = f_155 x_152.toNatClampNeg →
        zgR hp_144 (some m0) [5] 7 fun r_160 => zaI (g.2.1 0) hp_144 r_160 fun a_161 n_162 f_163 => vp_in (nI t) n_162 ∧ ∀ x_164 : Int32, x_164 = f_163 (nI t).toNatClampNeg →
        zaI (g.2.1 0) hp_144 r_156 fun a_165 n_166 f_167 => vp_in x_164 n_166 ∧ ∀ x_168 : Int32, x_168 = f_167 x_164.toNatClampNeg →
        zpt g hp_144 (some m0) [5] 31 (.int x_168) fun hp_172 =>
        zgR hp_172 (some m0) [5] 22 fun r_176 => zgI hp_172 (some m0) [5] 18 fun x_180 => zaR (g.2.1 14) hp_172 r_176 fun a_181 n_182 f_183 => vp_in x_180 n_182 ∧ ∀ r_184 : Option Nat, r_184 = f_183 x_180.toNatClampNeg →
        zgR hp_172 (some m0) [5] 7 fun r_188 => zaI (g.2.1 0) hp_172 r_188 fun a_189 n_190 f_191 => vp_in (nI t) n_190 ∧ ∀ x_192 : Int32, x_192 = f_191 (nI t).toNatClampNeg →
        zaI (g.2.1 0) hp_172 r_184 fun a_193 n_194 f_195 => vp_in x_192 n_194 ∧ ∀ x_196 : Int32, x_196 = f_195 x_192.toNatClampNeg →
        zpt g hp_172 (some m0) [5] 32 (.int x_196) fun hp_200 =>
        zgI hp_200 (some m0) [5] 18 fun x_204 => zpt g hp_200 (some m0) [5] 18 (.int (x_204 - (1 : Int32))) fun hp_208 =>
        zgR hp_208 (some m0) [5] 2 fun r_212 => zaD (g.2.1 1) hp_208 r_212 fun a_213 n_214 f_215 => vp_in (nI o) n_214 ∧ zB g ≤ a_213 ∧ ∀ hp_216 : zHp, hp_216 = va_up hp_208 a_213 (some (.inl (g.2.1 1, n_214, .inr (.inr (.inr (.inl (va_up f_215 (nI o).toNatClampNeg (τ.2.2.2 2 0 o)))))))) →
        zgR hp_216 (some m0) [5] 1 fun r_220 => zaI (g.2.1 3) hp_216 r_220 fun a_221 n_222 f_223 => vp_in (nI o) n_222 ∧ zB g ≤ a_221 ∧ ∀ hp_224 : zHp, hp_224 = va_up hp_216 a_221 (some (.inl (g.2.1 3, n_222, .inl (va_up f_223 (nI o).toNatClampNeg (vp_nar .boolean (τ.2.2.1 1 0 o)))))) →
        zgR hp_224 (some m0) [5] 2 fun r_228 => zaD (g.2.1 1) hp_224 r_228 fun a_229 n_230 f_231 => vp_in (nI L.2.1) n_230 ∧ zB g ≤ a_229 ∧ ∀ hp_232 : zHp, hp_232 = va_up hp_224 a_229 (some (.inl (g.2.1 1, n_230, .inr (.inr (.inr (.inl (va_up f_231 (nI L.2.1).toNatClampNeg (τ.2.2.2 2 0 L.2.1)))))))) →
        zgR hp_232 (some m0) [5] 1 fun r_236 => zaI (g.2.1 3) hp_232 r_236 fun a_237 n_238 f_239 => vp_in (nI L.2.1) n_238 ∧ zB g ≤ a_237 ∧ ∀ hp_240 : zHp, hp_240 = va_up hp_232 a_237 (some (.inl (g.2.1 3, n_238, .inl (va_up f_239 (nI L.2.1).toNatClampNeg (vp_nar .boolean (τ.2.2.1 1 0 L.2.1)))))) →
        K hp_240 nx_116)) := by
    intro o τm ho m1 m1' m2 m3 m4 mG mN mow mbo
    have cO : (nI o).toNatClampNeg = o := nI_clamp (by omega)
    have iO : vp_in (nI o) 24 := vp_in_nI ho (by decide)
    obtain ⟨OKm, efm, ely, ekd⟩ := hO.bound ht hL m3 m4 mow mbo
    refine t_afresh (dp := dp + 1) (tp := tp) (by omega) hB m1' ld fun τ1 f1 q1 q19 q23 => ?_
    have OK1 := OKm.pe f1.pe
    have m7 : τ1.2.2.1 7 0 t = nI L.1 := by rw [f1.I 7 (by decide), m3 7 0 t (by omega)]; exact e7
    simp only [tg_outputs, ta_outputs, tu_outputs, ct, it, true_implies, false_implies, implies_true, and_true, true_and, forall_eq, m7, tw_zo]
    refine ih _ (dp + 1) tp L.1 τ1 _ lo hrk (by omega) OK1 hdp (by rw [q1]; exact m1') (by rw [q1, m1 26 (by decide)]; exact h26) htp ⟨fun c hc h => absurd (q19 c hc) h, fun u hu h => absurd (q23 u hu) h⟩ fun τ2 f2 q26 qm qt => ?_
    have f3 := f1.tr f2
    have k7 : τ2.2.2.1 7 0 t = nI L.1 := by rw [f3.I 7 (by decide), m3 7 0 t (by omega)]; exact e7
    have k18 : τ2.1 18 = nI (dp + 1) := by rw [f3.1 18 (by decide) (by decide) (by decide)]; exact m1'
    have val := qm.1 L.1 lo qt
    have eEV : tEV τ2 L.1 = s_EV (tfm τ) (tly τ) (tkd τ) (s_bi L (tow τ) i j) L.1 := by
      rw [f3.pe.EV]
      unfold tEV
      rw [efm, ely, ekd, mow]
    rw [eEV] at val
    simp only [tg_outputs, ta_outputs, tu_outputs, tg_values, ta_values, tg_errors, ta_errors, tg_blames, ta_blames, tg_deep, tp_deep, tg_caseValue, tp_caseValue, tg_caseError, tp_caseError, tg_caseBlame, tp_caseBlame, tg_numbers, ta_numbers, tu_numbers, tg_given, ta_given, tu_given, ct, it, true_implies, false_implies, implies_true, and_true, true_and, forall_eq, k7, k18, cd, id, ed2, co, io, tb_values ld, tv_values ld, tb_errors ld, tv_errors ld, tb_blames ld, tv_blames ld, hB, hB2, hB3, cO, iO, ca, ia, bo o ho, bo L.2.1 la, tq2, tq1, tq3, tq4, tq5, tq7, tq8, tq9, tqa, tqc, tqd, tqe, tqf, tqg, tqh, tqj, va_s, ne_eq, reduceCtorEq, not_false_eq_true, not_true_eq_false, if_true, if_false, Nat.reduceEqDiff]
    refine hK _ (t_rest h18 m1 m2 m3 m4 mG mN f3) ?_ ?_
    · simp only [tq1, tq3, tq4, tq5, tq7, tq8, tq9, tqa, tqc, tqd, tqe, tqf, tqg, tqh, tqj, va_s, ne_eq, reduceCtorEq, not_false_eq_true, not_true_eq_false, if_true, if_false, Nat.reduceEqDiff, tq2]
      exact q26
    · simp only [tq1, tq3, tq4, tq5, tq7, tq8, tq9, tqa, tqc, tqd, tqe, tqf, tqg, tqh, tqj, va_s, ne_eq, reduceCtorEq, not_false_eq_true, not_true_eq_false, if_true, if_false, Nat.reduceEqDiff, tq2]
      rw [val.1, val.2.1, val.2.2]
  rcases hot with ⟨h9, n9, b9, my⟩ | ⟨b, hb, hba, my1, my8, h9, n9, e11, s9, eb⟩
  · simp only [tg_ones, ta_ones, tu_ones, tg_others, ta_others, tu_others, ct, it, true_implies, false_implies, implies_true, and_true, true_and, forall_eq, e8, h9, tq1, tq3, tq4, tq5, tq7, tq8, tq9, tqa, tqc, tqd, tqe, tqf, tqg, tqh, tqj, va_s, ne_eq, reduceCtorEq, not_false_eq_true, not_true_eq_false, if_true, if_false, Nat.reduceEqDiff]
    refine ⟨_, fun _ _ _ _ h => h, ?_⟩
    simp only [tg_numbers, ta_numbers, tu_numbers, tg_given, ta_given, tu_given, tg_others, ta_others, tu_others, ct, it, true_implies, false_implies, implies_true, and_true, true_and, forall_eq, ca, ia, h9, tq1, tq3, tq4, tq5, tq7, tq8, tq9, tqa, tqc, tqd, tqe, tqf, tqg, tqh, tqj, va_s, ne_eq, reduceCtorEq, not_false_eq_true, not_true_eq_false, if_true, if_false, Nat.reduceEqDiff]
    refine ⟨_, fun _ _ _ _ _ _ _ _ h => h, ?_⟩
    simp only [tg_numbers, ta_numbers, tu_numbers, tg_given, ta_given, tu_given, tg_axes, ta_axes, tg_deep, tp_deep, e2, c2, i2, tb_axes l2, tv_axes l2, ci, ii, ca, ia, n1, h18, ed, hB, hB2, true_implies, false_implies, implies_true, and_true, true_and, forall_eq, tw_zo, tq1, tq3, tq4, tq5, tq7, tq8, tq9, tqa, tqc, tqd, tqe, tqf, tqg, tqh, tqj, va_s, ne_eq, reduceCtorEq, not_false_eq_true, not_true_eq_false, if_true, if_false, Nat.reduceEqDiff]
    have rest := rest L.2.1 (tsI (taI (taD τ 2 0 (va_up (τ.2.2.2 2 0) L.2.1 (τ.2.2.2 11 (2 * t) i))) 1 0 (va_up (τ.2.2.1 1 0) L.2.1 1)) 18 (nI (dp + 1))) la (fun k hk => tq2 hk) tq1 rfl
      (fun k i' j' h => by
        simp only [tq3]
        by_cases hk : k = 1
        · subst hk; rw [tqb (by omega)]; rfl
        · rw [tqc hk]; rfl)
      (fun k i' j' h => by
        simp only [tq3, tqd]
        by_cases hk : k = 2
        · subst hk; rw [tqi (by omega)]
        · rw [tqj hk])
      (fun x hx _ => by simp only [tq1, tq3, tq4, tq5, tq7, tq8, tq9, tqa, tqc, tqd, tqe, tqf, tqg, tqh, tqj, va_s, ne_eq, reduceCtorEq, not_false_eq_true, not_true_eq_false, if_true, if_false, Nat.reduceEqDiff]; exact va_o hx) (fun x hx _ => by simp only [tq1, tq3, tq4, tq5, tq7, tq8, tq9, tqa, tqc, tqd, tqe, tqf, tqg, tqh, tqj, va_s, ne_eq, reduceCtorEq, not_false_eq_true, not_true_eq_false, if_true, if_false, Nat.reduceEqDiff]; exact va_o hx)
      (by
        funext x
        unfold tow s_bi
        simp only [tq1, tq3, tq4, tq5, tq7, tq8, tq9, tqa, tqc, tqd, tqe, tqf, tqg, tqh, tqj, va_s, ne_eq, reduceCtorEq, not_false_eq_true, not_true_eq_false, if_true, if_false, Nat.reduceEqDiff]
        by_cases hx : x = L.2.1
        · subst hx; simp only [va_s, if_true]; rw [axi]; rfl
        · simp only [va_o hx, if_neg hx, n9, reduceCtorEq, if_false])
      (fun c hc => by
        simp only [tq1, tq3, tq4, tq5, tq7, tq8, tq9, tqa, tqc, tqd, tqe, tqf, tqg, tqh, tqj, va_s, ne_eq, reduceCtorEq, not_false_eq_true, not_true_eq_false, if_true, if_false, Nat.reduceEqDiff]
        by_cases hx : c = L.2.1
        · rw [hx, va_s]; exact Or.inr rfl
        · rw [va_o hx]; exact hO.2.2.2.2.2.2.2.1 c hc)
    simp only [ct, ca, forall_eq] at rest
    exact rest
  · have cb : (nI b).toNatClampNeg = b := nI_clamp (by omega)
    have ib : vp_in (nI b) 24 := vp_in_nI hb (by decide)
    have cj : (nI j).toNatClampNeg = j := nI_clamp (by omega)
    have ij : vp_in (nI j) 8 := vp_in_nI (by omega) (by decide)
    have n9' : ¬ nI b = -1 := fun h => n9 (h9.trans h)
    have axj : (L.2.2.2.2).getD j 0 = τ.2.2.2 11 (2 * t + 1) j := by rw [eb]; exact tax_get e11 my8 hj
    simp only [tg_ones, ta_ones, tu_ones, tg_others, ta_others, tu_others, ct, it, true_implies, false_implies, implies_true, and_true, true_and, forall_eq, e8, h9, n9', tq1, tq3, tq4, tq5, tq7, tq8, tq9, tqa, tqc, tqd, tqe, tqf, tqg, tqh, tqj, va_s, ne_eq, reduceCtorEq, not_false_eq_true, not_true_eq_false, if_true, if_false, Nat.reduceEqDiff]
    refine ⟨_, fun _ _ _ _ h => h, ?_⟩
    simp only [tg_numbers, ta_numbers, tu_numbers, tg_given, ta_given, tu_given, tg_others, ta_others, tu_others, ct, it, true_implies, false_implies, implies_true, and_true, true_and, forall_eq, ca, ia, cb, ib, h9, n9', tq1, tq3, tq4, tq5, tq7, tq8, tq9, tqa, tqc, tqd, tqe, tqf, tqg, tqh, tqj, va_s, ne_eq, reduceCtorEq, not_false_eq_true, not_true_eq_false, if_true, if_false, Nat.reduceEqDiff]
    refine ⟨_, fun _ _ _ _ _ _ _ _ h => h, ?_⟩
    simp only [tg_numbers, ta_numbers, tu_numbers, tg_given, ta_given, tu_given, tg_axes, ta_axes, tg_deep, tp_deep, e2, e21, c2, c21, i2, i21, tb_axes l2, tv_axes l2, tb_axes l21, tv_axes l21, ci, ii, cj, ij, ca, ia, cb, ib, n1, h18, ed, hB, hB2, true_implies, false_implies, implies_true, and_true, true_and, forall_eq, tw_zo, tq1, tq3, tq4, tq5, tq7, tq8, tq9, tqa, tqc, tqd, tqe, tqf, tqg, tqh, tqj, va_s, ne_eq, reduceCtorEq, not_false_eq_true, not_true_eq_false, if_true, if_false, Nat.reduceEqDiff]
    have rest := rest b (tsI (taI (taD (taI (taD τ 2 0 (va_up (τ.2.2.2 2 0) b (τ.2.2.2 11 (2 * t + 1) j))) 1 0 (va_up (τ.2.2.1 1 0) b 1)) 2 0 (va_up (va_up (τ.2.2.2 2 0) b (τ.2.2.2 11 (2 * t + 1) j)) L.2.1 (τ.2.2.2 11 (2 * t) i))) 1 0 (va_up (va_up (τ.2.2.1 1 0) b 1) L.2.1 1)) 18 (nI (dp + 1))) hb (fun k hk => tq2 hk) tq1 rfl
      (fun k i' j' h => by
        simp only [tq3]
        by_cases hk : k = 1
        · subst hk; rw [tqb (by omega), tqg, tqb (by omega)]; rfl
        · rw [tqc hk, tqg, tqc hk]; rfl)
      (fun k i' j' h => by
        simp only [tq3, tqd]
        by_cases hk : k = 2
        · subst hk; rw [tqi (by omega), tqd, tqi (by omega)]
        · rw [tqj hk, tqd, tqj hk])
      (fun x hx hx2 => by simp only [tq1, tq3, tq4, tq5, tq7, tq8, tq9, tqa, tqc, tqd, tqe, tqf, tqg, tqh, tqj, va_s, ne_eq, reduceCtorEq, not_false_eq_true, not_true_eq_false, if_true, if_false, Nat.reduceEqDiff]; rw [va_o hx, va_o hx2]) (fun x hx hx2 => by simp only [tq1, tq3, tq4, tq5, tq7, tq8, tq9, tqa, tqc, tqd, tqe, tqf, tqg, tqh, tqj, va_s, ne_eq, reduceCtorEq, not_false_eq_true, not_true_eq_false, if_true, if_false, Nat.reduceEqDiff]; rw [va_o hx, va_o hx2])
      (by
        funext x
        unfold tow s_bi
        simp only [tq1, tq3, tq4, tq5, tq7, tq8, tq9, tqa, tqc, tqd, tqe, tqf, tqg, tqh, tqj, va_s, ne_eq, reduceCtorEq, not_false_eq_true, not_true_eq_false, if_true, if_false, Nat.reduceEqDiff]
        by_cases hx : x = L.2.1
        · subst hx; simp only [va_s, if_true]; rw [axi]; rfl
        · simp only [va_o hx, if_neg hx, s9]
          by_cases hx2 : x = b
          · subst hx2; simp only [va_s, if_true]; rw [axj]; rfl
          · simp only [va_o hx2]
            rw [if_neg (fun h => hx2 (Option.some.inj h).symm)])
      (fun c hc => by
        simp only [tq1, tq3, tq4, tq5, tq7, tq8, tq9, tqa, tqc, tqd, tqe, tqf, tqg, tqh, tqj, va_s, ne_eq, reduceCtorEq, not_false_eq_true, not_true_eq_false, if_true, if_false, Nat.reduceEqDiff]
        by_cases hx : c = L.2.1
        · rw [hx, va_s]; exact Or.inr rfl
        · rw [va_o hx]
          by_cases hx2 : c = b
          · rw [hx2, va_s]; exact Or.inr rfl
          · rw [va_o hx2]; exact hO.2.2.2.2.2.2.2.1 c hc)
    simp only [ct, ca, cb, forall_eq] at rest
    exact rest
end T4
