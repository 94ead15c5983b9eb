set_option maxRecDepth 100000
/-! what varies is kept: the numbers as they are kept, the first alike of each -/
section KP
variable {l : Launch} {g : zG} {d x0 : Nat} {hp : zHp} {nx : Nat}
/-- the first alike -/
def cFst (kp : Nat → UInt64) (j i : Nat) : Prop := i ≤ j ∧ s_eq (kp i) (kp j) ∧ ∀ q, q < i → ¬ s_eq (kp q) (kp j)
theorem cFst_u {kp : Nat → UInt64} {j i i' : Nat} (h : cFst kp j i) (h' : cFst kp j i') : i = i' := by
  rcases Nat.lt_trichotomy i i' with q | q | q
  · exact absurd h.2.1 (h'.2.2 i q)
  · exact q
  · exact absurd h'.2.1 (h.2.2 i' q)
/-- a heap with two arrays that change -/
def cHh (g : zG) (H : (Nat → UInt64) → (Nat → Int32) → zHp) (b e : Nat) : Prop := zB g ≤ b ∧ zB g ≤ e ∧ (∀ f h, H f h b = some (.inl (g.2.1 1, 8, .inr (.inr (.inr (.inl f)))))) ∧ (∀ f h, H f h e = some (.inl (g.2.1 2, 8, .inl h))) ∧ (∀ f h f', va_up (H f h) b (some (.inl (g.2.1 1, 8, .inr (.inr (.inr (.inl f')))))) = H f' h) ∧ (∀ f h h', va_up (H f h) e (some (.inl (g.2.1 2, 8, .inl h'))) = H f h')
theorem hz_aI {K : Nat → Nat → (Nat → Int32) → Prop} {n t : Nat} {f : Nat → Int32} {a : Nat} (h : hp a = some (.inl (g.2.1 t, n, .inl f))) : zaI (g.2.1 t) hp (some a) K = K a n f := by
  unfold zaI; simp only [h, true_and]
theorem hz_ln {K : Int32 → Prop} {t : Nat} {x : vp_A} {a : Nat} (h : hp a = some (.inl (g.2.1 t, x))) : zln (g.2.1 t) hp (some a) K = K (Int32.ofNat x.1) := by
  unfold zln; simp only [h, true_and]
/-- the size of an axis, over any heap -/
theorem c_sizeH {a b n : Nat} {i : Value} {x : (Nat → Int32) ⊕ (Nat → Int64) ⊕ (Nat → UInt32) ⊕ (Nat → UInt64) ⊕ (Nat → Option Nat)} {K : Int32 → zHp → Nat → Prop} (hd : 1 ≤ d) (h1 : hp a = some (.inr (32, [i, .ref b]))) (h2 : hp b = some (.inl (g.2.1 1, n, x))) (hK : K (nI n) hp nx) : zMt l g yX32_size cX32_size 1 (some .int) d 0 0 [.ref a] hp nx (zQi g K) := by
  obtain ⟨d, rfl⟩ := Nat.exists_eq_add_of_le' (show 1 ≤ d by omega)
  apply met_X32_size
  unfold wp_X32_size
  rw [hz_R h1 (r := some b) rfl (by decide), hz_ln h2]
  exact hK
/-- kept numbers, the first alike of each -/
def cKp (k : Int32) (ns : List UInt64) (f : Nat → UInt64) (h : Nat → Int32) : Prop := (∀ j, j < ns.length → f j = s_kp k (ns.getD j 0)) ∧ ∀ j, j < ns.length → ∃ i, cFst (fun q => s_kp k (ns.getD q 0)) j i ∧ h j = nI i
theorem c_keeps {H : (Nat → UInt64) → (Nat → Int32) → zHp} {ax pa b e c ci nb : Nat} {ns : List UInt64} {fn f0 : Nat → UInt64} {h0 : Nat → Int32} {K : Int32 → zHp → Nat → Prop} (hd : 7 ≤ d) (hH : cHh g H b e) (hn8 : ns.length ≤ 8) (hB : ∀ v ∈ ns, s_B v)
    (h1 : ∀ f h, H f h ax = some (.inr (32, [.int (nI c), .ref nb]))) (h2 : ∀ f h, H f h nb = some (.inl (g.2.1 1, ns.length, .inr (.inr (.inr (.inl fn)))))) (h3 : ∀ j, j < ns.length → fn j = ns.getD j 0) (h4 : ∀ f h, ∃ fs, H f h pa = some (.inr (ci, fs))) (hci : ci ∈ [2, 6, 7, 8, 9, 10])
    (hK : ∀ f h, cKp (cKi ci) ns f h → K (nI (s_ul (cKi ci) ns)) (H f h) nx) : zMt l g yX1_keeps cX1_keeps 7 (some .int) d 0 0 [va_rf (some ax), va_rf (some pa), va_rf (some b), va_rf (some e)] (H f0 h0) nx (zQi g K) := by
  obtain ⟨d, rfl⟩ := Nat.exists_eq_add_of_le' (show 1 ≤ d by omega)
  obtain ⟨zb, ze, hb, he, ub, ue⟩ := hH
  have hkB : ∀ j, s_B (ns.getD j 0) := fun j => s_BgetD hB j
  obtain ⟨kp, ekp⟩ : ∃ kp : Nat → UInt64, kp = fun q => s_kp (cKi ci) (ns.getD q 0) := ⟨_, rfl⟩
  have ekj : ∀ j, kp j = s_kp (cKi ci) (ns.getD j 0) := fun j => by rw [ekp]
  have hkpB : ∀ j, s_B (kp j) := fun j => by rw [ekj]; exact fb_kp (hkB j)
  obtain ⟨U, eU⟩ : ∃ U : Nat → Prop, U = fun i => ∀ j, j < i → ¬ s_eq (kp j) (kp i) := ⟨_, rfl⟩
  have eul : s_ul (cKi ci) ns = s_cn U ns.length := by rw [eU, ekp]; rfl
  rw [eul] at hK
  unfold cKp at hK
  rw [← ekp] at hK
  simp only [← ekj] at hK
  apply met_X1_keeps
  unfold wp_X1_keeps
  refine ⟨fun n x1 x2 hp1 nx1 => ∃ k f h, n + k = ns.length ∧ x1 = nI (s_cn U k) ∧ x2 = nI k ∧ (∀ j, j < k → f j = kp j) ∧ (∀ j, j < k → ∃ i, cFst kp j i ∧ h j = nI i) ∧ hp1 = H f h ∧ nx = nx1, ⟨ns.length, 0, f0, h0, rfl, rfl, rfl, fun j hj => absurd hj (by omega), fun j hj => absurd hj (by omega), rfl, rfl⟩, ?_⟩
  rintro n x1 x2 hp1 nx1 ⟨k, f, h, hk, rfl, rfl, hf, hh, rfl, rfl⟩
  rw [hz_o (h1 f h) (by decide)]
  refine c_sizeH (by omega) (h1 f h) (h2 f h) ?_
  refine pk_le ns.length k (fun q => ?_) (fun q => ?_)
  · have : k = ns.length := by omega
    subst this
    exact hK f h ⟨hf, hh⟩
  · obtain ⟨fs, hpa⟩ := h4 f h
    have ck : (nI k).toNatClampNeg = k := nI_clamp (by omega)
    rw [hz_R (h1 f h) (r := some nb) rfl (by decide), hz_aD (h2 f h)]
    refine ⟨vp_in_nI q (by omega), ?_⟩
    intro x16 e16
    have e16 : x16 = ns.getD k 0 := by rw [e16, ck]; exact h3 k q
    subst e16
    rw [hz_o hpa hci]
    refine ⟨fun x hp1 nx1 => x = kp k ∧ hp1 = H f h ∧ nx = nx1, ?_, c_kept hpa hci (by omega) (hkB k) ⟨(ekj k).symm, rfl, rfl⟩⟩
    rintro x hp1 nx1 ⟨rfl, rfl, rfl⟩
    rw [hz_aD (hb f h)]
    refine ⟨vp_in_nI (by omega) (by decide), zb, ?_⟩
    intro hp1 e1
    rw [ck, ub] at e1
    subst e1
    have f'k : ∀ j, j ≤ k → va_up f k (kp k) j = kp j := by
      intro j hj
      by_cases e : j = k
      · subst e; exact va_s
      · rw [va_o e]; exact hf j (by omega)
    generalize va_up f k (kp k) = f1 at f'k ⊢
    refine ⟨fun n' a b c hp1 nx1 => ∃ q', n' + q' = k ∧ a = nI (s_cn U k) ∧ b = nI k ∧ c = nI q' ∧ (∀ p, p < q' → ¬ s_eq (kp p) (kp k)) ∧ hp1 = H f1 h ∧ nx = nx1, ⟨k, 0, rfl, rfl, rfl, rfl, fun p hp => absurd hp (by omega), rfl, rfl⟩, ?_⟩
    rintro n' a b c hp1 nx1 ⟨q', hq', rfl, rfl, rfl, hno, rfl, rfl⟩
    have cq : (nI q').toNatClampNeg = q' := nI_clamp (by omega)
    rw [hz_aD (hb f1 h)]
    refine ⟨vp_in_nI (by omega) (by decide), ?_⟩
    intro x33 e33
    have e33 : x33 = kp q' := by rw [e33, cq]; exact f'k q' (by omega)
    subst e33
    rw [hz_aD (hb f1 h)]
    refine ⟨vp_in_nI (by omega) (by decide), ?_⟩
    intro x37 e37
    have e37 : x37 = kp k := by rw [e37, ck]; exact f'k k (by omega)
    subst e37
    refine ⟨fun z => ?_, fun z => ?_⟩
    · have hse := fc_l0.mp z
      rw [hz_aI (he f1 h)]
      refine ⟨vp_in_nI (by omega) (by decide), ze, ?_⟩
      intro hp1 e41
      have hn : vp_nar .byte (nI q').toInt8.toInt32 = nI q' := (show ∀ q, q < 8 → vp_nar .byte (nI q).toInt8.toInt32 = nI q by decide +kernel) q' (by omega)
      rw [ck, ue, hn] at e41
      subst e41
      have hF : cFst kp k q' := ⟨by omega, hse, hno⟩
      have hh' : ∀ j, j < k + 1 → ∃ i, cFst kp j i ∧ va_up h k (nI q') j = nI i := by
        intro j hj
        by_cases e : j = k
        · subst e; exact ⟨q', hF, va_s⟩
        · rw [va_o e]; exact hh j (by omega)
      refine ⟨_, fun _ _ _ _ _ h => h, ?_⟩
      refine pk_eq q' k (fun e => ?_) (fun e => ?_)
      · rintro x49 rfl x47 rfl
        have hU : U k := by rw [eU]; intro j hj; exact hno j (by omega)
        have ec : s_cn U (k + 1) = s_cn U k + 1 := by show s_cn U k + s_if (U k) 1 0 = _; rw [s_if_p hU]
        exact ⟨n - 1, by omega, k + 1, f1, _, by omega, by rw [ec]; exact (nI_succ _).symm, (nI_succ k).symm, fun j hj => f'k j (by omega), hh', rfl, rfl⟩
      · rintro x47 rfl
        have hU : ¬ U k := by rw [eU]; intro z; exact z q' (by omega) hse
        have ec : s_cn U (k + 1) = s_cn U k := by show s_cn U k + s_if (U k) 1 0 = _; rw [s_if_n hU]; rfl
        exact ⟨n - 1, by omega, k + 1, f1, _, by omega, by rw [ec], (nI_succ k).symm, fun j hj => f'k j (by omega), hh', rfl, rfl⟩
    · have hne : ¬ s_eq (kp q') (kp k) := fun y => z (fc_l0.mpr y)
      have hlt : q' ≠ k := by rintro rfl; exact hne (fc_self (hkpB _).f)
      rintro x50 rfl
      refine ⟨n' - 1, by omega, q' + 1, by omega, rfl, rfl, (nI_succ q').symm, fun p hp => ?_, rfl, rfl⟩
      by_cases e : p = q'
      · subst e; exact hne
      · exact hno p (by omega)
end KP
