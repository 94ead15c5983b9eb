set_option maxRecDepth 100000
/-! StringBuilder of capacity 8: append of a small letter, length (over any heap) -/
section SB
variable {l : Launch} {g : zG} {d x0 : Nat} {hp hp' : zHp} {nx : Nat} {mc ms kc ks : Nat}
theorem x_isL {sb : Nat} {fs : List Value} (h : hp sb = some (.inr (39, fs))) (hf : fs[1]? = some (.int 0)) (hd : 1 ≤ d) {K : Int32 → zHp → Nat → Prop} (hK : K 1 hp nx) : zMt l g yJ5_isLatin1 cJ5_isLatin1 1 (some .boolean) d 0 0 [.ref sb] hp nx (zQi g K) := by
  obtain ⟨d, rfl⟩ := Nat.exists_eq_add_of_le' (show 1 ≤ d by omega)
  apply met_J5_isLatin1
  unfold wp_J5_isLatin1
  refine ⟨fun x => x = 1, ?_, False, fun h => h.elim, fun z => absurd z (by decide), fun _ => ?_⟩
  · rintro x rfl; exact ⟨Or.inr rfl, hK⟩
  · rw [hz_I h hf (by decide)]
    exact ⟨fun _ => rfl, fun z => absurd rfl z⟩
theorem x_e8 : ∀ m, m < 9 → (nI m - (Int32.ofNat 8 >>> ((0 : Int32) &&& 31))) ≤ 0 := by decide
theorem x_ens {sb b m : Nat} {fs : List Value} {f : Nat → Int32} (h : hp sb = some (.inr (39, fs))) (h0 : fs[0]? = some (va_rf (some b))) (h1 : fs[1]? = some (.int 0)) (hb : hp b = some (.inl (g.2.1 2, 8, .inl f))) (hm : m < 9) (hd : 1 ≤ d) {K : zHp → Nat → Prop} (hK : K hp nx) : zMt l g yJ5_ensureCapacityInternal cJ5_ensureCapacityInternal 3 none d mc ms [.ref sb, .int (nI m)] hp nx (zQv g K) := by
  obtain ⟨d, rfl⟩ := Nat.exists_eq_add_of_le' (show 1 ≤ d by omega)
  apply met_J5_ensureCapacityInternal
  unfold wp_J5_ensureCapacityInternal
  rw [hz_R h (r := some b) h0 (by decide), hz_ln hb, hz_I h h1 (by decide)]
  rintro _ rfl
  refine ⟨fun x h n' kc ks => h = hp ∧ nx = n' ∧ kc = 0 ∧ ks = 0, ?_, fun _ => ⟨rfl, rfl, rfl, rfl⟩, fun z => absurd (x_e8 m hm) z⟩
  rintro x h n' kc ks ⟨rfl, rfl, rfl, rfl⟩
  exact ⟨Nat.zero_le _, Nat.zero_le _, hK⟩
theorem x_can {c : Nat} (hc : c < 128) (hd : 1 ≤ d) {K : Int32 → zHp → Nat → Prop} (hK : K 1 hp nx) : zMt l g yJ13_canEncode cJ13_canEncode 1 (some .boolean) d 0 0 [.int (nI c)] hp nx (zQi g K) := by
  obtain ⟨d, rfl⟩ := Nat.exists_eq_add_of_le' (show 1 ≤ d by omega)
  apply met_J13_canEncode
  unfold wp_J13_canEncode
  refine ⟨fun x => x = 1, ?_, fun z => ?_, fun _ => rfl⟩
  · rintro x rfl; exact ⟨Or.inr rfl, hK⟩
  · exact absurd z (Int32.not_lt.mpr ((nI_leI (b := 255) (by omega) (by decide)).mpr (by omega)))
theorem x_nc : ∀ c, c < 128 → vp_nar .byte (nI c).toInt8.toInt32 = nI c := by decide +kernel
theorem x_app5 {sb b m c : Nat} {v2 : Value} {f : Nat → Int32} (h : hp sb = some (.inr (39, [va_rf (some b), .int 0, v2, .int (nI m)]))) (hb : hp b = some (.inl (g.2.1 2, 8, .inl f))) (hne : b ≠ sb) (hm : m < 8) (hc : c < 128) (hz : zB g ≤ sb) (hz2 : zB g ≤ b) (hd : 3 ≤ d) {K : Option Nat → zHp → Nat → Prop} (hK : K (some sb) (va_up (va_up hp sb (some (.inr (39, [va_rf (some b), .int 0, v2, .int (nI (m + 1))])))) b (some (.inl (g.2.1 2, 8, .inl (va_up f m (nI c)))))) nx) : zMt l g yJ5_append_3 cJ5_append_3 2 (some (.object "java/lang/AbstractStringBuilder")) d mc ms [.ref sb, .int (nI c)] hp nx (zQq g K) := by
  obtain ⟨d, rfl⟩ := Nat.exists_eq_add_of_le' (show 1 ≤ d by omega)
  apply met_J5_append_3
  unfold wp_J5_append_3
  rw [hz_I h (k := 3) (x := nI m) rfl (by decide)]
  refine ⟨0, 0, Nat.zero_le _, Nat.zero_le _, ?_⟩
  rw [hz_o h (by decide), nI_1]
  refine x_ens h rfl rfl hb (by omega) (by omega) ⟨Nat.zero_le _, Nat.zero_le _, ?_⟩
  rw [hz_o h (by decide)]
  refine x_isL h rfl (by omega) ?_
  refine ⟨fun hh n' kc ks => hh = va_up (va_up hp sb (some (.inr (39, [va_rf (some b), .int 0, v2, .int (nI (m + 1))])))) b (some (.inl (g.2.1 2, 8, .inl (va_up f m (nI c))))) ∧ nx = n' ∧ kc = 0 ∧ ks = 0, ?_, fun _ _ _ _ => False, fun _ _ _ _ h => h.elim, fun z => absurd z (by decide), fun _ => ⟨Nat.zero_le _, Nat.zero_le _, ?_⟩⟩
  · rintro hh n' kc ks ⟨rfl, rfl, rfl, rfl⟩
    exact ⟨Nat.zero_le _, Nat.zero_le _, hK⟩
  refine x_can hc (by omega) ⟨fun z => absurd z (by decide), fun _ => ?_⟩
  rw [hz_R h (k := 0) (r := some b) rfl (by decide), hz_I h (k := 3) (x := nI m) rfl (by decide), hz_p h (by decide) (by simp)]
  refine ⟨hz, ?_⟩
  have hb2 : va_up hp sb (some (.inr (39, [va_rf (some b), .int 0, v2, .int (nI m)].set 3 (.int (nI m + 1))))) b = some (.inl (g.2.1 2, 8, .inl f)) := by rw [va_o hne]; exact hb
  rw [hz_aI hb2]
  refine ⟨vp_in_nI hm (by decide), hz2, ?_⟩
  rintro _ rfl
  refine ⟨?_, rfl, rfl, rfl⟩
  rw [nI_clamp (by omega), x_nc c hc, nI_1]
  rfl
theorem x_app {sb b m c : Nat} {v2 : Value} {f : Nat → Int32} (h : hp sb = some (.inr (39, [va_rf (some b), .int 0, v2, .int (nI m)]))) (hb : hp b = some (.inl (g.2.1 2, 8, .inl f))) (hne : b ≠ sb) (hm : m < 8) (hc : c < 128) (hz : zB g ≤ sb) (hz2 : zB g ≤ b) (hd : 4 ≤ d) {K : Option Nat → zHp → Nat → Prop} (hK : K (some sb) (va_up (va_up hp sb (some (.inr (39, [va_rf (some b), .int 0, v2, .int (nI (m + 1))])))) b (some (.inl (g.2.1 2, 8, .inl (va_up f m (nI c)))))) nx) : zMt l g yJ6_append_3 cJ6_append_3 2 (some (.object "java/lang/StringBuilder")) d mc ms [.ref sb, .int (nI c)] hp nx (zQq g K) := by
  obtain ⟨d, rfl⟩ := Nat.exists_eq_add_of_le' (show 1 ≤ d by omega)
  apply met_J6_append_3
  unfold wp_J6_append_3
  refine ⟨0, 0, Nat.zero_le _, Nat.zero_le _, ?_⟩
  rw [hz_o h (by decide)]
  exact x_app5 h hb hne hm hc hz hz2 (by omega) ⟨Nat.zero_le _, Nat.zero_le _, hK⟩
theorem x_sbl {sb m : Nat} {fs : List Value} (h : hp sb = some (.inr (39, fs))) (hf : fs[3]? = some (.int (nI m))) (hd : 2 ≤ d) {K : Int32 → zHp → Nat → Prop} (hK : K (nI m) hp nx) : zMt l g yJ6_length cJ6_length 1 (some .int) d 0 0 [.ref sb] hp nx (zQi g K) := by
  obtain ⟨d, rfl⟩ := Nat.exists_eq_add_of_le' (show 2 ≤ d by omega)
  apply met_J6_length
  unfold wp_J6_length
  rw [hz_o h (by decide)]
  apply met_J5_length
  unfold wp_J5_length
  rw [hz_I h hf (by decide)]
  exact hK
end SB
