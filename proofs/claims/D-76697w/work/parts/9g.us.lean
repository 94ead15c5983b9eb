set_option maxRecDepth 100000
/-! THE REFERENCE's operations: seek -/
section US
variable {l : Launch} {g : zG} {d m0 : Nat} {τ τ' τm τ1 τ2 : tS} {hp : zHp} {nx : Nat}
theorem tsp.sI {k : Nat} {v : Int32} (h : tsp τ τ') (h1 : k ≠ 34) (h2 : k ≠ 57) : tsp τ (tsI τ' k v) := h.tr ⟨tq2 (Ne.symm h1), tq2 (Ne.symm h2), fun _ _ => rfl, fun _ _ => rfl⟩
theorem tsp.sD {k : Nat} {v : UInt64} (h : tsp τ τ') : tsp τ (tsD τ' k v) := h.tr ⟨rfl, rfl, fun _ _ => rfl, fun _ _ => rfl⟩
/-- what a cell tells were an input so -/
noncomputable def s_vb (S : sSt) (i c : Nat) (x : UInt64) : sT := s_EV S.1 S.2.1 S.2.2.1 (s_up S.2.2.2 i (some x)) c
def s_ab (v : UInt64) : UInt64 := v &&& 0x7fffffffffffffff
noncomputable def s_cut (w l h fl fh : UInt64) : UInt64 := FP.dadd l (FP.ddiv (FP.dmul (FP.dsub w fl) (FP.dsub h l)) (FP.dsub fh fl))
noncomputable def s_hv (l h : UInt64) : UInt64 := FP.dadd l (FP.ddiv (FP.dsub h l) 4611686018427387904)
noncomputable def s_mid (w l h fl fh : UInt64) (hf : Prop) : UInt64 := s_if (hf ∧ s_gt (s_cut w l h fl fh) l ∧ s_lt (s_cut w l h fl fh) h) (s_cut w l h fl fh) (s_hv l h)
noncomputable def s_end (w l h fl fh : UInt64) : UInt64 × UInt64 := s_if (s_gt (s_ab (FP.dsub fl w)) (s_ab (FP.dsub fh w))) (h, fh) (l, fl)
/-- whether the bracket is at most half as wide -/
def s_hw (l h wide : UInt64) : Prop := ¬ s_gt (FP.dsub h l) (FP.ddiv wide 4611686018427387904)
noncomputable def s_sk (f : UInt64 → sT) (w : UInt64) : Nat → UInt64 → UInt64 → UInt64 → UInt64 → Prop → Nat → Option (UInt64 × UInt64) × Nat
  | 0, l, h, fl, fh, _, k => (some (s_end w l h fl fh), k)
  | n + 1, l, h, fl, fh, hf, k =>
    s_if (s_gt (s_mid w l h fl fh hf) l ∧ s_lt (s_mid w l h fl fh hf) h)
      (if (f (s_mid w l h fl fh hf)).2.1 ≠ 0 then (none, k + 1)
       else s_if (s_eq (f (s_mid w l h fl fh hf)).1 w) (some (s_mid w l h fl fh hf, (f (s_mid w l h fl fh hf)).1), k + 1)
         (s_if (s_lt (f (s_mid w l h fl fh hf)).1 w ↔ s_lt fl w)
           (s_sk f w n (s_mid w l h fl fh hf) h (f (s_mid w l h fl fh hf)).1 fh (s_hw (s_mid w l h fl fh hf) h (FP.dsub h l)) (k + 1))
           (s_sk f w n l (s_mid w l h fl fh hf) fl (f (s_mid w l h fl fh hf)).1 (s_hw l (s_mid w l h fl fh hf) (FP.dsub h l)) (k + 1))))
      (some (s_end w l h fl fh), k)
noncomputable def s_seek (f : UInt64 → sT) (w low high : UInt64) : Option (UInt64 × UInt64) × Nat :=
  if (f low).2.1 ≠ 0 then (none, 1)
  else if (f high).2.1 ≠ 0 then (none, 2)
  else s_if (s_eq (f low).1 w) (some (low, w), 2) (s_if (s_eq (f high).1 w) (some (high, w), 2)
    (s_if (s_lt (f low).1 w ↔ s_lt (f high).1 w) (none, 2) (s_sk f w 40 low high (f low).1 (f high).1 False 2)))
def o_skb (low high want part : Int32) : Prop := low < -80000 ∨ 80000 < low ∨ high < -80000 ∨ 80000 < high ∨ high ≤ low ∨ want < -80000 ∨ 80000 < want ∨ part < 0 ∨ 2 < part
noncomputable def o_seek (A : sV) (x y low high want part : Int32) : Int64 := match s_cx x with
  | none => -2
  | some i => match s_cx y with
    | none => -2
    | some c => s_if (o_skb low high want part) (-2) (if A.1.1 i ≠ [] then -3
      else if part = 2 then (nI (s_seek (s_vb A.1 i c) (o_8 want) (o_8 low) (o_8 high)).2).toInt64
      else match (s_seek (s_vb A.1 i c) (o_8 want) (o_8 low) (o_8 high)).1 with
        | none => -1
        | some q => (if part = 0 then q.1 else q.2).toInt64)
theorem t_f {rk : Nat → Nat} {i c k : Nat} {x : UInt64} {K : UInt64 → zHp → Nat → Prop} (hd : 133 ≤ d) (hB : zB g ≤ m0) (hO : tOK rk τ) (hi : i < 24) (hc : c < 24) (hx : s_B x) (hk : τ.1 51 = nI k) (h52 : τ.1 52 = 0) (hK : ∀ τ', tsp τ τ' → τ'.1 51 = nI (k + 1) → τ'.1 52 = (if (s_vb (tst τ) i c x).2.1 = 0 then 0 else 1) → K (s_vb (tst τ) i c x).1 (tput g m0 τ' hp) nx) : zMt l g yX5_f cX5_f 7 (some .double) d 0 0 [.ref m0, .int (nI i), .int (nI c), .double x] (tput g m0 τ hp) nx (zQd g K) := by
  obtain ⟨d, rfl⟩ := Nat.exists_eq_add_of_le' (show 1 ≤ d by omega)
  apply met_X5_f
  unfold wp_X5_f
  simp only [tg_fMany, tp_fMany, hB, true_and, hk, tw_zo]
  have hO1 : tOK rk (tsI τ 51 (nI k + 1)) := hO.pe ⟨fun _ _ => rfl, fun _ _ => rfl⟩
  refine t_valueBy (by omega) hB hO1 hi hc hx fun τ1 f1 ev => ?_
  have ev : τ1.2.2.1 21 0 c = (s_vb (tst τ) i c x).2.1 := ev
  simp only [tg_fFails, tp_fFails, tw_zo]
  refine t_errorOf (by omega) hc ?_
  rw [ev]
  have e52 : τ1.1 52 = 0 := by rw [f1.1 52 (by decide) (by decide) (by decide) (by decide), tq2 (by decide), h52]
  have e51 : τ1.1 51 = nI (k + 1) := by rw [f1.1 51 (by decide) (by decide) (by decide) (by decide), tq1, nI_1]
  have sp : tsp τ τ1 := (tsp.rf.sI (by decide) (by decide)).tr f1.sp
  rw [e52]
  refine ⟨_, fun _ _ _ _ _ _ h => h, ?_⟩
  by_cases he : (s_vb (tst τ) i c x).2.1 = 0
  · refine ⟨fun _ => ?_, fun h => absurd he h⟩
    simp only [tg_fFails, tp_fFails, hB, true_and]
    refine ⟨by decide, hK _ (sp.sI (by decide) (by decide)) ?_ ?_⟩
    · rw [tq2 (by decide), e51]
    · rw [tq1, if_pos he]; decide
  · refine ⟨fun h => absurd h he, fun _ => ?_⟩
    simp only [tg_fFails, tp_fFails, hB, true_and]
    refine ⟨by decide, hK _ (sp.sI (by decide) (by decide)) ?_ ?_⟩
    · rw [tq2 (by decide), e51]
    · rw [tq1, if_neg he]; decide
theorem t_finds {x v : UInt64} {K : zHp → Nat → Prop} (hd : 1 ≤ d) (hB : zB g ≤ m0) (hK : ∀ τ', tsp τ τ' → τ'.1 = τ.1 → τ'.2.1 53 = x → τ'.2.1 54 = v → K (tput g m0 τ' hp) nx) : zMt l g yX5_finds cX5_finds 5 none d 0 0 [.ref m0, .double x, .double v] (tput g m0 τ hp) nx (zQv g K) := by
  obtain ⟨d, rfl⟩ := Nat.exists_eq_add_of_le' (show 1 ≤ d by omega)
  apply met_X5_finds
  unfold wp_X5_finds
  simp only [tg_found, tp_found, tg_foundF, tp_foundF, hB, true_and]
  exact hK _ tsp.rf.sD.sD rfl (by rw [tq6 (by decide), tq5]) tq5
theorem s_vb_B {rk : Nat → Nat} (hO : tOK rk τ) {i c : Nat} (hc : c < 24) {x : UInt64} (hx : s_B x) : s_B (s_vb (tst τ) i c x).1 :=
  s_EV_B hO.2.2.1 hO.1.mo hO.2.2.2.1 hO.2.2.2.2.1 hO.2.2.2.2.2.1 _ c (Nat.lt_succ_self _) hc _ (s_up_BO hO.2.2.2.2.2.2.1 hx)
/-- the numbers of a bracket: no NaN comes of them -/
theorem s_br {w l h fl fh : UInt64} (hw : s_B w) (hl : s_B l) (hh : s_B h) (hfl : s_B fl) (hfh : s_B fh) (hne : ¬ s_eq fh fl) : vf_n64 (FP.dsub h l) ∧ vf_n64 (FP.ddiv (FP.dsub h l) 4611686018427387904) ∧ vf_n64 (s_hv l h) ∧ vf_n64 (FP.dsub w fl) ∧ vf_n64 (FP.dmul (FP.dsub w fl) (FP.dsub h l)) ∧ vf_n64 (FP.dsub fh fl) ∧ vf_n64 (FP.ddiv (FP.dmul (FP.dsub w fl) (FP.dsub h l)) (FP.dsub fh fl)) ∧ vf_n64 (s_cut w l h fl fh) := by
  have w1 : s_Bn 41 (FP.dsub h l) := fb_subn (M := 40) (by decide) hh hl
  have w2 := fb_half (M := 41) (by decide) w1
  have w3 : s_Bn 41 (FP.dsub w fl) := fb_subn (M := 40) (by decide) hw hfl
  have w4 : s_Bn 82 (FP.dmul (FP.dsub w fl) (FP.dsub h l)) := fb_muln (M := 41) (N := 41) (by decide) w3 w1
  have w5 : s_Bn 41 (FP.dsub fh fl) := fb_subn (M := 40) (by decide) hfh hfl
  have w6 := fb_div w4.f w5.f (fb_subnz hfh.f hfl.f hne)
  exact ⟨fb_Fn w1.f, fb_Fn w2.f, fb_add hl.f w2.f, fb_Fn w3.f, fb_Fn w4.f, fb_Fn w5.f, w6, fb_addF hl.f w6⟩
theorem s_mid_n {w l h fl fh : UInt64} {H : Prop} (h1 : vf_n64 (s_hv l h)) (h2 : vf_n64 (s_cut w l h fl fh)) : vf_n64 (s_mid w l h fl fh H) := by
  unfold s_mid s_if
  split
  · exact h2
  · exact h1
theorem s_ab_F {v : UInt64} (h : s_F v) : s_F (s_ab v) := by
  obtain ⟨s, c, q, h⟩ := h
  refine ⟨false, c, q, ?_⟩
  unfold fv FP.Core.decode FP.Core.fieldE FP.Core.fieldT FP.Core.fieldS at h ⊢
  rw [fq_t64, fq_e64] at h ⊢
  have hb : (s_ab v).toNat = v.toNat % 9223372036854775808 := by
    unfold s_ab
    rw [UInt64.toNat_and]
    exact Nat.and_two_pow_sub_one_eq_mod v.toNat 63
  rw [hb]
  have hl := v.toNat_lt
  have e1 : v.toNat % 9223372036854775808 / 4503599627370496 % 2048 = v.toNat / 4503599627370496 % 2048 := by omega
  have e2 : v.toNat % 9223372036854775808 % 4503599627370496 = v.toNat % 4503599627370496 := by omega
  have e3 : (v.toNat % 9223372036854775808 / 4503599627370496 / 2048 % 2 == 1) = false := by
    rw [beq_eq_false_iff_ne]
    omega
  rw [e1, e2, e3]
  split at h
  · split at h <;> cases h
  · next h1 =>
    rw [if_neg h1]
    split at h
    · next h2 =>
      rw [if_pos h2]
      cases h
      rfl
    · next h2 =>
      rw [if_neg h2]
      cases h
      rfl
end US
