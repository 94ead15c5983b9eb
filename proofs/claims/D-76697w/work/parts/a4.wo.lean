set_option maxRecDepth 100000
/-! what a node is worth -/
section WO
variable {l : Launch} {g : zG} {d x0 : Nat} {P : cP} {σ σ' : cS} {hp : zHp} {nx : Nat}
theorem c_joinS {a ci : Nat} {fs : List Value} (hW : cW g x0 P hp) (ha : hp a = some (.inr (ci, fs))) (hci : ci = 26 ∨ ci = 27) (hf : fs[4]? = some (.ref x0)) {v w : UInt64} {sg : Int32} {K : UInt64 → zHp → Nat → Prop} (hd : 3 ≤ d) (hv : s_B v) (hw : s_B w) (hK : K (cNr (s_op (if sg = 43 then 1 else 2) v w)) (cput g x0 P (cNs σ (s_op (if sg = 43 then 1 else 2) v w)) hp) nx) : zMt l g yX26_joins cX26_joins 6 (some .double) d 0 0 [.ref a, .double v, .int sg, .double w] (cput g x0 P σ hp) nx (zQd g K) := by
  obtain ⟨d, rfl⟩ := Nat.exists_eq_add_of_le' (show 1 ≤ d by omega)
  apply met_X26_joins
  unfold wp_X26_joins
  rw [ch_R hW ha (show fs[4]? = some (va_rf (some x0)) from hf) (by rcases hci with e | e <;> (rw [e]; decide))]
  refine ⟨_, fun _ _ _ _ h => h, ?_⟩
  refine ⟨fun e => ⟨fb_add hv.f hw.f, ?_⟩, fun e => ⟨fb_sub hv.f hw.f, ?_⟩⟩
  · rw [if_pos e] at hK
    simp only [cz_o]
    exact c_near (by omega) hW.1 (fb_add hv.f hw.f) hK
  · rw [if_neg e] at hK
    simp only [cz_o]
    exact c_near (by omega) hW.1 (fb_sub hv.f hw.f) hK
theorem c_joinT {a : Nat} {fs : List Value} (hW : cW g x0 P hp) (ha : hp a = some (.inr (27, fs))) (hf4 : fs[4]? = some (.ref x0)) (hf : fs[5]? = some (.ref x0)) {v w : UInt64} {sg : Int32} {m : Nat} (hm : cOp true m sg) {K : UInt64 → zHp → Nat → Prop} (hd : 5 ≤ d) (hv : s_B v) (hw : s_B w)
    (h1 : m ≤ 204 → ¬ ((m = 204 ∨ m = 205) ∧ s_eq w 0) → K (cNr (s_op (m - 200) v w)) (cput g x0 P (cNs σ (s_op (m - 200) v w)) hp) nx) (h2 : (m = 204 ∨ m = 205) ∧ s_eq w 0 → K 0 (cput g x0 P (cFa σ 2) hp) nx) (h3 : m = 205 → ¬ s_eq w 0 → K (s_op 5 v w) (cput g x0 P σ hp) nx) : zMt l g yX27_joins cX27_joins 6 (some .double) d 0 0 [.ref a, .double v, .int sg, .double w] (cput g x0 P σ hp) nx (zQd g K) := by
  obtain ⟨d, rfl⟩ := Nat.exists_eq_add_of_le' (show 1 ≤ d by omega)
  apply met_X27_joins
  unfold wp_X27_joins
  have hr : ∀ {τ : cS} {Q : Option Nat → Prop}, zgR (cput g x0 P τ hp) (some a) [27] 5 Q = Q (some x0) := fun {τ Q} => ch_R hW ha (show fs[5]? = some (va_rf (some x0)) from hf) (by decide)
  simp only [hr, cz_o]
  unfold cOp at hm
  rw [if_pos rfl] at hm
  refine ⟨fun e => ?_, fun e => ⟨fun e0 => ?_, fun e0 => ?_⟩⟩
  · have em : m = 203 := by
      rcases hm with ⟨a1, a2⟩ | ⟨a1, a2⟩ | ⟨a1, a2⟩
      · exact a1
      · rw [a2] at e; exact absurd e (by decide)
      · rw [a2] at e; exact absurd e (by decide)
    subst em
    exact ⟨fb_mul hv.f hw.f, c_near (by omega) hW.1 (fb_mul hv.f hw.f) (h1 (by decide) (by rintro ⟨q | q, -⟩ <;> omega))⟩
  · have em : m = 204 ∨ m = 205 := by
      rcases hm with ⟨a1, a2⟩ | ⟨a1, a2⟩ | ⟨a1, a2⟩
      · exact absurd a2 e
      · exact Or.inl a1
      · exact Or.inr a1
    refine c_faults (by omega) hW.1 ?_
    rw [ch_o hW ha (by decide)]
    refine c_joinS hW ha (Or.inr rfl) hf4 (by omega) fk_B0 fk_B0 ?_
    rw [if_pos rfl]
    have e1 : s_op 1 FP.dconst0 FP.dconst0 = 0 := by show FP.dadd 0 0 = 0; decide +kernel
    have e2 : ¬ s_far 0 := by unfold s_far s_gt s_lt; decide +kernel
    rw [e1]
    unfold cNr cNs
    rw [s_if_n e2, s_if_n e2]
    exact h2 ⟨em, fc_l0.mp e0⟩
  · have hz : ¬ s_eq w 0 := fun q => e0 (fc_l0.mpr q)
    refine ⟨_, fun _ _ _ h => h, ?_⟩
    refine ⟨fun e4 => ?_, fun e4 => ?_⟩
    · have em : m = 204 := by
        rcases hm with ⟨a1, a2⟩ | ⟨a1, a2⟩ | ⟨a1, a2⟩
        · rw [a2] at e4; exact absurd e4 (by decide)
        · exact a1
        · rw [a2] at e4; exact absurd e4 (by decide)
      subst em
      exact ⟨fb_div hv.f hw.f hz, c_near (by omega) hW.1 (fb_div hv.f hw.f hz) (h1 (by decide) (fun q => hz q.2))⟩
    · have em : m = 205 := by
        rcases hm with ⟨a1, a2⟩ | ⟨a1, a2⟩ | ⟨a1, a2⟩
        · exact absurd a2 e
        · exact absurd a2 e4
        · exact a1
      exact ⟨fb_rem hv.f hw.f hz, h3 em hz⟩
/-! min, max, less, equal -/
theorem c_takes {a : Nat} {v w : UInt64} {K : Int32 → zHp → Nat → Prop} (hd : 1 ≤ d) (h1 : s_lt w v → K 1 hp nx) (h2 : ¬ s_lt w v → K 0 hp nx) : zMt l g yX16_takes cX16_takes 5 (some .boolean) d 0 0 [.ref a, .double v, .double w] hp nx (zQi g K) := by
  obtain ⟨d, rfl⟩ := Nat.exists_eq_add_of_le' (show 1 ≤ d by omega)
  apply met_X16_takes
  unfold wp_X16_takes
  refine ⟨_, fun _ h => h, ?_⟩
  refine ⟨fun e => ⟨Or.inl rfl, h2 (fc_gle.mp e)⟩, fun e => ⟨Or.inr rfl, h1 (Classical.not_not.mp (fun z => e (fc_gle.mpr z)))⟩⟩
theorem c_joinM {a ci : Nat} {fs : List Value} (hW : cW g x0 P hp) (ha : hp a = some (.inr (ci, fs))) (hci : ci = 16 ∨ ci = 17) {v w : UInt64} {K : UInt64 → zHp → Nat → Prop} (hd : 3 ≤ d) (hv : s_B v) (hw : s_B w) (hK : K (s_op (ci - 8) v w) (cput g x0 P σ hp) nx) : zMt l g yX16_joined cX16_joined 5 (some .double) d 0 0 [.ref a, .double v, .double w] (cput g x0 P σ hp) nx (zQd g K) := by
  obtain ⟨d, rfl⟩ := Nat.exists_eq_add_of_le' (show 1 ≤ d by omega)
  apply met_X16_joined
  unfold wp_X16_joined
  rw [ch_o hW ha (by rcases hci with e | e <;> (rw [e]; decide))]
  refine ⟨fun x hp1 nx1 => (if x = 0 then v else w) = s_op (ci - 8) v w ∧ hp1 = cput g x0 P σ hp ∧ nx1 = nx, ?_, ?_, ?_⟩
  · rintro x hp1 nx1 ⟨h, rfl, rfl⟩
    refine ⟨_, fun _ _ _ h => h, ?_⟩
    refine ⟨fun e => ?_, fun e => ?_⟩
    · rw [if_pos e] at h; rw [h]; exact hK
    · rw [if_neg e] at h; rw [h]; exact hK
  · intro e
    subst e
    refine c_takes (by omega) (fun q => ⟨?_, rfl, rfl⟩) (fun q => ⟨?_, rfl, rfl⟩)
    · show w = s_if (s_lt w v) w v
      rw [s_if_p q]
    · show v = s_if (s_lt w v) w v
      rw [s_if_n q]
  · intro e
    subst e
    obtain ⟨d, rfl⟩ := Nat.exists_eq_add_of_le' (show 1 ≤ d by omega)
    apply met_X17_takes
    unfold wp_X17_takes
    have hs := fc_lt_gt hw.f hv.f
    refine ⟨_, fun _ _ _ h => h, ?_⟩
    refine ⟨fun hp1 nx1 => ¬ s_gt w v ∧ hp1 = cput g x0 P σ hp ∧ nx1 = nx, ?_, fun q => ⟨?_, rfl, rfl⟩, fun q => ?_⟩
    · rintro hp1 nx1 ⟨h, rfl, rfl⟩
      refine ⟨Or.inl rfl, ?_, rfl, rfl⟩
      show v = s_if (s_gt w v) w v
      rw [s_if_n h]
    · intro z
      have h1 := fc_l0.mp q
      have h2 := hs.mp z
      unfold s_eq at h1
      unfold s_lt at h2
      rw [h1] at h2
      exact absurd h2 (by decide)
    · have hne : ¬ s_eq v w := fun z => q (fc_l0.mpr z)
      rw [ch_o hW ha (by decide)]
      refine c_takes (by omega) (fun z => ⟨fun e => absurd e (by decide), fun _ => ⟨?_, rfl, rfl⟩⟩) (fun z => ⟨fun _ => ⟨Or.inr rfl, ?_, rfl, rfl⟩, fun e => absurd (show (0 : Int32) = 0 from rfl) e⟩)
      · intro y
        unfold s_gt at y
        unfold s_lt at z
        rw [z] at y
        exact absurd y (by decide)
      · show w = s_if (s_gt w v) w v
        have hn := fc_some hv.f hw.f
        have : s_gt w v := by
          rw [hs]
          unfold s_lt
          cases h3 : FP.dcmp v w with
          | none => exact absurd h3 hn
          | some o =>
            cases o with
            | lt => rfl
            | eq => exact absurd h3 hne
            | gt => exact absurd ((fc_lt_gt hv.f hw.f).mp h3) z
        rw [s_if_p this]
theorem c_joinC {a : Nat} {fs : List Value} {z : Int32} (hW : cW g x0 P hp) (ha : hp a = some (.inr (29, fs))) (hz : fs[4]? = some (.int z)) {v w : UInt64} {K : UInt64 → zHp → Nat → Prop} (hd : 1 ≤ d) (hK : K (s_op (if z = 0 then 7 else 6) v w) (cput g x0 P σ hp) nx) : zMt l g yX29_joined cX29_joined 5 (some .double) d 0 0 [.ref a, .double v, .double w] (cput g x0 P σ hp) nx (zQd g K) := by
  obtain ⟨d, rfl⟩ := Nat.exists_eq_add_of_le' (show 1 ≤ d by omega)
  apply met_X29_joined
  unfold wp_X29_joined
  rw [ch_I hW ha hz (by decide)]
  refine ⟨_, fun _ h => h, ?_⟩
  refine ⟨_, fun h => h, ?_⟩
  refine ⟨_, fun h => h, ?_⟩
  refine ⟨fun e => ?_, fun e => ?_⟩
  · rw [if_pos e] at hK
    have hK : K (s_if (s_eq v w) FP.dconst1 FP.dconst0) (cput g x0 P σ hp) nx := hK
    refine ⟨fun q => ?_, fun q => ?_⟩
    · rw [s_if_p (fc_l0.mp q)] at hK; exact hK
    · rw [s_if_n (fun y => q (fc_l0.mpr y))] at hK; exact hK
  · rw [if_neg e] at hK
    have hK : K (s_if (s_lt v w) FP.dconst1 FP.dconst0) (cput g x0 P σ hp) nx := hK
    refine ⟨fun q => ?_, fun q => ?_⟩
    · rw [s_if_n (fc_gle.mp q)] at hK; exact hK
    · rw [s_if_p (Classical.not_not.mp (fun y => q (fc_gle.mpr y)))] at hK; exact hK
end WO
