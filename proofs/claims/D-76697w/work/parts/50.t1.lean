set_option maxRecDepth 100000
section T1
variable {l : Launch} {g : zG} {d m0 : Nat} {τ : tS} {hp : zHp} {nx : Nat}
theorem tw_zo {K : Nat → Nat → List Value → Prop} : zo (tput g m0 τ hp) (some m0) [5] K = K m0 5 ((List.range 76).map (twF m0 τ)) := by
  unfold zo
  simp only [tput_0, List.mem_singleton, true_and]
theorem t_in {x0 x1 x2 : Int32} {K : Int32 → zHp → Nat → Prop} (hK : K (if x0 < x1 ∨ x2 < x0 then 0 else 1) hp nx) : zMt l g yX5_in cX5_in 3 (some .boolean) (d + 1) 0 0 [.int x0, .int x1, .int x2] hp nx (zQi g K) := by
  apply met_X5_in
  unfold wp_X5_in
  refine ⟨_, fun _ h => h, _, fun h => h, fun h => ?_, fun h => ⟨fun h2 => ?_, fun h2 => ?_⟩⟩
  · simpa [h] using hK
  · simpa [h, h2] using hK
  · simpa [h, h2] using hK
theorem t_isCell {x : Int32} {K : Int32 → zHp → Nat → Prop} (hK : K (if x < 0 ∨ 23 < x then 0 else 1) hp nx) : zMt l g yX5_isCell cX5_isCell 1 (some .boolean) (d + 2) 0 0 [.int x] hp nx (zQi g K) := by
  apply met_X5_isCell
  unfold wp_X5_isCell
  refine t_in ⟨?_, hK⟩
  split
  · exact Or.inl rfl
  · exact Or.inr rfl
theorem t_isTable {x : Int32} {K : Int32 → zHp → Nat → Prop} (hK : K (if x < 0 ∨ 5 < x then 0 else 1) hp nx) : zMt l g yX5_isTable cX5_isTable 1 (some .boolean) (d + 2) 0 0 [.int x] hp nx (zQi g K) := by
  apply met_X5_isTable
  unfold wp_X5_isTable
  refine t_in ⟨?_, hK⟩
  split
  · exact Or.inl rfl
  · exact Or.inr rfl
theorem t_isInput {c : Nat} (hc : c < 24) {K : Int32 → zHp → Nat → Prop} (hK : K (if τ.2.2.1 3 0 c = 0 then 1 else 0) (tput g m0 τ hp) nx) : zMt l g yX5_isInput cX5_isInput 2 (some .boolean) (d + 1) 0 0 [.ref m0, .int (nI c)] (tput g m0 τ hp) nx (zQi g K) := by
  apply met_X5_isInput
  unfold wp_X5_isInput
  simp only [tg_sizes, ta_sizes, forall_eq, nI_clamp (show c < 2 ^ 31 by omega)]
  refine ⟨vp_in_nI hc (by decide), _, fun _ h => h, fun h => ?_, fun h => ?_⟩
  · exact ⟨Or.inr rfl, by simpa [h] using hK⟩
  · exact ⟨Or.inl rfl, by simpa [h] using hK⟩
theorem t_namesCells {c : Nat} (hc : c < 24) {K : Int32 → zHp → Nat → Prop} (hK : K (τ.2.2.1 12 0 c) (tput g m0 τ hp) nx) : zMt l g yX5_namesCells cX5_namesCells 2 (some .int) (d + 1) 0 0 [.ref m0, .int (nI c)] (tput g m0 τ hp) nx (zQi g K) := by
  apply met_X5_namesCells
  unfold wp_X5_namesCells
  simp only [tg_cellNames, ta_cellNames, forall_eq, nI_clamp (show c < 2 ^ 31 by omega)]
  exact ⟨vp_in_nI hc (by decide), hK⟩
theorem t_times {c t : Nat} (hc : c < 24) (ht : t < 6) {K : Int32 → zHp → Nat → Prop} (hK : K (τ.2.2.1 13 c t) (tput g m0 τ hp) nx) : zMt l g yX5_times cX5_times 3 (some .int) (d + 1) 0 0 [.ref m0, .int (nI c), .int (nI t)] (tput g m0 τ hp) nx (zQi g K) := by
  apply met_X5_times
  unfold wp_X5_times
  simp only [tg_tableTimes, ta_tableTimes, forall_eq, nI_clamp (show c < 2 ^ 31 by omega), nI_clamp (show t < 2 ^ 31 by omega), tb_tableTimes hc]
  exact ⟨vp_in_nI hc (by decide), vp_in_nI ht (by decide), hK⟩
end T1
