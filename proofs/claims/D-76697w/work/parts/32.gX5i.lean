set_option maxRecDepth 100000
theorem ff_X5_9 {ci : Nat} (h : ci ∈ [5]) : zFf "WhatIfSheetModel" 9 ci 0 (.array .int) := by
  simp only [List.mem_cons, List.not_mem_nil, or_false] at h
  rcases h with rfl
  · exact ⟨RX5, TX5, 76, rfl, by decide, q2674, rfl, rfl, by decide +kernel⟩
theorem ff_X5_13 {ci : Nat} (h : ci ∈ [5]) : zFf "WhatIfSheetModel" 13 ci 1 (.array .boolean) := by
  simp only [List.mem_cons, List.not_mem_nil, or_false] at h
  rcases h with rfl
  · exact ⟨RX5, TX5, 76, rfl, by decide, q2675, rfl, rfl, by decide +kernel⟩
theorem ff_X5_17 {ci : Nat} (h : ci ∈ [5]) : zFf "WhatIfSheetModel" 17 ci 2 (.array .double) := by
  simp only [List.mem_cons, List.not_mem_nil, or_false] at h
  rcases h with rfl
  · exact ⟨RX5, TX5, 76, rfl, by decide, q2676, rfl, rfl, by decide +kernel⟩
theorem ff_X5_21 {ci : Nat} (h : ci ∈ [5]) : zFf "WhatIfSheetModel" 21 ci 3 (.array .int) := by
  simp only [List.mem_cons, List.not_mem_nil, or_false] at h
  rcases h with rfl
  · exact ⟨RX5, TX5, 76, rfl, by decide, q2677, rfl, rfl, by decide +kernel⟩
theorem ff_X5_26 {ci : Nat} (h : ci ∈ [5]) : zFf "WhatIfSheetModel" 26 ci 4 (.array (.array .int)) := by
  simp only [List.mem_cons, List.not_mem_nil, or_false] at h
  rcases h with rfl
  · exact ⟨RX5, TX5, 76, rfl, by decide, q2678, rfl, rfl, by decide +kernel⟩
theorem ff_X5_31 {ci : Nat} (h : ci ∈ [5]) : zFf "WhatIfSheetModel" 31 ci 5 (.array (.array .double)) := by
  simp only [List.mem_cons, List.not_mem_nil, or_false] at h
  rcases h with rfl
  · exact ⟨RX5, TX5, 76, rfl, by decide, q2679, rfl, rfl, by decide +kernel⟩
theorem ff_X5_34 {ci : Nat} (h : ci ∈ [5]) : zFf "WhatIfSheetModel" 34 ci 6 (.array .boolean) := by
  simp only [List.mem_cons, List.not_mem_nil, or_false] at h
  rcases h with rfl
  · exact ⟨RX5, TX5, 76, rfl, by decide, q2680, rfl, rfl, by decide +kernel⟩
theorem ff_X5_37 {ci : Nat} (h : ci ∈ [5]) : zFf "WhatIfSheetModel" 37 ci 7 (.array .int) := by
  simp only [List.mem_cons, List.not_mem_nil, or_false] at h
  rcases h with rfl
  · exact ⟨RX5, TX5, 76, rfl, by decide, q2681, rfl, rfl, by decide +kernel⟩
theorem ff_X5_40 {ci : Nat} (h : ci ∈ [5]) : zFf "WhatIfSheetModel" 40 ci 8 (.array .int) := by
  simp only [List.mem_cons, List.not_mem_nil, or_false] at h
  rcases h with rfl
  · exact ⟨RX5, TX5, 76, rfl, by decide, q2682, rfl, rfl, by decide +kernel⟩
theorem ff_X5_43 {ci : Nat} (h : ci ∈ [5]) : zFf "WhatIfSheetModel" 43 ci 9 (.array .int) := by
  simp only [List.mem_cons, List.not_mem_nil, or_false] at h
  rcases h with rfl
  · exact ⟨RX5, TX5, 76, rfl, by decide, q2683, rfl, rfl, by decide +kernel⟩
theorem ff_X5_46 {ci : Nat} (h : ci ∈ [5]) : zFf "WhatIfSheetModel" 46 ci 10 (.array .int) := by
  simp only [List.mem_cons, List.not_mem_nil, or_false] at h
  rcases h with rfl
  · exact ⟨RX5, TX5, 76, rfl, by decide, q2684, rfl, rfl, by decide +kernel⟩
theorem ff_X5_49 {ci : Nat} (h : ci ∈ [5]) : zFf "WhatIfSheetModel" 49 ci 11 (.array (.array .double)) := by
  simp only [List.mem_cons, List.not_mem_nil, or_false] at h
  rcases h with rfl
  · exact ⟨RX5, TX5, 76, rfl, by decide, q2685, rfl, rfl, by decide +kernel⟩
theorem ff_X5_52 {ci : Nat} (h : ci ∈ [5]) : zFf "WhatIfSheetModel" 52 ci 12 (.array .int) := by
  simp only [List.mem_cons, List.not_mem_nil, or_false] at h
  rcases h with rfl
  · exact ⟨RX5, TX5, 76, rfl, by decide, q2686, rfl, rfl, by decide +kernel⟩
theorem ff_X5_55 {ci : Nat} (h : ci ∈ [5]) : zFf "WhatIfSheetModel" 55 ci 13 (.array (.array .int)) := by
  simp only [List.mem_cons, List.not_mem_nil, or_false] at h
  rcases h with rfl
  · exact ⟨RX5, TX5, 76, rfl, by decide, q2687, rfl, rfl, by decide +kernel⟩
theorem ff_X5_58 {ci : Nat} (h : ci ∈ [5]) : zFf "WhatIfSheetModel" 58 ci 14 (.array .boolean) := by
  simp only [List.mem_cons, List.not_mem_nil, or_false] at h
  rcases h with rfl
  · exact ⟨RX5, TX5, 76, rfl, by decide, q2688, rfl, rfl, by decide +kernel⟩
theorem ff_X5_61 {ci : Nat} (h : ci ∈ [5]) : zFf "WhatIfSheetModel" 61 ci 15 (.array .int) := by
  simp only [List.mem_cons, List.not_mem_nil, or_false] at h
  rcases h with rfl
  · exact ⟨RX5, TX5, 76, rfl, by decide, q2689, rfl, rfl, by decide +kernel⟩
theorem ff_X5_64 {ci : Nat} (h : ci ∈ [5]) : zFf "WhatIfSheetModel" 64 ci 16 (.array .boolean) := by
  simp only [List.mem_cons, List.not_mem_nil, or_false] at h
  rcases h with rfl
  · exact ⟨RX5, TX5, 76, rfl, by decide, q2690, rfl, rfl, by decide +kernel⟩
theorem ff_X5_67 {ci : Nat} (h : ci ∈ [5]) : zFf "WhatIfSheetModel" 67 ci 17 (.array .int) := by
  simp only [List.mem_cons, List.not_mem_nil, or_false] at h
  rcases h with rfl
  · exact ⟨RX5, TX5, 76, rfl, by decide, q2691, rfl, rfl, by decide +kernel⟩
theorem ff_X5_72 {ci : Nat} (h : ci ∈ [5]) : zFf "WhatIfSheetModel" 72 ci 19 (.array (.array .boolean)) := by
  simp only [List.mem_cons, List.not_mem_nil, or_false] at h
  rcases h with rfl
  · exact ⟨RX5, TX5, 76, rfl, by decide, q2693, rfl, rfl, by decide +kernel⟩
theorem ff_X5_75 {ci : Nat} (h : ci ∈ [5]) : zFf "WhatIfSheetModel" 75 ci 20 (.array (.array .double)) := by
  simp only [List.mem_cons, List.not_mem_nil, or_false] at h
  rcases h with rfl
  · exact ⟨RX5, TX5, 76, rfl, by decide, q2694, rfl, rfl, by decide +kernel⟩
theorem ff_X5_78 {ci : Nat} (h : ci ∈ [5]) : zFf "WhatIfSheetModel" 78 ci 21 (.array (.array .int)) := by
  simp only [List.mem_cons, List.not_mem_nil, or_false] at h
  rcases h with rfl
  · exact ⟨RX5, TX5, 76, rfl, by decide, q2695, rfl, rfl, by decide +kernel⟩
theorem ff_X5_81 {ci : Nat} (h : ci ∈ [5]) : zFf "WhatIfSheetModel" 81 ci 22 (.array (.array .int)) := by
  simp only [List.mem_cons, List.not_mem_nil, or_false] at h
  rcases h with rfl
  · exact ⟨RX5, TX5, 76, rfl, by decide, q2696, rfl, rfl, by decide +kernel⟩
theorem ff_X5_84 {ci : Nat} (h : ci ∈ [5]) : zFf "WhatIfSheetModel" 84 ci 23 (.array (.array .boolean)) := by
  simp only [List.mem_cons, List.not_mem_nil, or_false] at h
  rcases h with rfl
  · exact ⟨RX5, TX5, 76, rfl, by decide, q2697, rfl, rfl, by decide +kernel⟩
theorem ff_X5_87 {ci : Nat} (h : ci ∈ [5]) : zFf "WhatIfSheetModel" 87 ci 24 (.array (.array .double)) := by
  simp only [List.mem_cons, List.not_mem_nil, or_false] at h
  rcases h with rfl
  · exact ⟨RX5, TX5, 76, rfl, by decide, q2698, rfl, rfl, by decide +kernel⟩
theorem ff_X5_90 {ci : Nat} (h : ci ∈ [5]) : zFf "WhatIfSheetModel" 90 ci 25 (.array (.array .int)) := by
  simp only [List.mem_cons, List.not_mem_nil, or_false] at h
  rcases h with rfl
  · exact ⟨RX5, TX5, 76, rfl, by decide, q2699, rfl, rfl, by decide +kernel⟩
theorem ff_X5_93 {ci : Nat} (h : ci ∈ [5]) : zFf "WhatIfSheetModel" 93 ci 27 (.array .double) := by
  simp only [List.mem_cons, List.not_mem_nil, or_false] at h
  rcases h with rfl
  · exact ⟨RX5, TX5, 76, rfl, by decide, q2701, rfl, rfl, by decide +kernel⟩
theorem ff_X5_96 {ci : Nat} (h : ci ∈ [5]) : zFf "WhatIfSheetModel" 96 ci 28 (.array .int) := by
  simp only [List.mem_cons, List.not_mem_nil, or_false] at h
  rcases h with rfl
  · exact ⟨RX5, TX5, 76, rfl, by decide, q2702, rfl, rfl, by decide +kernel⟩
theorem ff_X5_99 {ci : Nat} (h : ci ∈ [5]) : zFf "WhatIfSheetModel" 99 ci 29 (.array .int) := by
  simp only [List.mem_cons, List.not_mem_nil, or_false] at h
  rcases h with rfl
  · exact ⟨RX5, TX5, 76, rfl, by decide, q2703, rfl, rfl, by decide +kernel⟩
theorem ff_X5_102 {ci : Nat} (h : ci ∈ [5]) : zFf "WhatIfSheetModel" 102 ci 33 (.array .int) := by
  simp only [List.mem_cons, List.not_mem_nil, or_false] at h
  rcases h with rfl
  · exact ⟨RX5, TX5, 76, rfl, by decide, q2707, rfl, rfl, by decide +kernel⟩
theorem ff_X5_105 {ci : Nat} (h : ci ∈ [5]) : zFf "WhatIfSheetModel" 105 ci 35 (.array .int) := by
  simp only [List.mem_cons, List.not_mem_nil, or_false] at h
  rcases h with rfl
  · exact ⟨RX5, TX5, 76, rfl, by decide, q2709, rfl, rfl, by decide +kernel⟩
theorem ff_X5_108 {ci : Nat} (h : ci ∈ [5]) : zFf "WhatIfSheetModel" 108 ci 36 (.array .double) := by
  simp only [List.mem_cons, List.not_mem_nil, or_false] at h
  rcases h with rfl
  · exact ⟨RX5, TX5, 76, rfl, by decide, q2710, rfl, rfl, by decide +kernel⟩
theorem ff_X5_111 {ci : Nat} (h : ci ∈ [5]) : zFf "WhatIfSheetModel" 111 ci 47 (.array .int) := by
  simp only [List.mem_cons, List.not_mem_nil, or_false] at h
  rcases h with rfl
  · exact ⟨RX5, TX5, 76, rfl, by decide, q2721, rfl, rfl, by decide +kernel⟩
theorem ff_X5_114 {ci : Nat} (h : ci ∈ [5]) : zFf "WhatIfSheetModel" 114 ci 48 (.array .double) := by
  simp only [List.mem_cons, List.not_mem_nil, or_false] at h
  rcases h with rfl
  · exact ⟨RX5, TX5, 76, rfl, by decide, q2722, rfl, rfl, by decide +kernel⟩
theorem ff_X5_117 {ci : Nat} (h : ci ∈ [5]) : zFf "WhatIfSheetModel" 117 ci 49 (.array .boolean) := by
  simp only [List.mem_cons, List.not_mem_nil, or_false] at h
  rcases h with rfl
  · exact ⟨RX5, TX5, 76, rfl, by decide, q2723, rfl, rfl, by decide +kernel⟩
theorem ff_X5_120 {ci : Nat} (h : ci ∈ [5]) : zFf "WhatIfSheetModel" 120 ci 50 (.array .int) := by
  simp only [List.mem_cons, List.not_mem_nil, or_false] at h
  rcases h with rfl
  · exact ⟨RX5, TX5, 76, rfl, by decide, q2724, rfl, rfl, by decide +kernel⟩
theorem ff_X5_123 {ci : Nat} (h : ci ∈ [5]) : zFf "WhatIfSheetModel" 123 ci 55 (.array .double) := by
  simp only [List.mem_cons, List.not_mem_nil, or_false] at h
  rcases h with rfl
  · exact ⟨RX5, TX5, 76, rfl, by decide, q2729, rfl, rfl, by decide +kernel⟩
theorem ff_X5_126 {ci : Nat} (h : ci ∈ [5]) : zFf "WhatIfSheetModel" 126 ci 56 (.array .boolean) := by
  simp only [List.mem_cons, List.not_mem_nil, or_false] at h
  rcases h with rfl
  · exact ⟨RX5, TX5, 76, rfl, by decide, q2730, rfl, rfl, by decide +kernel⟩
theorem ff_X5_129 {ci : Nat} (h : ci ∈ [5]) : zFf "WhatIfSheetModel" 129 ci 58 (.array .int) := by
  simp only [List.mem_cons, List.not_mem_nil, or_false] at h
  rcases h with rfl
  · exact ⟨RX5, TX5, 76, rfl, by decide, q2732, rfl, rfl, by decide +kernel⟩
theorem ff_X5_132 {ci : Nat} (h : ci ∈ [5]) : zFf "WhatIfSheetModel" 132 ci 59 (.array .int) := by
  simp only [List.mem_cons, List.not_mem_nil, or_false] at h
  rcases h with rfl
  · exact ⟨RX5, TX5, 76, rfl, by decide, q2733, rfl, rfl, by decide +kernel⟩
theorem ff_X5_135 {ci : Nat} (h : ci ∈ [5]) : zFf "WhatIfSheetModel" 135 ci 60 (.array .boolean) := by
  simp only [List.mem_cons, List.not_mem_nil, or_false] at h
  rcases h with rfl
  · exact ⟨RX5, TX5, 76, rfl, by decide, q2734, rfl, rfl, by decide +kernel⟩
theorem ff_X5_138 {ci : Nat} (h : ci ∈ [5]) : zFf "WhatIfSheetModel" 138 ci 61 (.array .boolean) := by
  simp only [List.mem_cons, List.not_mem_nil, or_false] at h
  rcases h with rfl
  · exact ⟨RX5, TX5, 76, rfl, by decide, q2735, rfl, rfl, by decide +kernel⟩
theorem ff_X5_141 {ci : Nat} (h : ci ∈ [5]) : zFf "WhatIfSheetModel" 141 ci 62 (.array .double) := by
  simp only [List.mem_cons, List.not_mem_nil, or_false] at h
  rcases h with rfl
  · exact ⟨RX5, TX5, 76, rfl, by decide, q2736, rfl, rfl, by decide +kernel⟩
theorem ff_X5_144 {ci : Nat} (h : ci ∈ [5]) : zFf "WhatIfSheetModel" 144 ci 63 (.array (.array .int)) := by
  simp only [List.mem_cons, List.not_mem_nil, or_false] at h
  rcases h with rfl
  · exact ⟨RX5, TX5, 76, rfl, by decide, q2737, rfl, rfl, by decide +kernel⟩
theorem ff_X5_147 {ci : Nat} (h : ci ∈ [5]) : zFf "WhatIfSheetModel" 147 ci 64 (.array (.array .double)) := by
  simp only [List.mem_cons, List.not_mem_nil, or_false] at h
  rcases h with rfl
  · exact ⟨RX5, TX5, 76, rfl, by decide, q2738, rfl, rfl, by decide +kernel⟩
theorem ff_X5_150 {ci : Nat} (h : ci ∈ [5]) : zFf "WhatIfSheetModel" 150 ci 65 (.array .int) := by
  simp only [List.mem_cons, List.not_mem_nil, or_false] at h
  rcases h with rfl
  · exact ⟨RX5, TX5, 76, rfl, by decide, q2739, rfl, rfl, by decide +kernel⟩
theorem ff_X5_153 {ci : Nat} (h : ci ∈ [5]) : zFf "WhatIfSheetModel" 153 ci 66 (.array .int) := by
  simp only [List.mem_cons, List.not_mem_nil, or_false] at h
  rcases h with rfl
  · exact ⟨RX5, TX5, 76, rfl, by decide, q2740, rfl, rfl, by decide +kernel⟩
theorem ff_X5_156 {ci : Nat} (h : ci ∈ [5]) : zFf "WhatIfSheetModel" 156 ci 67 (.array .int) := by
  simp only [List.mem_cons, List.not_mem_nil, or_false] at h
  rcases h with rfl
  · exact ⟨RX5, TX5, 76, rfl, by decide, q2741, rfl, rfl, by decide +kernel⟩
theorem ff_X5_159 {ci : Nat} (h : ci ∈ [5]) : zFf "WhatIfSheetModel" 159 ci 68 (.array .int) := by
  simp only [List.mem_cons, List.not_mem_nil, or_false] at h
  rcases h with rfl
  · exact ⟨RX5, TX5, 76, rfl, by decide, q2742, rfl, rfl, by decide +kernel⟩
theorem ff_X5_162 {ci : Nat} (h : ci ∈ [5]) : zFf "WhatIfSheetModel" 162 ci 69 (.array (.array .double)) := by
  simp only [List.mem_cons, List.not_mem_nil, or_false] at h
  rcases h with rfl
  · exact ⟨RX5, TX5, 76, rfl, by decide, q2743, rfl, rfl, by decide +kernel⟩
theorem ff_X5_165 {ci : Nat} (h : ci ∈ [5]) : zFf "WhatIfSheetModel" 165 ci 70 (.array .int) := by
  simp only [List.mem_cons, List.not_mem_nil, or_false] at h
  rcases h with rfl
  · exact ⟨RX5, TX5, 76, rfl, by decide, q2744, rfl, rfl, by decide +kernel⟩
theorem ff_X5_168 {ci : Nat} (h : ci ∈ [5]) : zFf "WhatIfSheetModel" 168 ci 71 (.array .int) := by
  simp only [List.mem_cons, List.not_mem_nil, or_false] at h
  rcases h with rfl
  · exact ⟨RX5, TX5, 76, rfl, by decide, q2745, rfl, rfl, by decide +kernel⟩
theorem ff_X5_171 {ci : Nat} (h : ci ∈ [5]) : zFf "WhatIfSheetModel" 171 ci 72 (.array (.array .double)) := by
  simp only [List.mem_cons, List.not_mem_nil, or_false] at h
  rcases h with rfl
  · exact ⟨RX5, TX5, 76, rfl, by decide, q2746, rfl, rfl, by decide +kernel⟩
theorem ff_X5_174 {ci : Nat} (h : ci ∈ [5]) : zFf "WhatIfSheetModel" 174 ci 73 (.array (.array .boolean)) := by
  simp only [List.mem_cons, List.not_mem_nil, or_false] at h
  rcases h with rfl
  · exact ⟨RX5, TX5, 76, rfl, by decide, q2747, rfl, rfl, by decide +kernel⟩
theorem ff_X5_177 {ci : Nat} (h : ci ∈ [5]) : zFf "WhatIfSheetModel" 177 ci 74 (.array .double) := by
  simp only [List.mem_cons, List.not_mem_nil, or_false] at h
  rcases h with rfl
  · exact ⟨RX5, TX5, 76, rfl, by decide, q2748, rfl, rfl, by decide +kernel⟩
theorem ff_X5_180 {ci : Nat} (h : ci ∈ [5]) : zFf "WhatIfSheetModel" 180 ci 75 (.array .boolean) := by
  simp only [List.mem_cons, List.not_mem_nil, or_false] at h
  rcases h with rfl
  · exact ⟨RX5, TX5, 76, rfl, by decide, q2749, rfl, rfl, by decide +kernel⟩
def wp_X5_init (l : Launch) (g : zG) (d : Nat) (mc ms : Nat) (h0 : Nat) (hp : zHp) (nx : Nat) (Post : zHp → Nat → Prop) : Prop :=
  (zna g mc ms hp nx 0 0 0 (24 : Int32) (.inl (fun _ => 0)) fun hp_1 =>
  ∀ nx_2 kc_3 ks_4 : Nat, nx_2 = (nx + 1) → kc_3 = (0 + 1) → ks_4 = (0 + (24 : Int32).toNatClampNeg) →
  (zpt g hp_1 (some h0) [5] 0 (va_rf (some nx)) fun hp_8 =>
  (zna g mc ms hp_8 nx_2 kc_3 ks_4 3 (24 : Int32) (.inl (fun _ => 0)) fun hp_9 =>
  ∀ nx_10 kc_11 ks_12 : Nat, nx_10 = (nx_2 + 1) → kc_11 = (kc_3 + 1) → ks_12 = (ks_4 + (24 : Int32).toNatClampNeg) →
  (zpt g hp_9 (some h0) [5] 1 (va_rf (some nx_2)) fun hp_16 =>
  (zna g mc ms hp_16 nx_10 kc_11 ks_12 1 (24 : Int32) (.inr (.inr (.inr (.inl (fun _ => 0))))) fun hp_17 =>
  ∀ nx_18 kc_19 ks_20 : Nat, nx_18 = (nx_10 + 1) → kc_19 = (kc_11 + 1) → ks_20 = (ks_12 + (24 : Int32).toNatClampNeg) →
  (zpt g hp_17 (some h0) [5] 2 (va_rf (some nx_10)) fun hp_24 =>
  (zna g mc ms hp_24 nx_18 kc_19 ks_20 0 (24 : Int32) (.inl (fun _ => 0)) fun hp_25 =>
  ∀ nx_26 kc_27 ks_28 : Nat, nx_26 = (nx_18 + 1) → kc_27 = (kc_19 + 1) → ks_28 = (ks_20 + (24 : Int32).toNatClampNeg) →
  (zpt g hp_25 (some h0) [5] 3 (va_rf (some nx_18)) fun hp_32 =>
  (znm g mc ms hp_32 nx_26 kc_27 ks_28 14 0 (24 : Int32) (96 : Int32) (.inl (fun _ => 0)) fun hp_33 =>
  ∀ nx_34 kc_35 ks_36 : Nat, nx_34 = (nx_26 + 1 + (24 : Int32).toNatClampNeg) → kc_35 = (kc_27 + 1 + (24 : Int32).toNatClampNeg) → ks_36 = (ks_28 + (24 : Int32).toNatClampNeg + (24 : Int32).toNatClampNeg * (96 : Int32).toNatClampNeg) →
  (zpt g hp_33 (some h0) [5] 4 (va_rf (some nx_26)) fun hp_40 =>
  (znm g mc ms hp_40 nx_34 kc_35 ks_36 15 1 (24 : Int32) (96 : Int32) (.inr (.inr (.inr (.inl (fun _ => 0))))) fun hp_41 =>
  ∀ nx_42 kc_43 ks_44 : Nat, nx_42 = (nx_34 + 1 + (24 : Int32).toNatClampNeg) → kc_43 = (kc_35 + 1 + (24 : Int32).toNatClampNeg) → ks_44 = (ks_36 + (24 : Int32).toNatClampNeg + (24 : Int32).toNatClampNeg * (96 : Int32).toNatClampNeg) →
  (zpt g hp_41 (some h0) [5] 5 (va_rf (some nx_34)) fun hp_48 =>
  (zna g mc ms hp_48 nx_42 kc_43 ks_44 3 (6 : Int32) (.inl (fun _ => 0)) fun hp_49 =>
  ∀ nx_50 kc_51 ks_52 : Nat, nx_50 = (nx_42 + 1) → kc_51 = (kc_43 + 1) → ks_52 = (ks_44 + (6 : Int32).toNatClampNeg) →
  (zpt g hp_49 (some h0) [5] 6 (va_rf (some nx_42)) fun hp_56 =>
  (zna g mc ms hp_56 nx_50 kc_51 ks_52 0 (6 : Int32) (.inl (fun _ => 0)) fun hp_57 =>
  ∀ nx_58 kc_59 ks_60 : Nat, nx_58 = (nx_50 + 1) → kc_59 = (kc_51 + 1) → ks_60 = (ks_52 + (6 : Int32).toNatClampNeg) →
  (zpt g hp_57 (some h0) [5] 7 (va_rf (some nx_50)) fun hp_64 =>
  (zna g mc ms hp_64 nx_58 kc_59 ks_60 0 (6 : Int32) (.inl (fun _ => 0)) fun hp_65 =>
  ∀ nx_66 kc_67 ks_68 : Nat, nx_66 = (nx_58 + 1) → kc_67 = (kc_59 + 1) → ks_68 = (ks_60 + (6 : Int32).toNatClampNeg) →
  (zpt g hp_65 (some h0) [5] 8 (va_rf (some nx_58)) fun hp_72 =>
  (zna g mc ms hp_72 nx_66 kc_67 ks_68 0 (6 : Int32) (.inl (fun _ => 0)) fun hp_73 =>
  ∀ nx_74 kc_75 ks_76 : Nat, nx_74 = (nx_66 + 1) → kc_75 = (kc_67 + 1) → ks_76 = (ks_68 + (6 : Int32).toNatClampNeg) →
  (zpt g hp_73 (some h0) [5] 9 (va_rf (some nx_66)) fun hp_80 =>
  (zna g mc ms hp_80 nx_74 kc_75 ks_76 0 (12 : Int32) (.inl (fun _ => 0)) fun hp_81 =>
  ∀ nx_82 kc_83 ks_84 : Nat, nx_82 = (nx_74 + 1) → kc_83 = (kc_75 + 1) → ks_84 = (ks_76 + (12 : Int32).toNatClampNeg) →
  (zpt g hp_81 (some h0) [5] 10 (va_rf (some nx_74)) fun hp_88 =>
  (znm g mc ms hp_88 nx_82 kc_83 ks_84 15 1 (12 : Int32) (8 : Int32) (.inr (.inr (.inr (.inl (fun _ => 0))))) fun hp_89 =>
  ∀ nx_90 kc_91 ks_92 : Nat, nx_90 = (nx_82 + 1 + (12 : Int32).toNatClampNeg) → kc_91 = (kc_83 + 1 + (12 : Int32).toNatClampNeg) → ks_92 = (ks_84 + (12 : Int32).toNatClampNeg + (12 : Int32).toNatClampNeg * (8 : Int32).toNatClampNeg) →
  (zpt g hp_89 (some h0) [5] 11 (va_rf (some nx_82)) fun hp_96 =>
  (zna g mc ms hp_96 nx_90 kc_91 ks_92 0 (24 : Int32) (.inl (fun _ => 0)) fun hp_97 =>
  ∀ nx_98 kc_99 ks_100 : Nat, nx_98 = (nx_90 + 1) → kc_99 = (kc_91 + 1) → ks_100 = (ks_92 + (24 : Int32).toNatClampNeg) →
  (zpt g hp_97 (some h0) [5] 12 (va_rf (some nx_90)) fun hp_104 =>
  (znm g mc ms hp_104 nx_98 kc_99 ks_100 14 0 (24 : Int32) (6 : Int32) (.inl (fun _ => 0)) fun hp_105 =>
  ∀ nx_106 kc_107 ks_108 : Nat, nx_106 = (nx_98 + 1 + (24 : Int32).toNatClampNeg) → kc_107 = (kc_99 + 1 + (24 : Int32).toNatClampNeg) → ks_108 = (ks_100 + (24 : Int32).toNatClampNeg + (24 : Int32).toNatClampNeg * (6 : Int32).toNatClampNeg) →
  (zpt g hp_105 (some h0) [5] 13 (va_rf (some nx_98)) fun hp_112 =>
  (zna g mc ms hp_112 nx_106 kc_107 ks_108 3 (24 : Int32) (.inl (fun _ => 0)) fun hp_113 =>
  ∀ nx_114 kc_115 ks_116 : Nat, nx_114 = (nx_106 + 1) → kc_115 = (kc_107 + 1) → ks_116 = (ks_108 + (24 : Int32).toNatClampNeg) →
  (zpt g hp_113 (some h0) [5] 14 (va_rf (some nx_106)) fun hp_120 =>
  (zna g mc ms hp_120 nx_114 kc_115 ks_116 0 (24 : Int32) (.inl (fun _ => 0)) fun hp_121 =>
  ∀ nx_122 kc_123 ks_124 : Nat, nx_122 = (nx_114 + 1) → kc_123 = (kc_115 + 1) → ks_124 = (ks_116 + (24 : Int32).toNatClampNeg) →
  (zpt g hp_121 (some h0) [5] 15 (va_rf (some nx_114)) fun hp_128 =>
  (zna g mc ms hp_128 nx_122 kc_123 ks_124 3 (24 : Int32) (.inl (fun _ => 0)) fun hp_129 =>
  ∀ nx_130 kc_131 ks_132 : Nat, nx_130 = (nx_122 + 1) → kc_131 = (kc_123 + 1) → ks_132 = (ks_124 + (24 : Int32).toNatClampNeg) →
  (zpt g hp_129 (some h0) [5] 16 (va_rf (some nx_122)) fun hp_136 =>
  (zna g mc ms hp_136 nx_130 kc_131 ks_132 0 (24 : Int32) (.inl (fun _ => 0)) fun hp_137 =>
  ∀ nx_138 kc_139 ks_140 : Nat, nx_138 = (nx_130 + 1) → kc_139 = (kc_131 + 1) → ks_140 = (ks_132 + (24 : Int32).toNatClampNeg) →
  (zpt g hp_137 (some h0) [5] 17 (va_rf (some nx_130)) fun hp_144 =>
  (znm g mc ms hp_144 nx_138 kc_139 ks_140 16 3 (7 : Int32) (24 : Int32) (.inl (fun _ => 0)) fun hp_145 =>
  ∀ nx_146 kc_147 ks_148 : Nat, nx_146 = (nx_138 + 1 + (7 : Int32).toNatClampNeg) → kc_147 = (kc_139 + 1 + (7 : Int32).toNatClampNeg) → ks_148 = (ks_140 + (7 : Int32).toNatClampNeg + (7 : Int32).toNatClampNeg * (24 : Int32).toNatClampNeg) →
  (zpt g hp_145 (some h0) [5] 19 (va_rf (some nx_138)) fun hp_152 =>
  (znm g mc ms hp_152 nx_146 kc_147 ks_148 15 1 (7 : Int32) (24 : Int32) (.inr (.inr (.inr (.inl (fun _ => 0))))) fun hp_153 =>
  ∀ nx_154 kc_155 ks_156 : Nat, nx_154 = (nx_146 + 1 + (7 : Int32).toNatClampNeg) → kc_155 = (kc_147 + 1 + (7 : Int32).toNatClampNeg) → ks_156 = (ks_148 + (7 : Int32).toNatClampNeg + (7 : Int32).toNatClampNeg * (24 : Int32).toNatClampNeg) →
  (zpt g hp_153 (some h0) [5] 20 (va_rf (some nx_146)) fun hp_160 =>
  (znm g mc ms hp_160 nx_154 kc_155 ks_156 14 0 (7 : Int32) (24 : Int32) (.inl (fun _ => 0)) fun hp_161 =>
  ∀ nx_162 kc_163 ks_164 : Nat, nx_162 = (nx_154 + 1 + (7 : Int32).toNatClampNeg) → kc_163 = (kc_155 + 1 + (7 : Int32).toNatClampNeg) → ks_164 = (ks_156 + (7 : Int32).toNatClampNeg + (7 : Int32).toNatClampNeg * (24 : Int32).toNatClampNeg) →
  (zpt g hp_161 (some h0) [5] 21 (va_rf (some nx_154)) fun hp_168 =>
  (znm g mc ms hp_168 nx_162 kc_163 ks_164 14 0 (7 : Int32) (24 : Int32) (.inl (fun _ => 0)) fun hp_169 =>
  ∀ nx_170 kc_171 ks_172 : Nat, nx_170 = (nx_162 + 1 + (7 : Int32).toNatClampNeg) → kc_171 = (kc_163 + 1 + (7 : Int32).toNatClampNeg) → ks_172 = (ks_164 + (7 : Int32).toNatClampNeg + (7 : Int32).toNatClampNeg * (24 : Int32).toNatClampNeg) →
  (zpt g hp_169 (some h0) [5] 22 (va_rf (some nx_162)) fun hp_176 =>
  (znm g mc ms hp_176 nx_170 kc_171 ks_172 16 3 (7 : Int32) (6 : Int32) (.inl (fun _ => 0)) fun hp_177 =>
  ∀ nx_178 kc_179 ks_180 : Nat, nx_178 = (nx_170 + 1 + (7 : Int32).toNatClampNeg) → kc_179 = (kc_171 + 1 + (7 : Int32).toNatClampNeg) → ks_180 = (ks_172 + (7 : Int32).toNatClampNeg + (7 : Int32).toNatClampNeg * (6 : Int32).toNatClampNeg) →
  (zpt g hp_177 (some h0) [5] 23 (va_rf (some nx_170)) fun hp_184 =>
  (znm g mc ms hp_184 nx_178 kc_179 ks_180 15 1 (7 : Int32) (30 : Int32) (.inr (.inr (.inr (.inl (fun _ => 0))))) fun hp_185 =>
  ∀ nx_186 kc_187 ks_188 : Nat, nx_186 = (nx_178 + 1 + (7 : Int32).toNatClampNeg) → kc_187 = (kc_179 + 1 + (7 : Int32).toNatClampNeg) → ks_188 = (ks_180 + (7 : Int32).toNatClampNeg + (7 : Int32).toNatClampNeg * (30 : Int32).toNatClampNeg) →
  (zpt g hp_185 (some h0) [5] 24 (va_rf (some nx_178)) fun hp_192 =>
  (znm g mc ms hp_192 nx_186 kc_187 ks_188 14 0 (7 : Int32) (30 : Int32) (.inl (fun _ => 0)) fun hp_193 =>
  ∀ nx_194 kc_195 ks_196 : Nat, nx_194 = (nx_186 + 1 + (7 : Int32).toNatClampNeg) → kc_195 = (kc_187 + 1 + (7 : Int32).toNatClampNeg) → ks_196 = (ks_188 + (7 : Int32).toNatClampNeg + (7 : Int32).toNatClampNeg * (30 : Int32).toNatClampNeg) →
  (zpt g hp_193 (some h0) [5] 25 (va_rf (some nx_186)) fun hp_200 =>
  (zna g mc ms hp_200 nx_194 kc_195 ks_196 1 (4800 : Int32) (.inr (.inr (.inr (.inl (fun _ => 0))))) fun hp_201 =>
  ∀ nx_202 kc_203 ks_204 : Nat, nx_202 = (nx_194 + 1) → kc_203 = (kc_195 + 1) → ks_204 = (ks_196 + (4800 : Int32).toNatClampNeg) →
  (zpt g hp_201 (some h0) [5] 27 (va_rf (some nx_194)) fun hp_208 =>
  (zna g mc ms hp_208 nx_202 kc_203 ks_204 0 (4800 : Int32) (.inl (fun _ => 0)) fun hp_209 =>
  ∀ nx_210 kc_211 ks_212 : Nat, nx_210 = (nx_202 + 1) → kc_211 = (kc_203 + 1) → ks_212 = (ks_204 + (4800 : Int32).toNatClampNeg) →
  (zpt g hp_209 (some h0) [5] 28 (va_rf (some nx_202)) fun hp_216 =>
  (zna g mc ms hp_216 nx_210 kc_211 ks_212 0 (4800 : Int32) (.inl (fun _ => 0)) fun hp_217 =>
  ∀ nx_218 kc_219 ks_220 : Nat, nx_218 = (nx_210 + 1) → kc_219 = (kc_211 + 1) → ks_220 = (ks_212 + (4800 : Int32).toNatClampNeg) →
  (zpt g hp_217 (some h0) [5] 29 (va_rf (some nx_210)) fun hp_224 =>
  (zna g mc ms hp_224 nx_218 kc_219 ks_220 0 (96 : Int32) (.inl (fun _ => 0)) fun hp_225 =>
  ∀ nx_226 kc_227 ks_228 : Nat, nx_226 = (nx_218 + 1) → kc_227 = (kc_219 + 1) → ks_228 = (ks_220 + (96 : Int32).toNatClampNeg) →
  (zpt g hp_225 (some h0) [5] 33 (va_rf (some nx_218)) fun hp_232 =>
  (zna g mc ms hp_232 nx_226 kc_227 ks_228 0 (96 : Int32) (.inl (fun _ => 0)) fun hp_233 =>
  ∀ nx_234 kc_235 ks_236 : Nat, nx_234 = (nx_226 + 1) → kc_235 = (kc_227 + 1) → ks_236 = (ks_228 + (96 : Int32).toNatClampNeg) →
  (zpt g hp_233 (some h0) [5] 35 (va_rf (some nx_226)) fun hp_240 =>
  (zna g mc ms hp_240 nx_234 kc_235 ks_236 1 (96 : Int32) (.inr (.inr (.inr (.inl (fun _ => 0))))) fun hp_241 =>
  ∀ nx_242 kc_243 ks_244 : Nat, nx_242 = (nx_234 + 1) → kc_243 = (kc_235 + 1) → ks_244 = (ks_236 + (96 : Int32).toNatClampNeg) →
  (zpt g hp_241 (some h0) [5] 36 (va_rf (some nx_234)) fun hp_248 =>
  (zna g mc ms hp_248 nx_242 kc_243 ks_244 0 (96 : Int32) (.inl (fun _ => 0)) fun hp_249 =>
  ∀ nx_250 kc_251 ks_252 : Nat, nx_250 = (nx_242 + 1) → kc_251 = (kc_243 + 1) → ks_252 = (ks_244 + (96 : Int32).toNatClampNeg) →
  (zpt g hp_249 (some h0) [5] 47 (va_rf (some nx_242)) fun hp_256 =>
  (zna g mc ms hp_256 nx_250 kc_251 ks_252 1 (96 : Int32) (.inr (.inr (.inr (.inl (fun _ => 0))))) fun hp_257 =>
  ∀ nx_258 kc_259 ks_260 : Nat, nx_258 = (nx_250 + 1) → kc_259 = (kc_251 + 1) → ks_260 = (ks_252 + (96 : Int32).toNatClampNeg) →
  (zpt g hp_257 (some h0) [5] 48 (va_rf (some nx_250)) fun hp_264 =>
  (zna g mc ms hp_264 nx_258 kc_259 ks_260 3 (6 : Int32) (.inl (fun _ => 0)) fun hp_265 =>
  ∀ nx_266 kc_267 ks_268 : Nat, nx_266 = (nx_258 + 1) → kc_267 = (kc_259 + 1) → ks_268 = (ks_260 + (6 : Int32).toNatClampNeg) →
  (zpt g hp_265 (some h0) [5] 49 (va_rf (some nx_258)) fun hp_272 =>
  (zna g mc ms hp_272 nx_266 kc_267 ks_268 0 (6 : Int32) (.inl (fun _ => 0)) fun hp_273 =>
  ∀ nx_274 kc_275 ks_276 : Nat, nx_274 = (nx_266 + 1) → kc_275 = (kc_267 + 1) → ks_276 = (ks_268 + (6 : Int32).toNatClampNeg) →
  (zpt g hp_273 (some h0) [5] 50 (va_rf (some nx_266)) fun hp_280 =>
  (zna g mc ms hp_280 nx_274 kc_275 ks_276 1 (24 : Int32) (.inr (.inr (.inr (.inl (fun _ => 0))))) fun hp_281 =>
  ∀ nx_282 kc_283 ks_284 : Nat, nx_282 = (nx_274 + 1) → kc_283 = (kc_275 + 1) → ks_284 = (ks_276 + (24 : Int32).toNatClampNeg) →
  (zpt g hp_281 (some h0) [5] 55 (va_rf (some nx_274)) fun hp_288 =>
  (zna g mc ms hp_288 nx_282 kc_283 ks_284 3 (24 : Int32) (.inl (fun _ => 0)) fun hp_289 =>
  ∀ nx_290 kc_291 ks_292 : Nat, nx_290 = (nx_282 + 1) → kc_291 = (kc_283 + 1) → ks_292 = (ks_284 + (24 : Int32).toNatClampNeg) →
  (zpt g hp_289 (some h0) [5] 56 (va_rf (some nx_282)) fun hp_296 =>
  (zna g mc ms hp_296 nx_290 kc_291 ks_292 0 (24 : Int32) (.inl (fun _ => 0)) fun hp_297 =>
  ∀ nx_298 kc_299 ks_300 : Nat, nx_298 = (nx_290 + 1) → kc_299 = (kc_291 + 1) → ks_300 = (ks_292 + (24 : Int32).toNatClampNeg) →
  (zpt g hp_297 (some h0) [5] 58 (va_rf (some nx_290)) fun hp_304 =>
  (zna g mc ms hp_304 nx_298 kc_299 ks_300 0 (24 : Int32) (.inl (fun _ => 0)) fun hp_305 =>
  ∀ nx_306 kc_307 ks_308 : Nat, nx_306 = (nx_298 + 1) → kc_307 = (kc_299 + 1) → ks_308 = (ks_300 + (24 : Int32).toNatClampNeg) →
  (zpt g hp_305 (some h0) [5] 59 (va_rf (some nx_298)) fun hp_312 =>
  (zna g mc ms hp_312 nx_306 kc_307 ks_308 3 (24 : Int32) (.inl (fun _ => 0)) fun hp_313 =>
  ∀ nx_314 kc_315 ks_316 : Nat, nx_314 = (nx_306 + 1) → kc_315 = (kc_307 + 1) → ks_316 = (ks_308 + (24 : Int32).toNatClampNeg) →
  (zpt g hp_313 (some h0) [5] 60 (va_rf (some nx_306)) fun hp_320 =>
  (zna g mc ms hp_320 nx_314 kc_315 ks_316 3 (6 : Int32) (.inl (fun _ => 0)) fun hp_321 =>
  ∀ nx_322 kc_323 ks_324 : Nat, nx_322 = (nx_314 + 1) → kc_323 = (kc_315 + 1) → ks_324 = (ks_316 + (6 : Int32).toNatClampNeg) →
  (zpt g hp_321 (some h0) [5] 61 (va_rf (some nx_314)) fun hp_328 =>
  (zna g mc ms hp_328 nx_322 kc_323 ks_324 1 (24 : Int32) (.inr (.inr (.inr (.inl (fun _ => 0))))) fun hp_329 =>
  ∀ nx_330 kc_331 ks_332 : Nat, nx_330 = (nx_322 + 1) → kc_331 = (kc_323 + 1) → ks_332 = (ks_324 + (24 : Int32).toNatClampNeg) →
  (zpt g hp_329 (some h0) [5] 62 (va_rf (some nx_322)) fun hp_336 =>
  (znm g mc ms hp_336 nx_330 kc_331 ks_332 14 0 (24 : Int32) (96 : Int32) (.inl (fun _ => 0)) fun hp_337 =>
  ∀ nx_338 kc_339 ks_340 : Nat, nx_338 = (nx_330 + 1 + (24 : Int32).toNatClampNeg) → kc_339 = (kc_331 + 1 + (24 : Int32).toNatClampNeg) → ks_340 = (ks_332 + (24 : Int32).toNatClampNeg + (24 : Int32).toNatClampNeg * (96 : Int32).toNatClampNeg) →
  (zpt g hp_337 (some h0) [5] 63 (va_rf (some nx_330)) fun hp_344 =>
  (znm g mc ms hp_344 nx_338 kc_339 ks_340 15 1 (24 : Int32) (96 : Int32) (.inr (.inr (.inr (.inl (fun _ => 0))))) fun hp_345 =>
  ∀ nx_346 kc_347 ks_348 : Nat, nx_346 = (nx_338 + 1 + (24 : Int32).toNatClampNeg) → kc_347 = (kc_339 + 1 + (24 : Int32).toNatClampNeg) → ks_348 = (ks_340 + (24 : Int32).toNatClampNeg + (24 : Int32).toNatClampNeg * (96 : Int32).toNatClampNeg) →
  (zpt g hp_345 (some h0) [5] 64 (va_rf (some nx_338)) fun hp_352 =>
  (zna g mc ms hp_352 nx_346 kc_347 ks_348 0 (6 : Int32) (.inl (fun _ => 0)) fun hp_353 =>
  ∀ nx_354 kc_355 ks_356 : Nat, nx_354 = (nx_346 + 1) → kc_355 = (kc_347 + 1) → ks_356 = (ks_348 + (6 : Int32).toNatClampNeg) →
  (zpt g hp_353 (some h0) [5] 65 (va_rf (some nx_346)) fun hp_360 =>
  (zna g mc ms hp_360 nx_354 kc_355 ks_356 0 (6 : Int32) (.inl (fun _ => 0)) fun hp_361 =>
  ∀ nx_362 kc_363 ks_364 : Nat, nx_362 = (nx_354 + 1) → kc_363 = (kc_355 + 1) → ks_364 = (ks_356 + (6 : Int32).toNatClampNeg) →
  (zpt g hp_361 (some h0) [5] 66 (va_rf (some nx_354)) fun hp_368 =>
  (zna g mc ms hp_368 nx_362 kc_363 ks_364 0 (6 : Int32) (.inl (fun _ => 0)) fun hp_369 =>
  ∀ nx_370 kc_371 ks_372 : Nat, nx_370 = (nx_362 + 1) → kc_371 = (kc_363 + 1) → ks_372 = (ks_364 + (6 : Int32).toNatClampNeg) →
  (zpt g hp_369 (some h0) [5] 67 (va_rf (some nx_362)) fun hp_376 =>
  (zna g mc ms hp_376 nx_370 kc_371 ks_372 0 (12 : Int32) (.inl (fun _ => 0)) fun hp_377 =>
  ∀ nx_378 kc_379 ks_380 : Nat, nx_378 = (nx_370 + 1) → kc_379 = (kc_371 + 1) → ks_380 = (ks_372 + (12 : Int32).toNatClampNeg) →
  (zpt g hp_377 (some h0) [5] 68 (va_rf (some nx_370)) fun hp_384 =>
  (znm g mc ms hp_384 nx_378 kc_379 ks_380 15 1 (12 : Int32) (8 : Int32) (.inr (.inr (.inr (.inl (fun _ => 0))))) fun hp_385 =>
  ∀ nx_386 kc_387 ks_388 : Nat, nx_386 = (nx_378 + 1 + (12 : Int32).toNatClampNeg) → kc_387 = (kc_379 + 1 + (12 : Int32).toNatClampNeg) → ks_388 = (ks_380 + (12 : Int32).toNatClampNeg + (12 : Int32).toNatClampNeg * (8 : Int32).toNatClampNeg) →
  (zpt g hp_385 (some h0) [5] 69 (va_rf (some nx_378)) fun hp_392 =>
  (zna g mc ms hp_392 nx_386 kc_387 ks_388 0 (4 : Int32) (.inl (fun _ => 0)) fun hp_393 =>
  ∀ nx_394 kc_395 ks_396 : Nat, nx_394 = (nx_386 + 1) → kc_395 = (kc_387 + 1) → ks_396 = (ks_388 + (4 : Int32).toNatClampNeg) →
  (zaI (g.2.1 0) hp_393 (some nx_386) fun a_397 n_398 f_399 => vp_in (0 : Int32) n_398 ∧ zB g ≤ a_397 ∧ ∀ hp_400 : zHp, hp_400 = va_up hp_393 a_397 (some (.inl (g.2.1 0, n_398, .inl (va_up f_399 (0 : Int32).toNatClampNeg (-1 : Int32))))) →
  (zaI (g.2.1 0) hp_400 (some nx_386) fun a_401 n_402 f_403 => vp_in (1 : Int32) n_402 ∧ zB g ≤ a_401 ∧ ∀ hp_404 : zHp, hp_404 = va_up hp_400 a_401 (some (.inl (g.2.1 0, n_402, .inl (va_up f_403 (1 : Int32).toNatClampNeg (-1 : Int32))))) →
  (zaI (g.2.1 0) hp_404 (some nx_386) fun a_405 n_406 f_407 => vp_in (2 : Int32) n_406 ∧ zB g ≤ a_405 ∧ ∀ hp_408 : zHp, hp_408 = va_up hp_404 a_405 (some (.inl (g.2.1 0, n_406, .inl (va_up f_407 (2 : Int32).toNatClampNeg (-1 : Int32))))) →
  (zaI (g.2.1 0) hp_408 (some nx_386) fun a_409 n_410 f_411 => vp_in (3 : Int32) n_410 ∧ zB g ≤ a_409 ∧ ∀ hp_412 : zHp, hp_412 = va_up hp_408 a_409 (some (.inl (g.2.1 0, n_410, .inl (va_up f_411 (3 : Int32).toNatClampNeg (-1 : Int32))))) →
  (zpt g hp_412 (some h0) [5] 70 (va_rf (some nx_386)) fun hp_416 =>
  (zna g mc ms hp_416 nx_394 kc_395 ks_396 0 (4 : Int32) (.inl (fun _ => 0)) fun hp_417 =>
  ∀ nx_418 kc_419 ks_420 : Nat, nx_418 = (nx_394 + 1) → kc_419 = (kc_395 + 1) → ks_420 = (ks_396 + (4 : Int32).toNatClampNeg) →
  (zpt g hp_417 (some h0) [5] 71 (va_rf (some nx_394)) fun hp_424 =>
  (znm g mc ms hp_424 nx_418 kc_419 ks_420 15 1 (4 : Int32) (64 : Int32) (.inr (.inr (.inr (.inl (fun _ => 0))))) fun hp_425 =>
  ∀ nx_426 kc_427 ks_428 : Nat, nx_426 = (nx_418 + 1 + (4 : Int32).toNatClampNeg) → kc_427 = (kc_419 + 1 + (4 : Int32).toNatClampNeg) → ks_428 = (ks_420 + (4 : Int32).toNatClampNeg + (4 : Int32).toNatClampNeg * (64 : Int32).toNatClampNeg) →
  (zpt g hp_425 (some h0) [5] 72 (va_rf (some nx_418)) fun hp_432 =>
  (znm g mc ms hp_432 nx_426 kc_427 ks_428 16 3 (4 : Int32) (64 : Int32) (.inl (fun _ => 0)) fun hp_433 =>
  ∀ nx_434 kc_435 ks_436 : Nat, nx_434 = (nx_426 + 1 + (4 : Int32).toNatClampNeg) → kc_435 = (kc_427 + 1 + (4 : Int32).toNatClampNeg) → ks_436 = (ks_428 + (4 : Int32).toNatClampNeg + (4 : Int32).toNatClampNeg * (64 : Int32).toNatClampNeg) →
  (zpt g hp_433 (some h0) [5] 73 (va_rf (some nx_426)) fun hp_440 =>
  (zna g mc ms hp_440 nx_434 kc_435 ks_436 1 (64 : Int32) (.inr (.inr (.inr (.inl (fun _ => 0))))) fun hp_441 =>
  ∀ nx_442 kc_443 ks_444 : Nat, nx_442 = (nx_434 + 1) → kc_443 = (kc_435 + 1) → ks_444 = (ks_436 + (64 : Int32).toNatClampNeg) →
  (zpt g hp_441 (some h0) [5] 74 (va_rf (some nx_434)) fun hp_448 =>
  (zna g mc ms hp_448 nx_442 kc_443 ks_444 3 (64 : Int32) (.inl (fun _ => 0)) fun hp_449 =>
  ∀ nx_450 kc_451 ks_452 : Nat, nx_450 = (nx_442 + 1) → kc_451 = (kc_443 + 1) → ks_452 = (ks_444 + (64 : Int32).toNatClampNeg) →
  (zpt g hp_449 (some h0) [5] 75 (va_rf (some nx_442)) fun hp_456 =>
  (kc_451 ≤ mc ∧ ks_452 ≤ ms ∧ Post hp_456 nx_450)))))))))))))))))))))))))))))))))))))))))))))))))))))))))))))))))))))))))))))))))))))))))))))))))))))))))))))))))))
set_option maxHeartbeats 40000000 in
theorem met_X5_init {l : Launch} {g : zG} {d : Nat} {mc ms : Nat} {h0 : Nat} {hp : zHp} {nx : Nat} {Post : zHp → Nat → Prop} (hw : wp_X5_init l g d mc ms h0 hp nx Post) : zMt l g yX5_init cX5_init 1 none (d + 1) mc ms [.ref h0] hp nx (zQv g Post) := by
  refine z_start (by decide) (Nat.le_of_ble_eq_true rfl) ?_
  intro p e s m below meth c hk hr hin hH hz ls hl
  have hx := hk.1.1
  have hb := hk.1.2.1
  have hown := hk.1.2.2.2.1
  have hts := hk.1.2.2.2.2
  have hS : va_S (zAd g) s.heap s.heap [] := va_S.rf
  have hl : lv_has ls 1 [(0, va_rf (some h0))] := hl
  unfold wp_X5_init at hw
  refine zr_aload_n (r := some h0) hx hb dX5_init_0 rfl (lv_at hl 0 rfl) ?_
  refine W.objInit (a := h0) hx hb hown (hts _ q2667) (hts _ q206) (hts _ q207) rfl (by rw [hk.1.2.2.1]; exact hl.1) rfl dX5_init_1 (Nat.le_add_left 1 d) (Nat.le_trans (Nat.le_of_ble_eq_true rfl : _ ≤ 64) (by show 64 ≤ 64 * (d + 1); omega)) ?_
  refine W.eq (g2 := F0 m 4 ls []) rfl ?_
  refine zr_aload_n (r := some h0) hx hb dX5_init_4 rfl (lv_at hl 0 rfl) ?_
  refine lv_bipush (v := (24 : Int32)) hx hb dX5_init_5 (by decide) ?_
  obtain ⟨hn0, hn1, hcl, hsl, hw⟩ := hw
  refine zx_newa hk hH hz hS (atype := .int) 0 (ty := .int) rfl q277 rfl (fun _ _ h => h) (a0 := ((24 : Int32).toNatClampNeg, .inl (fun _ => 0))) (fun _ => rfl) hn0 rfl (by simp only [componentBytes]; omega) hcl hsl dX5_init_7 (fun H hH hz hS hlt hnb => ?_)
  have hw := hw hlt hnb
  generalize va_up hp nx _ = hp_1 at hH hw
  obtain ⟨kc_3, ekc⟩ : ∃ k, k = (0 + 1) := ⟨_, rfl⟩
  obtain ⟨ks_4, eks⟩ : ∃ k, k = (0 + (24 : Int32).toNatClampNeg) := ⟨_, rfl⟩
  have hw := hw _ _ _ rfl ekc eks
  refine W.widen (Nat.le_of_eq ekc.symm) (Nat.le_of_eq eks.symm) ?_
  clear ekc eks
  generalize (nx + 1) = nx_2 at hz hw
  obtain ⟨a_5, ci_6, fs_7, hp_8, er, he, hc, hA, hkl, eh, hw⟩ := zpt_e hw
  refine zw_putF hk hin hH hz hS er he hA hkl eh (ff_X5_9 hc) (z_narA _ _) (z_fitA _ _) dX5_init_9 (fun H locs hH hz hS => ?_)
  refine zr_aload_n (r := some h0) hx hb dX5_init_12 rfl (lv_at hl 0 rfl) ?_
  refine lv_bipush (v := (24 : Int32)) hx hb dX5_init_13 (by decide) ?_
  obtain ⟨hn0, hn1, hcl, hsl, hw⟩ := hw
  refine zx_newa hk hH hz hS (atype := .boolean) 3 (ty := .boolean) rfl q2903 rfl (fun _ _ h => h) (a0 := ((24 : Int32).toNatClampNeg, .inl (fun _ => 0))) (fun _ => rfl) hn0 rfl (by simp only [componentBytes]; omega) hcl hsl dX5_init_15 (fun H hH hz hS hlt hnb => ?_)
  have hw := hw hlt hnb
  generalize va_up hp_8 nx_2 _ = hp_9 at hH hw
  obtain ⟨kc_11, ekc⟩ : ∃ k, k = (kc_3 + 1) := ⟨_, rfl⟩
  obtain ⟨ks_12, eks⟩ : ∃ k, k = (ks_4 + (24 : Int32).toNatClampNeg) := ⟨_, rfl⟩
  have hw := hw _ _ _ rfl ekc eks
  refine W.widen (Nat.le_of_eq ekc.symm) (Nat.le_of_eq eks.symm) ?_
  clear ekc eks
  generalize (nx_2 + 1) = nx_10 at hz hw
  obtain ⟨a_13, ci_14, fs_15, hp_16, er, he, hc, hA, hkl, eh, hw⟩ := zpt_e hw
  refine zw_putF hk hin hH hz hS er he hA hkl eh (ff_X5_13 hc) (z_narA _ _) (z_fitA _ _) dX5_init_17 (fun H locs hH hz hS => ?_)
  refine zr_aload_n (r := some h0) hx hb dX5_init_20 rfl (lv_at hl 0 rfl) ?_
  refine lv_bipush (v := (24 : Int32)) hx hb dX5_init_21 (by decide) ?_
  obtain ⟨hn0, hn1, hcl, hsl, hw⟩ := hw
  refine zx_newa hk hH hz hS (atype := .double) 1 (ty := .double) rfl q275 rfl (fun _ _ h => h) (a0 := ((24 : Int32).toNatClampNeg, .inr (.inr (.inr (.inl (fun _ => 0)))))) (fun _ => rfl) hn0 rfl (by simp only [componentBytes]; omega) hcl hsl dX5_init_23 (fun H hH hz hS hlt hnb => ?_)
  have hw := hw hlt hnb
  generalize va_up hp_16 nx_10 _ = hp_17 at hH hw
  obtain ⟨kc_19, ekc⟩ : ∃ k, k = (kc_11 + 1) := ⟨_, rfl⟩
  obtain ⟨ks_20, eks⟩ : ∃ k, k = (ks_12 + (24 : Int32).toNatClampNeg) := ⟨_, rfl⟩
  have hw := hw _ _ _ rfl ekc eks
  refine W.widen (Nat.le_of_eq ekc.symm) (Nat.le_of_eq eks.symm) ?_
  clear ekc eks
  generalize (nx_10 + 1) = nx_18 at hz hw
  obtain ⟨a_21, ci_22, fs_23, hp_24, er, he, hc, hA, hkl, eh, hw⟩ := zpt_e hw
  refine zw_putF hk hin hH hz hS er he hA hkl eh (ff_X5_17 hc) (z_narA _ _) (z_fitA _ _) dX5_init_25 (fun H locs hH hz hS => ?_)
  refine zr_aload_n (r := some h0) hx hb dX5_init_28 rfl (lv_at hl 0 rfl) ?_
  refine lv_bipush (v := (24 : Int32)) hx hb dX5_init_29 (by decide) ?_
  obtain ⟨hn0, hn1, hcl, hsl, hw⟩ := hw
  refine zx_newa hk hH hz hS (atype := .int) 0 (ty := .int) rfl q277 rfl (fun _ _ h => h) (a0 := ((24 : Int32).toNatClampNeg, .inl (fun _ => 0))) (fun _ => rfl) hn0 rfl (by simp only [componentBytes]; omega) hcl hsl dX5_init_31 (fun H hH hz hS hlt hnb => ?_)
  have hw := hw hlt hnb
  generalize va_up hp_24 nx_18 _ = hp_25 at hH hw
  obtain ⟨kc_27, ekc⟩ : ∃ k, k = (kc_19 + 1) := ⟨_, rfl⟩
  obtain ⟨ks_28, eks⟩ : ∃ k, k = (ks_20 + (24 : Int32).toNatClampNeg) := ⟨_, rfl⟩
  have hw := hw _ _ _ rfl ekc eks
  refine W.widen (Nat.le_of_eq ekc.symm) (Nat.le_of_eq eks.symm) ?_
  clear ekc eks
  generalize (nx_18 + 1) = nx_26 at hz hw
  obtain ⟨a_29, ci_30, fs_31, hp_32, er, he, hc, hA, hkl, eh, hw⟩ := zpt_e hw
  refine zw_putF hk hin hH hz hS er he hA hkl eh (ff_X5_21 hc) (z_narA _ _) (z_fitA _ _) dX5_init_33 (fun H locs hH hz hS => ?_)
  refine zr_aload_n (r := some h0) hx hb dX5_init_36 rfl (lv_at hl 0 rfl) ?_
  refine lv_bipush (v := (24 : Int32)) hx hb dX5_init_37 (by decide) ?_
  refine lv_bipush (v := (96 : Int32)) hx hb dX5_init_39 (by decide) ?_
  obtain ⟨hn0, hn1, hn2, hn3, hcl, hsl, hw⟩ := hw
  refine zx_mnew hk hH hz hS 14 0 (ty := .int) (x := .inl (fun _ => 0)) q2668 (by decide +kernel) (List.mem_of_getElem? (i := 0) rfl) q277 rfl rfl (fun _ _ h => h) (by decide +kernel) zin_int hn0 hn1 hn2 hn3 (by decide) (by decide +kernel) (by decide +kernel) hcl hsl dX5_init_41 (fun H hH hz hS hlt hnb => ?_)
  have hw := hw hlt hnb
  generalize zmHp hp_32 nx_26 _ _ _ _ _ = hp_33 at hH hw
  obtain ⟨kc_35, ekc⟩ : ∃ k, k = (kc_27 + 1 + (24 : Int32).toNatClampNeg) := ⟨_, rfl⟩
  obtain ⟨ks_36, eks⟩ : ∃ k, k = (ks_28 + (24 : Int32).toNatClampNeg + (24 : Int32).toNatClampNeg * (96 : Int32).toNatClampNeg) := ⟨_, rfl⟩
  have hw := hw _ _ _ rfl ekc eks
  refine W.widen (Nat.le_of_eq ekc.symm) (Nat.le_of_eq eks.symm) ?_
  clear ekc eks
  generalize (nx_26 + 1 + (24 : Int32).toNatClampNeg) = nx_34 at hz hw
  obtain ⟨a_37, ci_38, fs_39, hp_40, er, he, hc, hA, hkl, eh, hw⟩ := zpt_e hw
  refine zw_putF hk hin hH hz hS er he hA hkl eh (ff_X5_26 hc) (z_narA _ _) (z_fitA _ _) dX5_init_45 (fun H locs hH hz hS => ?_)
  refine zr_aload_n (r := some h0) hx hb dX5_init_48 rfl (lv_at hl 0 rfl) ?_
  refine lv_bipush (v := (24 : Int32)) hx hb dX5_init_49 (by decide) ?_
  refine lv_bipush (v := (96 : Int32)) hx hb dX5_init_51 (by decide) ?_
  obtain ⟨hn0, hn1, hn2, hn3, hcl, hsl, hw⟩ := hw
  refine zx_mnew hk hH hz hS 15 1 (ty := .double) (x := .inr (.inr (.inr (.inl (fun _ => 0))))) q2670 (by decide +kernel) (List.mem_of_getElem? (i := 1) rfl) q275 rfl rfl (fun _ _ h => h) (by decide +kernel) zin_double hn0 hn1 hn2 hn3 (by decide) (by decide +kernel) (by decide +kernel) hcl hsl dX5_init_53 (fun H hH hz hS hlt hnb => ?_)
  have hw := hw hlt hnb
  generalize zmHp hp_40 nx_34 _ _ _ _ _ = hp_41 at hH hw
  obtain ⟨kc_43, ekc⟩ : ∃ k, k = (kc_35 + 1 + (24 : Int32).toNatClampNeg) := ⟨_, rfl⟩
  obtain ⟨ks_44, eks⟩ : ∃ k, k = (ks_36 + (24 : Int32).toNatClampNeg + (24 : Int32).toNatClampNeg * (96 : Int32).toNatClampNeg) := ⟨_, rfl⟩
  have hw := hw _ _ _ rfl ekc eks
  refine W.widen (Nat.le_of_eq ekc.symm) (Nat.le_of_eq eks.symm) ?_
  clear ekc eks
  generalize (nx_34 + 1 + (24 : Int32).toNatClampNeg) = nx_42 at hz hw
  obtain ⟨a_45, ci_46, fs_47, hp_48, er, he, hc, hA, hkl, eh, hw⟩ := zpt_e hw
  refine zw_putF hk hin hH hz hS er he hA hkl eh (ff_X5_31 hc) (z_narA _ _) (z_fitA _ _) dX5_init_57 (fun H locs hH hz hS => ?_)
  refine zr_aload_n (r := some h0) hx hb dX5_init_60 rfl (lv_at hl 0 rfl) ?_
  refine lv_bipush (v := (6 : Int32)) hx hb dX5_init_61 (by decide) ?_
  obtain ⟨hn0, hn1, hcl, hsl, hw⟩ := hw
  refine zx_newa hk hH hz hS (atype := .boolean) 3 (ty := .boolean) rfl q2903 rfl (fun _ _ h => h) (a0 := ((6 : Int32).toNatClampNeg, .inl (fun _ => 0))) (fun _ => rfl) hn0 rfl (by simp only [componentBytes]; omega) hcl hsl dX5_init_63 (fun H hH hz hS hlt hnb => ?_)
  have hw := hw hlt hnb
  generalize va_up hp_48 nx_42 _ = hp_49 at hH hw
  obtain ⟨kc_51, ekc⟩ : ∃ k, k = (kc_43 + 1) := ⟨_, rfl⟩
  obtain ⟨ks_52, eks⟩ : ∃ k, k = (ks_44 + (6 : Int32).toNatClampNeg) := ⟨_, rfl⟩
  have hw := hw _ _ _ rfl ekc eks
  refine W.widen (Nat.le_of_eq ekc.symm) (Nat.le_of_eq eks.symm) ?_
  clear ekc eks
  generalize (nx_42 + 1) = nx_50 at hz hw
  obtain ⟨a_53, ci_54, fs_55, hp_56, er, he, hc, hA, hkl, eh, hw⟩ := zpt_e hw
  refine zw_putF hk hin hH hz hS er he hA hkl eh (ff_X5_34 hc) (z_narA _ _) (z_fitA _ _) dX5_init_65 (fun H locs hH hz hS => ?_)
  refine zr_aload_n (r := some h0) hx hb dX5_init_68 rfl (lv_at hl 0 rfl) ?_
  refine lv_bipush (v := (6 : Int32)) hx hb dX5_init_69 (by decide) ?_
  obtain ⟨hn0, hn1, hcl, hsl, hw⟩ := hw
  refine zx_newa hk hH hz hS (atype := .int) 0 (ty := .int) rfl q277 rfl (fun _ _ h => h) (a0 := ((6 : Int32).toNatClampNeg, .inl (fun _ => 0))) (fun _ => rfl) hn0 rfl (by simp only [componentBytes]; omega) hcl hsl dX5_init_71 (fun H hH hz hS hlt hnb => ?_)
  have hw := hw hlt hnb
  generalize va_up hp_56 nx_50 _ = hp_57 at hH hw
  obtain ⟨kc_59, ekc⟩ : ∃ k, k = (kc_51 + 1) := ⟨_, rfl⟩
  obtain ⟨ks_60, eks⟩ : ∃ k, k = (ks_52 + (6 : Int32).toNatClampNeg) := ⟨_, rfl⟩
  have hw := hw _ _ _ rfl ekc eks
  refine W.widen (Nat.le_of_eq ekc.symm) (Nat.le_of_eq eks.symm) ?_
  clear ekc eks
  generalize (nx_50 + 1) = nx_58 at hz hw
  obtain ⟨a_61, ci_62, fs_63, hp_64, er, he, hc, hA, hkl, eh, hw⟩ := zpt_e hw
  refine zw_putF hk hin hH hz hS er he hA hkl eh (ff_X5_37 hc) (z_narA _ _) (z_fitA _ _) dX5_init_73 (fun H locs hH hz hS => ?_)
  refine zr_aload_n (r := some h0) hx hb dX5_init_76 rfl (lv_at hl 0 rfl) ?_
  refine lv_bipush (v := (6 : Int32)) hx hb dX5_init_77 (by decide) ?_
  obtain ⟨hn0, hn1, hcl, hsl, hw⟩ := hw
  refine zx_newa hk hH hz hS (atype := .int) 0 (ty := .int) rfl q277 rfl (fun _ _ h => h) (a0 := ((6 : Int32).toNatClampNeg, .inl (fun _ => 0))) (fun _ => rfl) hn0 rfl (by simp only [componentBytes]; omega) hcl hsl dX5_init_79 (fun H hH hz hS hlt hnb => ?_)
  have hw := hw hlt hnb
  generalize va_up hp_64 nx_58 _ = hp_65 at hH hw
  obtain ⟨kc_67, ekc⟩ : ∃ k, k = (kc_59 + 1) := ⟨_, rfl⟩
  obtain ⟨ks_68, eks⟩ : ∃ k, k = (ks_60 + (6 : Int32).toNatClampNeg) := ⟨_, rfl⟩
  have hw := hw _ _ _ rfl ekc eks
  refine W.widen (Nat.le_of_eq ekc.symm) (Nat.le_of_eq eks.symm) ?_
  clear ekc eks
  generalize (nx_58 + 1) = nx_66 at hz hw
  obtain ⟨a_69, ci_70, fs_71, hp_72, er, he, hc, hA, hkl, eh, hw⟩ := zpt_e hw
  refine zw_putF hk hin hH hz hS er he hA hkl eh (ff_X5_40 hc) (z_narA _ _) (z_fitA _ _) dX5_init_81 (fun H locs hH hz hS => ?_)
  refine zr_aload_n (r := some h0) hx hb dX5_init_84 rfl (lv_at hl 0 rfl) ?_
  refine lv_bipush (v := (6 : Int32)) hx hb dX5_init_85 (by decide) ?_
  obtain ⟨hn0, hn1, hcl, hsl, hw⟩ := hw
  refine zx_newa hk hH hz hS (atype := .int) 0 (ty := .int) rfl q277 rfl (fun _ _ h => h) (a0 := ((6 : Int32).toNatClampNeg, .inl (fun _ => 0))) (fun _ => rfl) hn0 rfl (by simp only [componentBytes]; omega) hcl hsl dX5_init_87 (fun H hH hz hS hlt hnb => ?_)
  have hw := hw hlt hnb
  generalize va_up hp_72 nx_66 _ = hp_73 at hH hw
  obtain ⟨kc_75, ekc⟩ : ∃ k, k = (kc_67 + 1) := ⟨_, rfl⟩
  obtain ⟨ks_76, eks⟩ : ∃ k, k = (ks_68 + (6 : Int32).toNatClampNeg) := ⟨_, rfl⟩
  have hw := hw _ _ _ rfl ekc eks
  refine W.widen (Nat.le_of_eq ekc.symm) (Nat.le_of_eq eks.symm) ?_
  clear ekc eks
  generalize (nx_66 + 1) = nx_74 at hz hw
  obtain ⟨a_77, ci_78, fs_79, hp_80, er, he, hc, hA, hkl, eh, hw⟩ := zpt_e hw
  refine zw_putF hk hin hH hz hS er he hA hkl eh (ff_X5_43 hc) (z_narA _ _) (z_fitA _ _) dX5_init_89 (fun H locs hH hz hS => ?_)
  refine zr_aload_n (r := some h0) hx hb dX5_init_92 rfl (lv_at hl 0 rfl) ?_
  refine lv_bipush (v := (12 : Int32)) hx hb dX5_init_93 (by decide) ?_
  obtain ⟨hn0, hn1, hcl, hsl, hw⟩ := hw
  refine zx_newa hk hH hz hS (atype := .int) 0 (ty := .int) rfl q277 rfl (fun _ _ h => h) (a0 := ((12 : Int32).toNatClampNeg, .inl (fun _ => 0))) (fun _ => rfl) hn0 rfl (by simp only [componentBytes]; omega) hcl hsl dX5_init_95 (fun H hH hz hS hlt hnb => ?_)
  have hw := hw hlt hnb
  generalize va_up hp_80 nx_74 _ = hp_81 at hH hw
  obtain ⟨kc_83, ekc⟩ : ∃ k, k = (kc_75 + 1) := ⟨_, rfl⟩
  obtain ⟨ks_84, eks⟩ : ∃ k, k = (ks_76 + (12 : Int32).toNatClampNeg) := ⟨_, rfl⟩
  have hw := hw _ _ _ rfl ekc eks
  refine W.widen (Nat.le_of_eq ekc.symm) (Nat.le_of_eq eks.symm) ?_
  clear ekc eks
  generalize (nx_74 + 1) = nx_82 at hz hw
  obtain ⟨a_85, ci_86, fs_87, hp_88, er, he, hc, hA, hkl, eh, hw⟩ := zpt_e hw
  refine zw_putF hk hin hH hz hS er he hA hkl eh (ff_X5_46 hc) (z_narA _ _) (z_fitA _ _) dX5_init_97 (fun H locs hH hz hS => ?_)
  refine zr_aload_n (r := some h0) hx hb dX5_init_100 rfl (lv_at hl 0 rfl) ?_
  refine lv_bipush (v := (12 : Int32)) hx hb dX5_init_101 (by decide) ?_
  refine lv_bipush (v := (8 : Int32)) hx hb dX5_init_103 (by decide) ?_
  obtain ⟨hn0, hn1, hn2, hn3, hcl, hsl, hw⟩ := hw
  refine zx_mnew hk hH hz hS 15 1 (ty := .double) (x := .inr (.inr (.inr (.inl (fun _ => 0))))) q2670 (by decide +kernel) (List.mem_of_getElem? (i := 1) rfl) q275 rfl rfl (fun _ _ h => h) (by decide +kernel) zin_double hn0 hn1 hn2 hn3 (by decide) (by decide +kernel) (by decide +kernel) hcl hsl dX5_init_105 (fun H hH hz hS hlt hnb => ?_)
  have hw := hw hlt hnb
  generalize zmHp hp_88 nx_82 _ _ _ _ _ = hp_89 at hH hw
  obtain ⟨kc_91, ekc⟩ : ∃ k, k = (kc_83 + 1 + (12 : Int32).toNatClampNeg) := ⟨_, rfl⟩
  obtain ⟨ks_92, eks⟩ : ∃ k, k = (ks_84 + (12 : Int32).toNatClampNeg + (12 : Int32).toNatClampNeg * (8 : Int32).toNatClampNeg) := ⟨_, rfl⟩
  have hw := hw _ _ _ rfl ekc eks
  refine W.widen (Nat.le_of_eq ekc.symm) (Nat.le_of_eq eks.symm) ?_
  clear ekc eks
  generalize (nx_82 + 1 + (12 : Int32).toNatClampNeg) = nx_90 at hz hw
  obtain ⟨a_93, ci_94, fs_95, hp_96, er, he, hc, hA, hkl, eh, hw⟩ := zpt_e hw
  refine zw_putF hk hin hH hz hS er he hA hkl eh (ff_X5_49 hc) (z_narA _ _) (z_fitA _ _) dX5_init_109 (fun H locs hH hz hS => ?_)
  refine zr_aload_n (r := some h0) hx hb dX5_init_112 rfl (lv_at hl 0 rfl) ?_
  refine lv_bipush (v := (24 : Int32)) hx hb dX5_init_113 (by decide) ?_
  obtain ⟨hn0, hn1, hcl, hsl, hw⟩ := hw
  refine zx_newa hk hH hz hS (atype := .int) 0 (ty := .int) rfl q277 rfl (fun _ _ h => h) (a0 := ((24 : Int32).toNatClampNeg, .inl (fun _ => 0))) (fun _ => rfl) hn0 rfl (by simp only [componentBytes]; omega) hcl hsl dX5_init_115 (fun H hH hz hS hlt hnb => ?_)
  have hw := hw hlt hnb
  generalize va_up hp_96 nx_90 _ = hp_97 at hH hw
  obtain ⟨kc_99, ekc⟩ : ∃ k, k = (kc_91 + 1) := ⟨_, rfl⟩
  obtain ⟨ks_100, eks⟩ : ∃ k, k = (ks_92 + (24 : Int32).toNatClampNeg) := ⟨_, rfl⟩
  have hw := hw _ _ _ rfl ekc eks
  refine W.widen (Nat.le_of_eq ekc.symm) (Nat.le_of_eq eks.symm) ?_
  clear ekc eks
  generalize (nx_90 + 1) = nx_98 at hz hw
  obtain ⟨a_101, ci_102, fs_103, hp_104, er, he, hc, hA, hkl, eh, hw⟩ := zpt_e hw
  refine zw_putF hk hin hH hz hS er he hA hkl eh (ff_X5_52 hc) (z_narA _ _) (z_fitA _ _) dX5_init_117 (fun H locs hH hz hS => ?_)
  refine zr_aload_n (r := some h0) hx hb dX5_init_120 rfl (lv_at hl 0 rfl) ?_
  refine lv_bipush (v := (24 : Int32)) hx hb dX5_init_121 (by decide) ?_
  refine lv_bipush (v := (6 : Int32)) hx hb dX5_init_123 (by decide) ?_
  obtain ⟨hn0, hn1, hn2, hn3, hcl, hsl, hw⟩ := hw
  refine zx_mnew hk hH hz hS 14 0 (ty := .int) (x := .inl (fun _ => 0)) q2668 (by decide +kernel) (List.mem_of_getElem? (i := 0) rfl) q277 rfl rfl (fun _ _ h => h) (by decide +kernel) zin_int hn0 hn1 hn2 hn3 (by decide) (by decide +kernel) (by decide +kernel) hcl hsl dX5_init_125 (fun H hH hz hS hlt hnb => ?_)
  have hw := hw hlt hnb
  generalize zmHp hp_104 nx_98 _ _ _ _ _ = hp_105 at hH hw
  obtain ⟨kc_107, ekc⟩ : ∃ k, k = (kc_99 + 1 + (24 : Int32).toNatClampNeg) := ⟨_, rfl⟩
  obtain ⟨ks_108, eks⟩ : ∃ k, k = (ks_100 + (24 : Int32).toNatClampNeg + (24 : Int32).toNatClampNeg * (6 : Int32).toNatClampNeg) := ⟨_, rfl⟩
  have hw := hw _ _ _ rfl ekc eks
  refine W.widen (Nat.le_of_eq ekc.symm) (Nat.le_of_eq eks.symm) ?_
  clear ekc eks
  generalize (nx_98 + 1 + (24 : Int32).toNatClampNeg) = nx_106 at hz hw
  obtain ⟨a_109, ci_110, fs_111, hp_112, er, he, hc, hA, hkl, eh, hw⟩ := zpt_e hw
  refine zw_putF hk hin hH hz hS er he hA hkl eh (ff_X5_55 hc) (z_narA _ _) (z_fitA _ _) dX5_init_129 (fun H locs hH hz hS => ?_)
  refine zr_aload_n (r := some h0) hx hb dX5_init_132 rfl (lv_at hl 0 rfl) ?_
  refine lv_bipush (v := (24 : Int32)) hx hb dX5_init_133 (by decide) ?_
  obtain ⟨hn0, hn1, hcl, hsl, hw⟩ := hw
  refine zx_newa hk hH hz hS (atype := .boolean) 3 (ty := .boolean) rfl q2903 rfl (fun _ _ h => h) (a0 := ((24 : Int32).toNatClampNeg, .inl (fun _ => 0))) (fun _ => rfl) hn0 rfl (by simp only [componentBytes]; omega) hcl hsl dX5_init_135 (fun H hH hz hS hlt hnb => ?_)
  have hw := hw hlt hnb
  generalize va_up hp_112 nx_106 _ = hp_113 at hH hw
  obtain ⟨kc_115, ekc⟩ : ∃ k, k = (kc_107 + 1) := ⟨_, rfl⟩
  obtain ⟨ks_116, eks⟩ : ∃ k, k = (ks_108 + (24 : Int32).toNatClampNeg) := ⟨_, rfl⟩
  have hw := hw _ _ _ rfl ekc eks
  refine W.widen (Nat.le_of_eq ekc.symm) (Nat.le_of_eq eks.symm) ?_
  clear ekc eks
  generalize (nx_106 + 1) = nx_114 at hz hw
  obtain ⟨a_117, ci_118, fs_119, hp_120, er, he, hc, hA, hkl, eh, hw⟩ := zpt_e hw
  refine zw_putF hk hin hH hz hS er he hA hkl eh (ff_X5_58 hc) (z_narA _ _) (z_fitA _ _) dX5_init_137 (fun H locs hH hz hS => ?_)
  refine zr_aload_n (r := some h0) hx hb dX5_init_140 rfl (lv_at hl 0 rfl) ?_
  refine lv_bipush (v := (24 : Int32)) hx hb dX5_init_141 (by decide) ?_
  obtain ⟨hn0, hn1, hcl, hsl, hw⟩ := hw
  refine zx_newa hk hH hz hS (atype := .int) 0 (ty := .int) rfl q277 rfl (fun _ _ h => h) (a0 := ((24 : Int32).toNatClampNeg, .inl (fun _ => 0))) (fun _ => rfl) hn0 rfl (by simp only [componentBytes]; omega) hcl hsl dX5_init_143 (fun H hH hz hS hlt hnb => ?_)
  have hw := hw hlt hnb
  generalize va_up hp_120 nx_114 _ = hp_121 at hH hw
  obtain ⟨kc_123, ekc⟩ : ∃ k, k = (kc_115 + 1) := ⟨_, rfl⟩
  obtain ⟨ks_124, eks⟩ : ∃ k, k = (ks_116 + (24 : Int32).toNatClampNeg) := ⟨_, rfl⟩
  have hw := hw _ _ _ rfl ekc eks
  refine W.widen (Nat.le_of_eq ekc.symm) (Nat.le_of_eq eks.symm) ?_
  clear ekc eks
  generalize (nx_114 + 1) = nx_122 at hz hw
  obtain ⟨a_125, ci_126, fs_127, hp_128, er, he, hc, hA, hkl, eh, hw⟩ := zpt_e hw
  refine zw_putF hk hin hH hz hS er he hA hkl eh (ff_X5_61 hc) (z_narA _ _) (z_fitA _ _) dX5_init_145 (fun H locs hH hz hS => ?_)
  refine zr_aload_n (r := some h0) hx hb dX5_init_148 rfl (lv_at hl 0 rfl) ?_
  refine lv_bipush (v := (24 : Int32)) hx hb dX5_init_149 (by decide) ?_
  obtain ⟨hn0, hn1, hcl, hsl, hw⟩ := hw
  refine zx_newa hk hH hz hS (atype := .boolean) 3 (ty := .boolean) rfl q2903 rfl (fun _ _ h => h) (a0 := ((24 : Int32).toNatClampNeg, .inl (fun _ => 0))) (fun _ => rfl) hn0 rfl (by simp only [componentBytes]; omega) hcl hsl dX5_init_151 (fun H hH hz hS hlt hnb => ?_)
  have hw := hw hlt hnb
  generalize va_up hp_128 nx_122 _ = hp_129 at hH hw
  obtain ⟨kc_131, ekc⟩ : ∃ k, k = (kc_123 + 1) := ⟨_, rfl⟩
  obtain ⟨ks_132, eks⟩ : ∃ k, k = (ks_124 + (24 : Int32).toNatClampNeg) := ⟨_, rfl⟩
  have hw := hw _ _ _ rfl ekc eks
  refine W.widen (Nat.le_of_eq ekc.symm) (Nat.le_of_eq eks.symm) ?_
  clear ekc eks
  generalize (nx_122 + 1) = nx_130 at hz hw
  obtain ⟨a_133, ci_134, fs_135, hp_136, er, he, hc, hA, hkl, eh, hw⟩ := zpt_e hw
  refine zw_putF hk hin hH hz hS er he hA hkl eh (ff_X5_64 hc) (z_narA _ _) (z_fitA _ _) dX5_init_153 (fun H locs hH hz hS => ?_)
  refine zr_aload_n (r := some h0) hx hb dX5_init_156 rfl (lv_at hl 0 rfl) ?_
  refine lv_bipush (v := (24 : Int32)) hx hb dX5_init_157 (by decide) ?_
  obtain ⟨hn0, hn1, hcl, hsl, hw⟩ := hw
  refine zx_newa hk hH hz hS (atype := .int) 0 (ty := .int) rfl q277 rfl (fun _ _ h => h) (a0 := ((24 : Int32).toNatClampNeg, .inl (fun _ => 0))) (fun _ => rfl) hn0 rfl (by simp only [componentBytes]; omega) hcl hsl dX5_init_159 (fun H hH hz hS hlt hnb => ?_)
  have hw := hw hlt hnb
  generalize va_up hp_136 nx_130 _ = hp_137 at hH hw
  obtain ⟨kc_139, ekc⟩ : ∃ k, k = (kc_131 + 1) := ⟨_, rfl⟩
  obtain ⟨ks_140, eks⟩ : ∃ k, k = (ks_132 + (24 : Int32).toNatClampNeg) := ⟨_, rfl⟩
  have hw := hw _ _ _ rfl ekc eks
  refine W.widen (Nat.le_of_eq ekc.symm) (Nat.le_of_eq eks.symm) ?_
  clear ekc eks
  generalize (nx_130 + 1) = nx_138 at hz hw
  obtain ⟨a_141, ci_142, fs_143, hp_144, er, he, hc, hA, hkl, eh, hw⟩ := zpt_e hw
  refine zw_putF hk hin hH hz hS er he hA hkl eh (ff_X5_67 hc) (z_narA _ _) (z_fitA _ _) dX5_init_161 (fun H locs hH hz hS => ?_)
  refine zr_aload_n (r := some h0) hx hb dX5_init_164 rfl (lv_at hl 0 rfl) ?_
  refine lv_bipush (v := (7 : Int32)) hx hb dX5_init_165 (by decide) ?_
  refine lv_bipush (v := (24 : Int32)) hx hb dX5_init_167 (by decide) ?_
  obtain ⟨hn0, hn1, hn2, hn3, hcl, hsl, hw⟩ := hw
  refine zx_mnew hk hH hz hS 16 3 (ty := .boolean) (x := .inl (fun _ => 0)) q2672 (by decide +kernel) (List.mem_of_getElem? (i := 2) rfl) q2903 rfl rfl (fun _ _ h => h) (by decide +kernel) zin_boolean hn0 hn1 hn2 hn3 (by decide) (by decide +kernel) (by decide +kernel) hcl hsl dX5_init_169 (fun H hH hz hS hlt hnb => ?_)
  have hw := hw hlt hnb
  generalize zmHp hp_144 nx_138 _ _ _ _ _ = hp_145 at hH hw
  obtain ⟨kc_147, ekc⟩ : ∃ k, k = (kc_139 + 1 + (7 : Int32).toNatClampNeg) := ⟨_, rfl⟩
  obtain ⟨ks_148, eks⟩ : ∃ k, k = (ks_140 + (7 : Int32).toNatClampNeg + (7 : Int32).toNatClampNeg * (24 : Int32).toNatClampNeg) := ⟨_, rfl⟩
  have hw := hw _ _ _ rfl ekc eks
  refine W.widen (Nat.le_of_eq ekc.symm) (Nat.le_of_eq eks.symm) ?_
  clear ekc eks
  generalize (nx_138 + 1 + (7 : Int32).toNatClampNeg) = nx_146 at hz hw
  obtain ⟨a_149, ci_150, fs_151, hp_152, er, he, hc, hA, hkl, eh, hw⟩ := zpt_e hw
  refine zw_putF hk hin hH hz hS er he hA hkl eh (ff_X5_72 hc) (z_narA _ _) (z_fitA _ _) dX5_init_173 (fun H locs hH hz hS => ?_)
  refine zr_aload_n (r := some h0) hx hb dX5_init_176 rfl (lv_at hl 0 rfl) ?_
  refine lv_bipush (v := (7 : Int32)) hx hb dX5_init_177 (by decide) ?_
  refine lv_bipush (v := (24 : Int32)) hx hb dX5_init_179 (by decide) ?_
  obtain ⟨hn0, hn1, hn2, hn3, hcl, hsl, hw⟩ := hw
  refine zx_mnew hk hH hz hS 15 1 (ty := .double) (x := .inr (.inr (.inr (.inl (fun _ => 0))))) q2670 (by decide +kernel) (List.mem_of_getElem? (i := 1) rfl) q275 rfl rfl (fun _ _ h => h) (by decide +kernel) zin_double hn0 hn1 hn2 hn3 (by decide) (by decide +kernel) (by decide +kernel) hcl hsl dX5_init_181 (fun H hH hz hS hlt hnb => ?_)
  have hw := hw hlt hnb
  generalize zmHp hp_152 nx_146 _ _ _ _ _ = hp_153 at hH hw
  obtain ⟨kc_155, ekc⟩ : ∃ k, k = (kc_147 + 1 + (7 : Int32).toNatClampNeg) := ⟨_, rfl⟩
  obtain ⟨ks_156, eks⟩ : ∃ k, k = (ks_148 + (7 : Int32).toNatClampNeg + (7 : Int32).toNatClampNeg * (24 : Int32).toNatClampNeg) := ⟨_, rfl⟩
  have hw := hw _ _ _ rfl ekc eks
  refine W.widen (Nat.le_of_eq ekc.symm) (Nat.le_of_eq eks.symm) ?_
  clear ekc eks
  generalize (nx_146 + 1 + (7 : Int32).toNatClampNeg) = nx_154 at hz hw
  obtain ⟨a_157, ci_158, fs_159, hp_160, er, he, hc, hA, hkl, eh, hw⟩ := zpt_e hw
  refine zw_putF hk hin hH hz hS er he hA hkl eh (ff_X5_75 hc) (z_narA _ _) (z_fitA _ _) dX5_init_185 (fun H locs hH hz hS => ?_)
  refine zr_aload_n (r := some h0) hx hb dX5_init_188 rfl (lv_at hl 0 rfl) ?_
  refine lv_bipush (v := (7 : Int32)) hx hb dX5_init_189 (by decide) ?_
  refine lv_bipush (v := (24 : Int32)) hx hb dX5_init_191 (by decide) ?_
  obtain ⟨hn0, hn1, hn2, hn3, hcl, hsl, hw⟩ := hw
  refine zx_mnew hk hH hz hS 14 0 (ty := .int) (x := .inl (fun _ => 0)) q2668 (by decide +kernel) (List.mem_of_getElem? (i := 0) rfl) q277 rfl rfl (fun _ _ h => h) (by decide +kernel) zin_int hn0 hn1 hn2 hn3 (by decide) (by decide +kernel) (by decide +kernel) hcl hsl dX5_init_193 (fun H hH hz hS hlt hnb => ?_)
  have hw := hw hlt hnb
  generalize zmHp hp_160 nx_154 _ _ _ _ _ = hp_161 at hH hw
  obtain ⟨kc_163, ekc⟩ : ∃ k, k = (kc_155 + 1 + (7 : Int32).toNatClampNeg) := ⟨_, rfl⟩
  obtain ⟨ks_164, eks⟩ : ∃ k, k = (ks_156 + (7 : Int32).toNatClampNeg + (7 : Int32).toNatClampNeg * (24 : Int32).toNatClampNeg) := ⟨_, rfl⟩
  have hw := hw _ _ _ rfl ekc eks
  refine W.widen (Nat.le_of_eq ekc.symm) (Nat.le_of_eq eks.symm) ?_
  clear ekc eks
  generalize (nx_154 + 1 + (7 : Int32).toNatClampNeg) = nx_162 at hz hw
  obtain ⟨a_165, ci_166, fs_167, hp_168, er, he, hc, hA, hkl, eh, hw⟩ := zpt_e hw
  refine zw_putF hk hin hH hz hS er he hA hkl eh (ff_X5_78 hc) (z_narA _ _) (z_fitA _ _) dX5_init_197 (fun H locs hH hz hS => ?_)
  refine zr_aload_n (r := some h0) hx hb dX5_init_200 rfl (lv_at hl 0 rfl) ?_
  refine lv_bipush (v := (7 : Int32)) hx hb dX5_init_201 (by decide) ?_
  refine lv_bipush (v := (24 : Int32)) hx hb dX5_init_203 (by decide) ?_
  obtain ⟨hn0, hn1, hn2, hn3, hcl, hsl, hw⟩ := hw
  refine zx_mnew hk hH hz hS 14 0 (ty := .int) (x := .inl (fun _ => 0)) q2668 (by decide +kernel) (List.mem_of_getElem? (i := 0) rfl) q277 rfl rfl (fun _ _ h => h) (by decide +kernel) zin_int hn0 hn1 hn2 hn3 (by decide) (by decide +kernel) (by decide +kernel) hcl hsl dX5_init_205 (fun H hH hz hS hlt hnb => ?_)
  have hw := hw hlt hnb
  generalize zmHp hp_168 nx_162 _ _ _ _ _ = hp_169 at hH hw
  obtain ⟨kc_171, ekc⟩ : ∃ k, k = (kc_163 + 1 + (7 : Int32).toNatClampNeg) := ⟨_, rfl⟩
  obtain ⟨ks_172, eks⟩ : ∃ k, k = (ks_164 + (7 : Int32).toNatClampNeg + (7 : Int32).toNatClampNeg * (24 : Int32).toNatClampNeg) := ⟨_, rfl⟩
  have hw := hw _ _ _ rfl ekc eks
  refine W.widen (Nat.le_of_eq ekc.symm) (Nat.le_of_eq eks.symm) ?_
  clear ekc eks
  generalize (nx_162 + 1 + (7 : Int32).toNatClampNeg) = nx_170 at hz hw
  obtain ⟨a_173, ci_174, fs_175, hp_176, er, he, hc, hA, hkl, eh, hw⟩ := zpt_e hw
  refine zw_putF hk hin hH hz hS er he hA hkl eh (ff_X5_81 hc) (z_narA _ _) (z_fitA _ _) dX5_init_209 (fun H locs hH hz hS => ?_)
  refine zr_aload_n (r := some h0) hx hb dX5_init_212 rfl (lv_at hl 0 rfl) ?_
  refine lv_bipush (v := (7 : Int32)) hx hb dX5_init_213 (by decide) ?_
  refine lv_bipush (v := (6 : Int32)) hx hb dX5_init_215 (by decide) ?_
  obtain ⟨hn0, hn1, hn2, hn3, hcl, hsl, hw⟩ := hw
  refine zx_mnew hk hH hz hS 16 3 (ty := .boolean) (x := .inl (fun _ => 0)) q2672 (by decide +kernel) (List.mem_of_getElem? (i := 2) rfl) q2903 rfl rfl (fun _ _ h => h) (by decide +kernel) zin_boolean hn0 hn1 hn2 hn3 (by decide) (by decide +kernel) (by decide +kernel) hcl hsl dX5_init_217 (fun H hH hz hS hlt hnb => ?_)
  have hw := hw hlt hnb
  generalize zmHp hp_176 nx_170 _ _ _ _ _ = hp_177 at hH hw
  obtain ⟨kc_179, ekc⟩ : ∃ k, k = (kc_171 + 1 + (7 : Int32).toNatClampNeg) := ⟨_, rfl⟩
  obtain ⟨ks_180, eks⟩ : ∃ k, k = (ks_172 + (7 : Int32).toNatClampNeg + (7 : Int32).toNatClampNeg * (6 : Int32).toNatClampNeg) := ⟨_, rfl⟩
  have hw := hw _ _ _ rfl ekc eks
  refine W.widen (Nat.le_of_eq ekc.symm) (Nat.le_of_eq eks.symm) ?_
  clear ekc eks
  generalize (nx_170 + 1 + (7 : Int32).toNatClampNeg) = nx_178 at hz hw
  obtain ⟨a_181, ci_182, fs_183, hp_184, er, he, hc, hA, hkl, eh, hw⟩ := zpt_e hw
  refine zw_putF hk hin hH hz hS er he hA hkl eh (ff_X5_84 hc) (z_narA _ _) (z_fitA _ _) dX5_init_221 (fun H locs hH hz hS => ?_)
  refine zr_aload_n (r := some h0) hx hb dX5_init_224 rfl (lv_at hl 0 rfl) ?_
  refine lv_bipush (v := (7 : Int32)) hx hb dX5_init_225 (by decide) ?_
  refine lv_bipush (v := (30 : Int32)) hx hb dX5_init_227 (by decide) ?_
  obtain ⟨hn0, hn1, hn2, hn3, hcl, hsl, hw⟩ := hw
  refine zx_mnew hk hH hz hS 15 1 (ty := .double) (x := .inr (.inr (.inr (.inl (fun _ => 0))))) q2670 (by decide +kernel) (List.mem_of_getElem? (i := 1) rfl) q275 rfl rfl (fun _ _ h => h) (by decide +kernel) zin_double hn0 hn1 hn2 hn3 (by decide) (by decide +kernel) (by decide +kernel) hcl hsl dX5_init_229 (fun H hH hz hS hlt hnb => ?_)
  have hw := hw hlt hnb
  generalize zmHp hp_184 nx_178 _ _ _ _ _ = hp_185 at hH hw
  obtain ⟨kc_187, ekc⟩ : ∃ k, k = (kc_179 + 1 + (7 : Int32).toNatClampNeg) := ⟨_, rfl⟩
  obtain ⟨ks_188, eks⟩ : ∃ k, k = (ks_180 + (7 : Int32).toNatClampNeg + (7 : Int32).toNatClampNeg * (30 : Int32).toNatClampNeg) := ⟨_, rfl⟩
  have hw := hw _ _ _ rfl ekc eks
  refine W.widen (Nat.le_of_eq ekc.symm) (Nat.le_of_eq eks.symm) ?_
  clear ekc eks
  generalize (nx_178 + 1 + (7 : Int32).toNatClampNeg) = nx_186 at hz hw
  obtain ⟨a_189, ci_190, fs_191, hp_192, er, he, hc, hA, hkl, eh, hw⟩ := zpt_e hw
  refine zw_putF hk hin hH hz hS er he hA hkl eh (ff_X5_87 hc) (z_narA _ _) (z_fitA _ _) dX5_init_233 (fun H locs hH hz hS => ?_)
  refine zr_aload_n (r := some h0) hx hb dX5_init_236 rfl (lv_at hl 0 rfl) ?_
  refine lv_bipush (v := (7 : Int32)) hx hb dX5_init_237 (by decide) ?_
  refine lv_bipush (v := (30 : Int32)) hx hb dX5_init_239 (by decide) ?_
  obtain ⟨hn0, hn1, hn2, hn3, hcl, hsl, hw⟩ := hw
  refine zx_mnew hk hH hz hS 14 0 (ty := .int) (x := .inl (fun _ => 0)) q2668 (by decide +kernel) (List.mem_of_getElem? (i := 0) rfl) q277 rfl rfl (fun _ _ h => h) (by decide +kernel) zin_int hn0 hn1 hn2 hn3 (by decide) (by decide +kernel) (by decide +kernel) hcl hsl dX5_init_241 (fun H hH hz hS hlt hnb => ?_)
  have hw := hw hlt hnb
  generalize zmHp hp_192 nx_186 _ _ _ _ _ = hp_193 at hH hw
  obtain ⟨kc_195, ekc⟩ : ∃ k, k = (kc_187 + 1 + (7 : Int32).toNatClampNeg) := ⟨_, rfl⟩
  obtain ⟨ks_196, eks⟩ : ∃ k, k = (ks_188 + (7 : Int32).toNatClampNeg + (7 : Int32).toNatClampNeg * (30 : Int32).toNatClampNeg) := ⟨_, rfl⟩
  have hw := hw _ _ _ rfl ekc eks
  refine W.widen (Nat.le_of_eq ekc.symm) (Nat.le_of_eq eks.symm) ?_
  clear ekc eks
  generalize (nx_186 + 1 + (7 : Int32).toNatClampNeg) = nx_194 at hz hw
  obtain ⟨a_197, ci_198, fs_199, hp_200, er, he, hc, hA, hkl, eh, hw⟩ := zpt_e hw
  refine zw_putF hk hin hH hz hS er he hA hkl eh (ff_X5_90 hc) (z_narA _ _) (z_fitA _ _) dX5_init_245 (fun H locs hH hz hS => ?_)
  refine zr_aload_n (r := some h0) hx hb dX5_init_248 rfl (lv_at hl 0 rfl) ?_
  refine lv_sipush (v := (4800 : Int32)) hx hb dX5_init_249 (by decide) ?_
  obtain ⟨hn0, hn1, hcl, hsl, hw⟩ := hw
  refine zx_newa hk hH hz hS (atype := .double) 1 (ty := .double) rfl q275 rfl (fun _ _ h => h) (a0 := ((4800 : Int32).toNatClampNeg, .inr (.inr (.inr (.inl (fun _ => 0)))))) (fun _ => rfl) hn0 rfl (by simp only [componentBytes]; omega) hcl hsl dX5_init_252 (fun H hH hz hS hlt hnb => ?_)
  have hw := hw hlt hnb
  generalize va_up hp_200 nx_194 _ = hp_201 at hH hw
  obtain ⟨kc_203, ekc⟩ : ∃ k, k = (kc_195 + 1) := ⟨_, rfl⟩
  obtain ⟨ks_204, eks⟩ : ∃ k, k = (ks_196 + (4800 : Int32).toNatClampNeg) := ⟨_, rfl⟩
  have hw := hw _ _ _ rfl ekc eks
  refine W.widen (Nat.le_of_eq ekc.symm) (Nat.le_of_eq eks.symm) ?_
  clear ekc eks
  generalize (nx_194 + 1) = nx_202 at hz hw
  obtain ⟨a_205, ci_206, fs_207, hp_208, er, he, hc, hA, hkl, eh, hw⟩ := zpt_e hw
  refine zw_putF hk hin hH hz hS er he hA hkl eh (ff_X5_93 hc) (z_narA _ _) (z_fitA _ _) dX5_init_254 (fun H locs hH hz hS => ?_)
  refine zr_aload_n (r := some h0) hx hb dX5_init_257 rfl (lv_at hl 0 rfl) ?_
  refine lv_sipush (v := (4800 : Int32)) hx hb dX5_init_258 (by decide) ?_
  obtain ⟨hn0, hn1, hcl, hsl, hw⟩ := hw
  refine zx_newa hk hH hz hS (atype := .int) 0 (ty := .int) rfl q277 rfl (fun _ _ h => h) (a0 := ((4800 : Int32).toNatClampNeg, .inl (fun _ => 0))) (fun _ => rfl) hn0 rfl (by simp only [componentBytes]; omega) hcl hsl dX5_init_261 (fun H hH hz hS hlt hnb => ?_)
  have hw := hw hlt hnb
  generalize va_up hp_208 nx_202 _ = hp_209 at hH hw
  obtain ⟨kc_211, ekc⟩ : ∃ k, k = (kc_203 + 1) := ⟨_, rfl⟩
  obtain ⟨ks_212, eks⟩ : ∃ k, k = (ks_204 + (4800 : Int32).toNatClampNeg) := ⟨_, rfl⟩
  have hw := hw _ _ _ rfl ekc eks
  refine W.widen (Nat.le_of_eq ekc.symm) (Nat.le_of_eq eks.symm) ?_
  clear ekc eks
  generalize (nx_202 + 1) = nx_210 at hz hw
  obtain ⟨a_213, ci_214, fs_215, hp_216, er, he, hc, hA, hkl, eh, hw⟩ := zpt_e hw
  refine zw_putF hk hin hH hz hS er he hA hkl eh (ff_X5_96 hc) (z_narA _ _) (z_fitA _ _) dX5_init_263 (fun H locs hH hz hS => ?_)
  refine zr_aload_n (r := some h0) hx hb dX5_init_266 rfl (lv_at hl 0 rfl) ?_
  refine lv_sipush (v := (4800 : Int32)) hx hb dX5_init_267 (by decide) ?_
  obtain ⟨hn0, hn1, hcl, hsl, hw⟩ := hw
  refine zx_newa hk hH hz hS (atype := .int) 0 (ty := .int) rfl q277 rfl (fun _ _ h => h) (a0 := ((4800 : Int32).toNatClampNeg, .inl (fun _ => 0))) (fun _ => rfl) hn0 rfl (by simp only [componentBytes]; omega) hcl hsl dX5_init_270 (fun H hH hz hS hlt hnb => ?_)
  have hw := hw hlt hnb
  generalize va_up hp_216 nx_210 _ = hp_217 at hH hw
  obtain ⟨kc_219, ekc⟩ : ∃ k, k = (kc_211 + 1) := ⟨_, rfl⟩
  obtain ⟨ks_220, eks⟩ : ∃ k, k = (ks_212 + (4800 : Int32).toNatClampNeg) := ⟨_, rfl⟩
  have hw := hw _ _ _ rfl ekc eks
  refine W.widen (Nat.le_of_eq ekc.symm) (Nat.le_of_eq eks.symm) ?_
  clear ekc eks
  generalize (nx_210 + 1) = nx_218 at hz hw
  obtain ⟨a_221, ci_222, fs_223, hp_224, er, he, hc, hA, hkl, eh, hw⟩ := zpt_e hw
  refine zw_putF hk hin hH hz hS er he hA hkl eh (ff_X5_99 hc) (z_narA _ _) (z_fitA _ _) dX5_init_272 (fun H locs hH hz hS => ?_)
  refine zr_aload_n (r := some h0) hx hb dX5_init_275 rfl (lv_at hl 0 rfl) ?_
  refine lv_bipush (v := (96 : Int32)) hx hb dX5_init_276 (by decide) ?_
  obtain ⟨hn0, hn1, hcl, hsl, hw⟩ := hw
  refine zx_newa hk hH hz hS (atype := .int) 0 (ty := .int) rfl q277 rfl (fun _ _ h => h) (a0 := ((96 : Int32).toNatClampNeg, .inl (fun _ => 0))) (fun _ => rfl) hn0 rfl (by simp only [componentBytes]; omega) hcl hsl dX5_init_278 (fun H hH hz hS hlt hnb => ?_)
  have hw := hw hlt hnb
  generalize va_up hp_224 nx_218 _ = hp_225 at hH hw
  obtain ⟨kc_227, ekc⟩ : ∃ k, k = (kc_219 + 1) := ⟨_, rfl⟩
  obtain ⟨ks_228, eks⟩ : ∃ k, k = (ks_220 + (96 : Int32).toNatClampNeg) := ⟨_, rfl⟩
  have hw := hw _ _ _ rfl ekc eks
  refine W.widen (Nat.le_of_eq ekc.symm) (Nat.le_of_eq eks.symm) ?_
  clear ekc eks
  generalize (nx_218 + 1) = nx_226 at hz hw
  obtain ⟨a_229, ci_230, fs_231, hp_232, er, he, hc, hA, hkl, eh, hw⟩ := zpt_e hw
  refine zw_putF hk hin hH hz hS er he hA hkl eh (ff_X5_102 hc) (z_narA _ _) (z_fitA _ _) dX5_init_280 (fun H locs hH hz hS => ?_)
  refine zr_aload_n (r := some h0) hx hb dX5_init_283 rfl (lv_at hl 0 rfl) ?_
  refine lv_bipush (v := (96 : Int32)) hx hb dX5_init_284 (by decide) ?_
  obtain ⟨hn0, hn1, hcl, hsl, hw⟩ := hw
  refine zx_newa hk hH hz hS (atype := .int) 0 (ty := .int) rfl q277 rfl (fun _ _ h => h) (a0 := ((96 : Int32).toNatClampNeg, .inl (fun _ => 0))) (fun _ => rfl) hn0 rfl (by simp only [componentBytes]; omega) hcl hsl dX5_init_286 (fun H hH hz hS hlt hnb => ?_)
  have hw := hw hlt hnb
  generalize va_up hp_232 nx_226 _ = hp_233 at hH hw
  obtain ⟨kc_235, ekc⟩ : ∃ k, k = (kc_227 + 1) := ⟨_, rfl⟩
  obtain ⟨ks_236, eks⟩ : ∃ k, k = (ks_228 + (96 : Int32).toNatClampNeg) := ⟨_, rfl⟩
  have hw := hw _ _ _ rfl ekc eks
  refine W.widen (Nat.le_of_eq ekc.symm) (Nat.le_of_eq eks.symm) ?_
  clear ekc eks
  generalize (nx_226 + 1) = nx_234 at hz hw
  obtain ⟨a_237, ci_238, fs_239, hp_240, er, he, hc, hA, hkl, eh, hw⟩ := zpt_e hw
  refine zw_putF hk hin hH hz hS er he hA hkl eh (ff_X5_105 hc) (z_narA _ _) (z_fitA _ _) dX5_init_288 (fun H locs hH hz hS => ?_)
  refine zr_aload_n (r := some h0) hx hb dX5_init_291 rfl (lv_at hl 0 rfl) ?_
  refine lv_bipush (v := (96 : Int32)) hx hb dX5_init_292 (by decide) ?_
  obtain ⟨hn0, hn1, hcl, hsl, hw⟩ := hw
  refine zx_newa hk hH hz hS (atype := .double) 1 (ty := .double) rfl q275 rfl (fun _ _ h => h) (a0 := ((96 : Int32).toNatClampNeg, .inr (.inr (.inr (.inl (fun _ => 0)))))) (fun _ => rfl) hn0 rfl (by simp only [componentBytes]; omega) hcl hsl dX5_init_294 (fun H hH hz hS hlt hnb => ?_)
  have hw := hw hlt hnb
  generalize va_up hp_240 nx_234 _ = hp_241 at hH hw
  obtain ⟨kc_243, ekc⟩ : ∃ k, k = (kc_235 + 1) := ⟨_, rfl⟩
  obtain ⟨ks_244, eks⟩ : ∃ k, k = (ks_236 + (96 : Int32).toNatClampNeg) := ⟨_, rfl⟩
  have hw := hw _ _ _ rfl ekc eks
  refine W.widen (Nat.le_of_eq ekc.symm) (Nat.le_of_eq eks.symm) ?_
  clear ekc eks
  generalize (nx_234 + 1) = nx_242 at hz hw
  obtain ⟨a_245, ci_246, fs_247, hp_248, er, he, hc, hA, hkl, eh, hw⟩ := zpt_e hw
  refine zw_putF hk hin hH hz hS er he hA hkl eh (ff_X5_108 hc) (z_narA _ _) (z_fitA _ _) dX5_init_296 (fun H locs hH hz hS => ?_)
  refine zr_aload_n (r := some h0) hx hb dX5_init_299 rfl (lv_at hl 0 rfl) ?_
  refine lv_bipush (v := (96 : Int32)) hx hb dX5_init_300 (by decide) ?_
  obtain ⟨hn0, hn1, hcl, hsl, hw⟩ := hw
  refine zx_newa hk hH hz hS (atype := .int) 0 (ty := .int) rfl q277 rfl (fun _ _ h => h) (a0 := ((96 : Int32).toNatClampNeg, .inl (fun _ => 0))) (fun _ => rfl) hn0 rfl (by simp only [componentBytes]; omega) hcl hsl dX5_init_302 (fun H hH hz hS hlt hnb => ?_)
  have hw := hw hlt hnb
  generalize va_up hp_248 nx_242 _ = hp_249 at hH hw
  obtain ⟨kc_251, ekc⟩ : ∃ k, k = (kc_243 + 1) := ⟨_, rfl⟩
  obtain ⟨ks_252, eks⟩ : ∃ k, k = (ks_244 + (96 : Int32).toNatClampNeg) := ⟨_, rfl⟩
  have hw := hw _ _ _ rfl ekc eks
  refine W.widen (Nat.le_of_eq ekc.symm) (Nat.le_of_eq eks.symm) ?_
  clear ekc eks
  generalize (nx_242 + 1) = nx_250 at hz hw
  obtain ⟨a_253, ci_254, fs_255, hp_256, er, he, hc, hA, hkl, eh, hw⟩ := zpt_e hw
  refine zw_putF hk hin hH hz hS er he hA hkl eh (ff_X5_111 hc) (z_narA _ _) (z_fitA _ _) dX5_init_304 (fun H locs hH hz hS => ?_)
  refine zr_aload_n (r := some h0) hx hb dX5_init_307 rfl (lv_at hl 0 rfl) ?_
  refine lv_bipush (v := (96 : Int32)) hx hb dX5_init_308 (by decide) ?_
  obtain ⟨hn0, hn1, hcl, hsl, hw⟩ := hw
  refine zx_newa hk hH hz hS (atype := .double) 1 (ty := .double) rfl q275 rfl (fun _ _ h => h) (a0 := ((96 : Int32).toNatClampNeg, .inr (.inr (.inr (.inl (fun _ => 0)))))) (fun _ => rfl) hn0 rfl (by simp only [componentBytes]; omega) hcl hsl dX5_init_310 (fun H hH hz hS hlt hnb => ?_)
  have hw := hw hlt hnb
  generalize va_up hp_256 nx_250 _ = hp_257 at hH hw
  obtain ⟨kc_259, ekc⟩ : ∃ k, k = (kc_251 + 1) := ⟨_, rfl⟩
  obtain ⟨ks_260, eks⟩ : ∃ k, k = (ks_252 + (96 : Int32).toNatClampNeg) := ⟨_, rfl⟩
  have hw := hw _ _ _ rfl ekc eks
  refine W.widen (Nat.le_of_eq ekc.symm) (Nat.le_of_eq eks.symm) ?_
  clear ekc eks
  generalize (nx_250 + 1) = nx_258 at hz hw
  obtain ⟨a_261, ci_262, fs_263, hp_264, er, he, hc, hA, hkl, eh, hw⟩ := zpt_e hw
  refine zw_putF hk hin hH hz hS er he hA hkl eh (ff_X5_114 hc) (z_narA _ _) (z_fitA _ _) dX5_init_312 (fun H locs hH hz hS => ?_)
  refine zr_aload_n (r := some h0) hx hb dX5_init_315 rfl (lv_at hl 0 rfl) ?_
  refine lv_bipush (v := (6 : Int32)) hx hb dX5_init_316 (by decide) ?_
  obtain ⟨hn0, hn1, hcl, hsl, hw⟩ := hw
  refine zx_newa hk hH hz hS (atype := .boolean) 3 (ty := .boolean) rfl q2903 rfl (fun _ _ h => h) (a0 := ((6 : Int32).toNatClampNeg, .inl (fun _ => 0))) (fun _ => rfl) hn0 rfl (by simp only [componentBytes]; omega) hcl hsl dX5_init_318 (fun H hH hz hS hlt hnb => ?_)
  have hw := hw hlt hnb
  generalize va_up hp_264 nx_258 _ = hp_265 at hH hw
  obtain ⟨kc_267, ekc⟩ : ∃ k, k = (kc_259 + 1) := ⟨_, rfl⟩
  obtain ⟨ks_268, eks⟩ : ∃ k, k = (ks_260 + (6 : Int32).toNatClampNeg) := ⟨_, rfl⟩
  have hw := hw _ _ _ rfl ekc eks
  refine W.widen (Nat.le_of_eq ekc.symm) (Nat.le_of_eq eks.symm) ?_
  clear ekc eks
  generalize (nx_258 + 1) = nx_266 at hz hw
  obtain ⟨a_269, ci_270, fs_271, hp_272, er, he, hc, hA, hkl, eh, hw⟩ := zpt_e hw
  refine zw_putF hk hin hH hz hS er he hA hkl eh (ff_X5_117 hc) (z_narA _ _) (z_fitA _ _) dX5_init_320 (fun H locs hH hz hS => ?_)
  refine zr_aload_n (r := some h0) hx hb dX5_init_323 rfl (lv_at hl 0 rfl) ?_
  refine lv_bipush (v := (6 : Int32)) hx hb dX5_init_324 (by decide) ?_
  obtain ⟨hn0, hn1, hcl, hsl, hw⟩ := hw
  refine zx_newa hk hH hz hS (atype := .int) 0 (ty := .int) rfl q277 rfl (fun _ _ h => h) (a0 := ((6 : Int32).toNatClampNeg, .inl (fun _ => 0))) (fun _ => rfl) hn0 rfl (by simp only [componentBytes]; omega) hcl hsl dX5_init_326 (fun H hH hz hS hlt hnb => ?_)
  have hw := hw hlt hnb
  generalize va_up hp_272 nx_266 _ = hp_273 at hH hw
  obtain ⟨kc_275, ekc⟩ : ∃ k, k = (kc_267 + 1) := ⟨_, rfl⟩
  obtain ⟨ks_276, eks⟩ : ∃ k, k = (ks_268 + (6 : Int32).toNatClampNeg) := ⟨_, rfl⟩
  have hw := hw _ _ _ rfl ekc eks
  refine W.widen (Nat.le_of_eq ekc.symm) (Nat.le_of_eq eks.symm) ?_
  clear ekc eks
  generalize (nx_266 + 1) = nx_274 at hz hw
  obtain ⟨a_277, ci_278, fs_279, hp_280, er, he, hc, hA, hkl, eh, hw⟩ := zpt_e hw
  refine zw_putF hk hin hH hz hS er he hA hkl eh (ff_X5_120 hc) (z_narA _ _) (z_fitA _ _) dX5_init_328 (fun H locs hH hz hS => ?_)
  refine zr_aload_n (r := some h0) hx hb dX5_init_331 rfl (lv_at hl 0 rfl) ?_
  refine lv_bipush (v := (24 : Int32)) hx hb dX5_init_332 (by decide) ?_
  obtain ⟨hn0, hn1, hcl, hsl, hw⟩ := hw
  refine zx_newa hk hH hz hS (atype := .double) 1 (ty := .double) rfl q275 rfl (fun _ _ h => h) (a0 := ((24 : Int32).toNatClampNeg, .inr (.inr (.inr (.inl (fun _ => 0)))))) (fun _ => rfl) hn0 rfl (by simp only [componentBytes]; omega) hcl hsl dX5_init_334 (fun H hH hz hS hlt hnb => ?_)
  have hw := hw hlt hnb
  generalize va_up hp_280 nx_274 _ = hp_281 at hH hw
  obtain ⟨kc_283, ekc⟩ : ∃ k, k = (kc_275 + 1) := ⟨_, rfl⟩
  obtain ⟨ks_284, eks⟩ : ∃ k, k = (ks_276 + (24 : Int32).toNatClampNeg) := ⟨_, rfl⟩
  have hw := hw _ _ _ rfl ekc eks
  refine W.widen (Nat.le_of_eq ekc.symm) (Nat.le_of_eq eks.symm) ?_
  clear ekc eks
  generalize (nx_274 + 1) = nx_282 at hz hw
  obtain ⟨a_285, ci_286, fs_287, hp_288, er, he, hc, hA, hkl, eh, hw⟩ := zpt_e hw
  refine zw_putF hk hin hH hz hS er he hA hkl eh (ff_X5_123 hc) (z_narA _ _) (z_fitA _ _) dX5_init_336 (fun H locs hH hz hS => ?_)
  refine zr_aload_n (r := some h0) hx hb dX5_init_339 rfl (lv_at hl 0 rfl) ?_
  refine lv_bipush (v := (24 : Int32)) hx hb dX5_init_340 (by decide) ?_
  obtain ⟨hn0, hn1, hcl, hsl, hw⟩ := hw
  refine zx_newa hk hH hz hS (atype := .boolean) 3 (ty := .boolean) rfl q2903 rfl (fun _ _ h => h) (a0 := ((24 : Int32).toNatClampNeg, .inl (fun _ => 0))) (fun _ => rfl) hn0 rfl (by simp only [componentBytes]; omega) hcl hsl dX5_init_342 (fun H hH hz hS hlt hnb => ?_)
  have hw := hw hlt hnb
  generalize va_up hp_288 nx_282 _ = hp_289 at hH hw
  obtain ⟨kc_291, ekc⟩ : ∃ k, k = (kc_283 + 1) := ⟨_, rfl⟩
  obtain ⟨ks_292, eks⟩ : ∃ k, k = (ks_284 + (24 : Int32).toNatClampNeg) := ⟨_, rfl⟩
  have hw := hw _ _ _ rfl ekc eks
  refine W.widen (Nat.le_of_eq ekc.symm) (Nat.le_of_eq eks.symm) ?_
  clear ekc eks
  generalize (nx_282 + 1) = nx_290 at hz hw
  obtain ⟨a_293, ci_294, fs_295, hp_296, er, he, hc, hA, hkl, eh, hw⟩ := zpt_e hw
  refine zw_putF hk hin hH hz hS er he hA hkl eh (ff_X5_126 hc) (z_narA _ _) (z_fitA _ _) dX5_init_344 (fun H locs hH hz hS => ?_)
  refine zr_aload_n (r := some h0) hx hb dX5_init_347 rfl (lv_at hl 0 rfl) ?_
  refine lv_bipush (v := (24 : Int32)) hx hb dX5_init_348 (by decide) ?_
  obtain ⟨hn0, hn1, hcl, hsl, hw⟩ := hw
  refine zx_newa hk hH hz hS (atype := .int) 0 (ty := .int) rfl q277 rfl (fun _ _ h => h) (a0 := ((24 : Int32).toNatClampNeg, .inl (fun _ => 0))) (fun _ => rfl) hn0 rfl (by simp only [componentBytes]; omega) hcl hsl dX5_init_350 (fun H hH hz hS hlt hnb => ?_)
  have hw := hw hlt hnb
  generalize va_up hp_296 nx_290 _ = hp_297 at hH hw
  obtain ⟨kc_299, ekc⟩ : ∃ k, k = (kc_291 + 1) := ⟨_, rfl⟩
  obtain ⟨ks_300, eks⟩ : ∃ k, k = (ks_292 + (24 : Int32).toNatClampNeg) := ⟨_, rfl⟩
  have hw := hw _ _ _ rfl ekc eks
  refine W.widen (Nat.le_of_eq ekc.symm) (Nat.le_of_eq eks.symm) ?_
  clear ekc eks
  generalize (nx_290 + 1) = nx_298 at hz hw
  obtain ⟨a_301, ci_302, fs_303, hp_304, er, he, hc, hA, hkl, eh, hw⟩ := zpt_e hw
  refine zw_putF hk hin hH hz hS er he hA hkl eh (ff_X5_129 hc) (z_narA _ _) (z_fitA _ _) dX5_init_352 (fun H locs hH hz hS => ?_)
  refine zr_aload_n (r := some h0) hx hb dX5_init_355 rfl (lv_at hl 0 rfl) ?_
  refine lv_bipush (v := (24 : Int32)) hx hb dX5_init_356 (by decide) ?_
  obtain ⟨hn0, hn1, hcl, hsl, hw⟩ := hw
  refine zx_newa hk hH hz hS (atype := .int) 0 (ty := .int) rfl q277 rfl (fun _ _ h => h) (a0 := ((24 : Int32).toNatClampNeg, .inl (fun _ => 0))) (fun _ => rfl) hn0 rfl (by simp only [componentBytes]; omega) hcl hsl dX5_init_358 (fun H hH hz hS hlt hnb => ?_)
  have hw := hw hlt hnb
  generalize va_up hp_304 nx_298 _ = hp_305 at hH hw
  obtain ⟨kc_307, ekc⟩ : ∃ k, k = (kc_299 + 1) := ⟨_, rfl⟩
  obtain ⟨ks_308, eks⟩ : ∃ k, k = (ks_300 + (24 : Int32).toNatClampNeg) := ⟨_, rfl⟩
  have hw := hw _ _ _ rfl ekc eks
  refine W.widen (Nat.le_of_eq ekc.symm) (Nat.le_of_eq eks.symm) ?_
  clear ekc eks
  generalize (nx_298 + 1) = nx_306 at hz hw
  obtain ⟨a_309, ci_310, fs_311, hp_312, er, he, hc, hA, hkl, eh, hw⟩ := zpt_e hw
  refine zw_putF hk hin hH hz hS er he hA hkl eh (ff_X5_132 hc) (z_narA _ _) (z_fitA _ _) dX5_init_360 (fun H locs hH hz hS => ?_)
  refine zr_aload_n (r := some h0) hx hb dX5_init_363 rfl (lv_at hl 0 rfl) ?_
  refine lv_bipush (v := (24 : Int32)) hx hb dX5_init_364 (by decide) ?_
  obtain ⟨hn0, hn1, hcl, hsl, hw⟩ := hw
  refine zx_newa hk hH hz hS (atype := .boolean) 3 (ty := .boolean) rfl q2903 rfl (fun _ _ h => h) (a0 := ((24 : Int32).toNatClampNeg, .inl (fun _ => 0))) (fun _ => rfl) hn0 rfl (by simp only [componentBytes]; omega) hcl hsl dX5_init_366 (fun H hH hz hS hlt hnb => ?_)
  have hw := hw hlt hnb
  generalize va_up hp_312 nx_306 _ = hp_313 at hH hw
  obtain ⟨kc_315, ekc⟩ : ∃ k, k = (kc_307 + 1) := ⟨_, rfl⟩
  obtain ⟨ks_316, eks⟩ : ∃ k, k = (ks_308 + (24 : Int32).toNatClampNeg) := ⟨_, rfl⟩
  have hw := hw _ _ _ rfl ekc eks
  refine W.widen (Nat.le_of_eq ekc.symm) (Nat.le_of_eq eks.symm) ?_
  clear ekc eks
  generalize (nx_306 + 1) = nx_314 at hz hw
  obtain ⟨a_317, ci_318, fs_319, hp_320, er, he, hc, hA, hkl, eh, hw⟩ := zpt_e hw
  refine zw_putF hk hin hH hz hS er he hA hkl eh (ff_X5_135 hc) (z_narA _ _) (z_fitA _ _) dX5_init_368 (fun H locs hH hz hS => ?_)
  refine zr_aload_n (r := some h0) hx hb dX5_init_371 rfl (lv_at hl 0 rfl) ?_
  refine lv_bipush (v := (6 : Int32)) hx hb dX5_init_372 (by decide) ?_
  obtain ⟨hn0, hn1, hcl, hsl, hw⟩ := hw
  refine zx_newa hk hH hz hS (atype := .boolean) 3 (ty := .boolean) rfl q2903 rfl (fun _ _ h => h) (a0 := ((6 : Int32).toNatClampNeg, .inl (fun _ => 0))) (fun _ => rfl) hn0 rfl (by simp only [componentBytes]; omega) hcl hsl dX5_init_374 (fun H hH hz hS hlt hnb => ?_)
  have hw := hw hlt hnb
  generalize va_up hp_320 nx_314 _ = hp_321 at hH hw
  obtain ⟨kc_323, ekc⟩ : ∃ k, k = (kc_315 + 1) := ⟨_, rfl⟩
  obtain ⟨ks_324, eks⟩ : ∃ k, k = (ks_316 + (6 : Int32).toNatClampNeg) := ⟨_, rfl⟩
  have hw := hw _ _ _ rfl ekc eks
  refine W.widen (Nat.le_of_eq ekc.symm) (Nat.le_of_eq eks.symm) ?_
  clear ekc eks
  generalize (nx_314 + 1) = nx_322 at hz hw
  obtain ⟨a_325, ci_326, fs_327, hp_328, er, he, hc, hA, hkl, eh, hw⟩ := zpt_e hw
  refine zw_putF hk hin hH hz hS er he hA hkl eh (ff_X5_138 hc) (z_narA _ _) (z_fitA _ _) dX5_init_376 (fun H locs hH hz hS => ?_)
  refine zr_aload_n (r := some h0) hx hb dX5_init_379 rfl (lv_at hl 0 rfl) ?_
  refine lv_bipush (v := (24 : Int32)) hx hb dX5_init_380 (by decide) ?_
  obtain ⟨hn0, hn1, hcl, hsl, hw⟩ := hw
  refine zx_newa hk hH hz hS (atype := .double) 1 (ty := .double) rfl q275 rfl (fun _ _ h => h) (a0 := ((24 : Int32).toNatClampNeg, .inr (.inr (.inr (.inl (fun _ => 0)))))) (fun _ => rfl) hn0 rfl (by simp only [componentBytes]; omega) hcl hsl dX5_init_382 (fun H hH hz hS hlt hnb => ?_)
  have hw := hw hlt hnb
  generalize va_up hp_328 nx_322 _ = hp_329 at hH hw
  obtain ⟨kc_331, ekc⟩ : ∃ k, k = (kc_323 + 1) := ⟨_, rfl⟩
  obtain ⟨ks_332, eks⟩ : ∃ k, k = (ks_324 + (24 : Int32).toNatClampNeg) := ⟨_, rfl⟩
  have hw := hw _ _ _ rfl ekc eks
  refine W.widen (Nat.le_of_eq ekc.symm) (Nat.le_of_eq eks.symm) ?_
  clear ekc eks
  generalize (nx_322 + 1) = nx_330 at hz hw
  obtain ⟨a_333, ci_334, fs_335, hp_336, er, he, hc, hA, hkl, eh, hw⟩ := zpt_e hw
  refine zw_putF hk hin hH hz hS er he hA hkl eh (ff_X5_141 hc) (z_narA _ _) (z_fitA _ _) dX5_init_384 (fun H locs hH hz hS => ?_)
  refine zr_aload_n (r := some h0) hx hb dX5_init_387 rfl (lv_at hl 0 rfl) ?_
  refine lv_bipush (v := (24 : Int32)) hx hb dX5_init_388 (by decide) ?_
  refine lv_bipush (v := (96 : Int32)) hx hb dX5_init_390 (by decide) ?_
  obtain ⟨hn0, hn1, hn2, hn3, hcl, hsl, hw⟩ := hw
  refine zx_mnew hk hH hz hS 14 0 (ty := .int) (x := .inl (fun _ => 0)) q2668 (by decide +kernel) (List.mem_of_getElem? (i := 0) rfl) q277 rfl rfl (fun _ _ h => h) (by decide +kernel) zin_int hn0 hn1 hn2 hn3 (by decide) (by decide +kernel) (by decide +kernel) hcl hsl dX5_init_392 (fun H hH hz hS hlt hnb => ?_)
  have hw := hw hlt hnb
  generalize zmHp hp_336 nx_330 _ _ _ _ _ = hp_337 at hH hw
  obtain ⟨kc_339, ekc⟩ : ∃ k, k = (kc_331 + 1 + (24 : Int32).toNatClampNeg) := ⟨_, rfl⟩
  obtain ⟨ks_340, eks⟩ : ∃ k, k = (ks_332 + (24 : Int32).toNatClampNeg + (24 : Int32).toNatClampNeg * (96 : Int32).toNatClampNeg) := ⟨_, rfl⟩
  have hw := hw _ _ _ rfl ekc eks
  refine W.widen (Nat.le_of_eq ekc.symm) (Nat.le_of_eq eks.symm) ?_
  clear ekc eks
  generalize (nx_330 + 1 + (24 : Int32).toNatClampNeg) = nx_338 at hz hw
  obtain ⟨a_341, ci_342, fs_343, hp_344, er, he, hc, hA, hkl, eh, hw⟩ := zpt_e hw
  refine zw_putF hk hin hH hz hS er he hA hkl eh (ff_X5_144 hc) (z_narA _ _) (z_fitA _ _) dX5_init_396 (fun H locs hH hz hS => ?_)
  refine zr_aload_n (r := some h0) hx hb dX5_init_399 rfl (lv_at hl 0 rfl) ?_
  refine lv_bipush (v := (24 : Int32)) hx hb dX5_init_400 (by decide) ?_
  refine lv_bipush (v := (96 : Int32)) hx hb dX5_init_402 (by decide) ?_
  obtain ⟨hn0, hn1, hn2, hn3, hcl, hsl, hw⟩ := hw
  refine zx_mnew hk hH hz hS 15 1 (ty := .double) (x := .inr (.inr (.inr (.inl (fun _ => 0))))) q2670 (by decide +kernel) (List.mem_of_getElem? (i := 1) rfl) q275 rfl rfl (fun _ _ h => h) (by decide +kernel) zin_double hn0 hn1 hn2 hn3 (by decide) (by decide +kernel) (by decide +kernel) hcl hsl dX5_init_404 (fun H hH hz hS hlt hnb => ?_)
  have hw := hw hlt hnb
  generalize zmHp hp_344 nx_338 _ _ _ _ _ = hp_345 at hH hw
  obtain ⟨kc_347, ekc⟩ : ∃ k, k = (kc_339 + 1 + (24 : Int32).toNatClampNeg) := ⟨_, rfl⟩
  obtain ⟨ks_348, eks⟩ : ∃ k, k = (ks_340 + (24 : Int32).toNatClampNeg + (24 : Int32).toNatClampNeg * (96 : Int32).toNatClampNeg) := ⟨_, rfl⟩
  have hw := hw _ _ _ rfl ekc eks
  refine W.widen (Nat.le_of_eq ekc.symm) (Nat.le_of_eq eks.symm) ?_
  clear ekc eks
  generalize (nx_338 + 1 + (24 : Int32).toNatClampNeg) = nx_346 at hz hw
  obtain ⟨a_349, ci_350, fs_351, hp_352, er, he, hc, hA, hkl, eh, hw⟩ := zpt_e hw
  refine zw_putF hk hin hH hz hS er he hA hkl eh (ff_X5_147 hc) (z_narA _ _) (z_fitA _ _) dX5_init_408 (fun H locs hH hz hS => ?_)
  refine zr_aload_n (r := some h0) hx hb dX5_init_411 rfl (lv_at hl 0 rfl) ?_
  refine lv_bipush (v := (6 : Int32)) hx hb dX5_init_412 (by decide) ?_
  obtain ⟨hn0, hn1, hcl, hsl, hw⟩ := hw
  refine zx_newa hk hH hz hS (atype := .int) 0 (ty := .int) rfl q277 rfl (fun _ _ h => h) (a0 := ((6 : Int32).toNatClampNeg, .inl (fun _ => 0))) (fun _ => rfl) hn0 rfl (by simp only [componentBytes]; omega) hcl hsl dX5_init_414 (fun H hH hz hS hlt hnb => ?_)
  have hw := hw hlt hnb
  generalize va_up hp_352 nx_346 _ = hp_353 at hH hw
  obtain ⟨kc_355, ekc⟩ : ∃ k, k = (kc_347 + 1) := ⟨_, rfl⟩
  obtain ⟨ks_356, eks⟩ : ∃ k, k = (ks_348 + (6 : Int32).toNatClampNeg) := ⟨_, rfl⟩
  have hw := hw _ _ _ rfl ekc eks
  refine W.widen (Nat.le_of_eq ekc.symm) (Nat.le_of_eq eks.symm) ?_
  clear ekc eks
  generalize (nx_346 + 1) = nx_354 at hz hw
  obtain ⟨a_357, ci_358, fs_359, hp_360, er, he, hc, hA, hkl, eh, hw⟩ := zpt_e hw
  refine zw_putF hk hin hH hz hS er he hA hkl eh (ff_X5_150 hc) (z_narA _ _) (z_fitA _ _) dX5_init_416 (fun H locs hH hz hS => ?_)
  refine zr_aload_n (r := some h0) hx hb dX5_init_419 rfl (lv_at hl 0 rfl) ?_
  refine lv_bipush (v := (6 : Int32)) hx hb dX5_init_420 (by decide) ?_
  obtain ⟨hn0, hn1, hcl, hsl, hw⟩ := hw
  refine zx_newa hk hH hz hS (atype := .int) 0 (ty := .int) rfl q277 rfl (fun _ _ h => h) (a0 := ((6 : Int32).toNatClampNeg, .inl (fun _ => 0))) (fun _ => rfl) hn0 rfl (by simp only [componentBytes]; omega) hcl hsl dX5_init_422 (fun H hH hz hS hlt hnb => ?_)
  have hw := hw hlt hnb
  generalize va_up hp_360 nx_354 _ = hp_361 at hH hw
  obtain ⟨kc_363, ekc⟩ : ∃ k, k = (kc_355 + 1) := ⟨_, rfl⟩
  obtain ⟨ks_364, eks⟩ : ∃ k, k = (ks_356 + (6 : Int32).toNatClampNeg) := ⟨_, rfl⟩
  have hw := hw _ _ _ rfl ekc eks
  refine W.widen (Nat.le_of_eq ekc.symm) (Nat.le_of_eq eks.symm) ?_
  clear ekc eks
  generalize (nx_354 + 1) = nx_362 at hz hw
  obtain ⟨a_365, ci_366, fs_367, hp_368, er, he, hc, hA, hkl, eh, hw⟩ := zpt_e hw
  refine zw_putF hk hin hH hz hS er he hA hkl eh (ff_X5_153 hc) (z_narA _ _) (z_fitA _ _) dX5_init_424 (fun H locs hH hz hS => ?_)
  refine zr_aload_n (r := some h0) hx hb dX5_init_427 rfl (lv_at hl 0 rfl) ?_
  refine lv_bipush (v := (6 : Int32)) hx hb dX5_init_428 (by decide) ?_
  obtain ⟨hn0, hn1, hcl, hsl, hw⟩ := hw
  refine zx_newa hk hH hz hS (atype := .int) 0 (ty := .int) rfl q277 rfl (fun _ _ h => h) (a0 := ((6 : Int32).toNatClampNeg, .inl (fun _ => 0))) (fun _ => rfl) hn0 rfl (by simp only [componentBytes]; omega) hcl hsl dX5_init_430 (fun H hH hz hS hlt hnb => ?_)
  have hw := hw hlt hnb
  generalize va_up hp_368 nx_362 _ = hp_369 at hH hw
  obtain ⟨kc_371, ekc⟩ : ∃ k, k = (kc_363 + 1) := ⟨_, rfl⟩
  obtain ⟨ks_372, eks⟩ : ∃ k, k = (ks_364 + (6 : Int32).toNatClampNeg) := ⟨_, rfl⟩
  have hw := hw _ _ _ rfl ekc eks
  refine W.widen (Nat.le_of_eq ekc.symm) (Nat.le_of_eq eks.symm) ?_
  clear ekc eks
  generalize (nx_362 + 1) = nx_370 at hz hw
  obtain ⟨a_373, ci_374, fs_375, hp_376, er, he, hc, hA, hkl, eh, hw⟩ := zpt_e hw
  refine zw_putF hk hin hH hz hS er he hA hkl eh (ff_X5_156 hc) (z_narA _ _) (z_fitA _ _) dX5_init_432 (fun H locs hH hz hS => ?_)
  refine zr_aload_n (r := some h0) hx hb dX5_init_435 rfl (lv_at hl 0 rfl) ?_
  refine lv_bipush (v := (12 : Int32)) hx hb dX5_init_436 (by decide) ?_
  obtain ⟨hn0, hn1, hcl, hsl, hw⟩ := hw
  refine zx_newa hk hH hz hS (atype := .int) 0 (ty := .int) rfl q277 rfl (fun _ _ h => h) (a0 := ((12 : Int32).toNatClampNeg, .inl (fun _ => 0))) (fun _ => rfl) hn0 rfl (by simp only [componentBytes]; omega) hcl hsl dX5_init_438 (fun H hH hz hS hlt hnb => ?_)
  have hw := hw hlt hnb
  generalize va_up hp_376 nx_370 _ = hp_377 at hH hw
  obtain ⟨kc_379, ekc⟩ : ∃ k, k = (kc_371 + 1) := ⟨_, rfl⟩
  obtain ⟨ks_380, eks⟩ : ∃ k, k = (ks_372 + (12 : Int32).toNatClampNeg) := ⟨_, rfl⟩
  have hw := hw _ _ _ rfl ekc eks
  refine W.widen (Nat.le_of_eq ekc.symm) (Nat.le_of_eq eks.symm) ?_
  clear ekc eks
  generalize (nx_370 + 1) = nx_378 at hz hw
  obtain ⟨a_381, ci_382, fs_383, hp_384, er, he, hc, hA, hkl, eh, hw⟩ := zpt_e hw
  refine zw_putF hk hin hH hz hS er he hA hkl eh (ff_X5_159 hc) (z_narA _ _) (z_fitA _ _) dX5_init_440 (fun H locs hH hz hS => ?_)
  refine zr_aload_n (r := some h0) hx hb dX5_init_443 rfl (lv_at hl 0 rfl) ?_
  refine lv_bipush (v := (12 : Int32)) hx hb dX5_init_444 (by decide) ?_
  refine lv_bipush (v := (8 : Int32)) hx hb dX5_init_446 (by decide) ?_
  obtain ⟨hn0, hn1, hn2, hn3, hcl, hsl, hw⟩ := hw
  refine zx_mnew hk hH hz hS 15 1 (ty := .double) (x := .inr (.inr (.inr (.inl (fun _ => 0))))) q2670 (by decide +kernel) (List.mem_of_getElem? (i := 1) rfl) q275 rfl rfl (fun _ _ h => h) (by decide +kernel) zin_double hn0 hn1 hn2 hn3 (by decide) (by decide +kernel) (by decide +kernel) hcl hsl dX5_init_448 (fun H hH hz hS hlt hnb => ?_)
  have hw := hw hlt hnb
  generalize zmHp hp_384 nx_378 _ _ _ _ _ = hp_385 at hH hw
  obtain ⟨kc_387, ekc⟩ : ∃ k, k = (kc_379 + 1 + (12 : Int32).toNatClampNeg) := ⟨_, rfl⟩
  obtain ⟨ks_388, eks⟩ : ∃ k, k = (ks_380 + (12 : Int32).toNatClampNeg + (12 : Int32).toNatClampNeg * (8 : Int32).toNatClampNeg) := ⟨_, rfl⟩
  have hw := hw _ _ _ rfl ekc eks
  refine W.widen (Nat.le_of_eq ekc.symm) (Nat.le_of_eq eks.symm) ?_
  clear ekc eks
  generalize (nx_378 + 1 + (12 : Int32).toNatClampNeg) = nx_386 at hz hw
  obtain ⟨a_389, ci_390, fs_391, hp_392, er, he, hc, hA, hkl, eh, hw⟩ := zpt_e hw
  refine zw_putF hk hin hH hz hS er he hA hkl eh (ff_X5_162 hc) (z_narA _ _) (z_fitA _ _) dX5_init_452 (fun H locs hH hz hS => ?_)
  refine zr_aload_n (r := some h0) hx hb dX5_init_455 rfl (lv_at hl 0 rfl) ?_
  refine lv_iconst (v := (4 : Int32)) hx hb dX5_init_456 (by decide) ?_
  obtain ⟨hn0, hn1, hcl, hsl, hw⟩ := hw
  refine zx_newa hk hH hz hS (atype := .int) 0 (ty := .int) rfl q277 rfl (fun _ _ h => h) (a0 := ((4 : Int32).toNatClampNeg, .inl (fun _ => 0))) (fun _ => rfl) hn0 rfl (by simp only [componentBytes]; omega) hcl hsl dX5_init_457 (fun H hH hz hS hlt hnb => ?_)
  have hw := hw hlt hnb
  generalize va_up hp_392 nx_386 _ = hp_393 at hH hw
  obtain ⟨kc_395, ekc⟩ : ∃ k, k = (kc_387 + 1) := ⟨_, rfl⟩
  obtain ⟨ks_396, eks⟩ : ∃ k, k = (ks_388 + (4 : Int32).toNatClampNeg) := ⟨_, rfl⟩
  have hw := hw _ _ _ rfl ekc eks
  refine W.widen (Nat.le_of_eq ekc.symm) (Nat.le_of_eq eks.symm) ?_
  clear ekc eks
  generalize (nx_386 + 1) = nx_394 at hz hw
  refine lv_dup hx hb dX5_init_459 (z_cat _) ?_
  refine lv_iconst (v := (0 : Int32)) hx hb dX5_init_460 (by decide) ?_
  refine lv_iconst (v := (-1 : Int32)) hx hb dX5_init_461 (by decide) ?_
  obtain ⟨a_397, n_398, f_399, er, he, hi, hA, hw⟩ := zaI_e hw
  obtain ⟨hp_400, eh⟩ : ∃ y : zHp, y = va_up hp_393 a_397 (some (.inl (g.2.1 0, n_398, .inl (va_up f_399 (0 : Int32).toNatClampNeg (-1 : Int32))))) := ⟨_, rfl⟩
  have hw := hw hp_400 eh
  refine zw_iast hk hH hz hS er he hi hA eh dX5_init_462 (fun H locs hH hz hS => ?_)
  refine lv_dup hx hb dX5_init_463 (z_cat _) ?_
  refine lv_iconst (v := (1 : Int32)) hx hb dX5_init_464 (by decide) ?_
  refine lv_iconst (v := (-1 : Int32)) hx hb dX5_init_465 (by decide) ?_
  obtain ⟨a_401, n_402, f_403, er, he, hi, hA, hw⟩ := zaI_e hw
  obtain ⟨hp_404, eh⟩ : ∃ y : zHp, y = va_up hp_400 a_401 (some (.inl (g.2.1 0, n_402, .inl (va_up f_403 (1 : Int32).toNatClampNeg (-1 : Int32))))) := ⟨_, rfl⟩
  have hw := hw hp_404 eh
  refine zw_iast hk hH hz hS er he hi hA eh dX5_init_466 (fun H locs hH hz hS => ?_)
  refine lv_dup hx hb dX5_init_467 (z_cat _) ?_
  refine lv_iconst (v := (2 : Int32)) hx hb dX5_init_468 (by decide) ?_
  refine lv_iconst (v := (-1 : Int32)) hx hb dX5_init_469 (by decide) ?_
  obtain ⟨a_405, n_406, f_407, er, he, hi, hA, hw⟩ := zaI_e hw
  obtain ⟨hp_408, eh⟩ : ∃ y : zHp, y = va_up hp_404 a_405 (some (.inl (g.2.1 0, n_406, .inl (va_up f_407 (2 : Int32).toNatClampNeg (-1 : Int32))))) := ⟨_, rfl⟩
  have hw := hw hp_408 eh
  refine zw_iast hk hH hz hS er he hi hA eh dX5_init_470 (fun H locs hH hz hS => ?_)
  refine lv_dup hx hb dX5_init_471 (z_cat _) ?_
  refine lv_iconst (v := (3 : Int32)) hx hb dX5_init_472 (by decide) ?_
  refine lv_iconst (v := (-1 : Int32)) hx hb dX5_init_473 (by decide) ?_
  obtain ⟨a_409, n_410, f_411, er, he, hi, hA, hw⟩ := zaI_e hw
  obtain ⟨hp_412, eh⟩ : ∃ y : zHp, y = va_up hp_408 a_409 (some (.inl (g.2.1 0, n_410, .inl (va_up f_411 (3 : Int32).toNatClampNeg (-1 : Int32))))) := ⟨_, rfl⟩
  have hw := hw hp_412 eh
  refine zw_iast hk hH hz hS er he hi hA eh dX5_init_474 (fun H locs hH hz hS => ?_)
  obtain ⟨a_413, ci_414, fs_415, hp_416, er, he, hc, hA, hkl, eh, hw⟩ := zpt_e hw
  refine zw_putF hk hin hH hz hS er he hA hkl eh (ff_X5_165 hc) (z_narA _ _) (z_fitA _ _) dX5_init_475 (fun H locs hH hz hS => ?_)
  refine zr_aload_n (r := some h0) hx hb dX5_init_478 rfl (lv_at hl 0 rfl) ?_
  refine lv_iconst (v := (4 : Int32)) hx hb dX5_init_479 (by decide) ?_
  obtain ⟨hn0, hn1, hcl, hsl, hw⟩ := hw
  refine zx_newa hk hH hz hS (atype := .int) 0 (ty := .int) rfl q277 rfl (fun _ _ h => h) (a0 := ((4 : Int32).toNatClampNeg, .inl (fun _ => 0))) (fun _ => rfl) hn0 rfl (by simp only [componentBytes]; omega) hcl hsl dX5_init_480 (fun H hH hz hS hlt hnb => ?_)
  have hw := hw hlt hnb
  generalize va_up hp_416 nx_394 _ = hp_417 at hH hw
  obtain ⟨kc_419, ekc⟩ : ∃ k, k = (kc_395 + 1) := ⟨_, rfl⟩
  obtain ⟨ks_420, eks⟩ : ∃ k, k = (ks_396 + (4 : Int32).toNatClampNeg) := ⟨_, rfl⟩
  have hw := hw _ _ _ rfl ekc eks
  refine W.widen (Nat.le_of_eq ekc.symm) (Nat.le_of_eq eks.symm) ?_
  clear ekc eks
  generalize (nx_394 + 1) = nx_418 at hz hw
  obtain ⟨a_421, ci_422, fs_423, hp_424, er, he, hc, hA, hkl, eh, hw⟩ := zpt_e hw
  refine zw_putF hk hin hH hz hS er he hA hkl eh (ff_X5_168 hc) (z_narA _ _) (z_fitA _ _) dX5_init_482 (fun H locs hH hz hS => ?_)
  refine zr_aload_n (r := some h0) hx hb dX5_init_485 rfl (lv_at hl 0 rfl) ?_
  refine lv_iconst (v := (4 : Int32)) hx hb dX5_init_486 (by decide) ?_
  refine lv_bipush (v := (64 : Int32)) hx hb dX5_init_487 (by decide) ?_
  obtain ⟨hn0, hn1, hn2, hn3, hcl, hsl, hw⟩ := hw
  refine zx_mnew hk hH hz hS 15 1 (ty := .double) (x := .inr (.inr (.inr (.inl (fun _ => 0))))) q2670 (by decide +kernel) (List.mem_of_getElem? (i := 1) rfl) q275 rfl rfl (fun _ _ h => h) (by decide +kernel) zin_double hn0 hn1 hn2 hn3 (by decide) (by decide +kernel) (by decide +kernel) hcl hsl dX5_init_489 (fun H hH hz hS hlt hnb => ?_)
  have hw := hw hlt hnb
  generalize zmHp hp_424 nx_418 _ _ _ _ _ = hp_425 at hH hw
  obtain ⟨kc_427, ekc⟩ : ∃ k, k = (kc_419 + 1 + (4 : Int32).toNatClampNeg) := ⟨_, rfl⟩
  obtain ⟨ks_428, eks⟩ : ∃ k, k = (ks_420 + (4 : Int32).toNatClampNeg + (4 : Int32).toNatClampNeg * (64 : Int32).toNatClampNeg) := ⟨_, rfl⟩
  have hw := hw _ _ _ rfl ekc eks
  refine W.widen (Nat.le_of_eq ekc.symm) (Nat.le_of_eq eks.symm) ?_
  clear ekc eks
  generalize (nx_418 + 1 + (4 : Int32).toNatClampNeg) = nx_426 at hz hw
  obtain ⟨a_429, ci_430, fs_431, hp_432, er, he, hc, hA, hkl, eh, hw⟩ := zpt_e hw
  refine zw_putF hk hin hH hz hS er he hA hkl eh (ff_X5_171 hc) (z_narA _ _) (z_fitA _ _) dX5_init_493 (fun H locs hH hz hS => ?_)
  refine zr_aload_n (r := some h0) hx hb dX5_init_496 rfl (lv_at hl 0 rfl) ?_
  refine lv_iconst (v := (4 : Int32)) hx hb dX5_init_497 (by decide) ?_
  refine lv_bipush (v := (64 : Int32)) hx hb dX5_init_498 (by decide) ?_
  obtain ⟨hn0, hn1, hn2, hn3, hcl, hsl, hw⟩ := hw
  refine zx_mnew hk hH hz hS 16 3 (ty := .boolean) (x := .inl (fun _ => 0)) q2672 (by decide +kernel) (List.mem_of_getElem? (i := 2) rfl) q2903 rfl rfl (fun _ _ h => h) (by decide +kernel) zin_boolean hn0 hn1 hn2 hn3 (by decide) (by decide +kernel) (by decide +kernel) hcl hsl dX5_init_500 (fun H hH hz hS hlt hnb => ?_)
  have hw := hw hlt hnb
  generalize zmHp hp_432 nx_426 _ _ _ _ _ = hp_433 at hH hw
  obtain ⟨kc_435, ekc⟩ : ∃ k, k = (kc_427 + 1 + (4 : Int32).toNatClampNeg) := ⟨_, rfl⟩
  obtain ⟨ks_436, eks⟩ : ∃ k, k = (ks_428 + (4 : Int32).toNatClampNeg + (4 : Int32).toNatClampNeg * (64 : Int32).toNatClampNeg) := ⟨_, rfl⟩
  have hw := hw _ _ _ rfl ekc eks
  refine W.widen (Nat.le_of_eq ekc.symm) (Nat.le_of_eq eks.symm) ?_
  clear ekc eks
  generalize (nx_426 + 1 + (4 : Int32).toNatClampNeg) = nx_434 at hz hw
  obtain ⟨a_437, ci_438, fs_439, hp_440, er, he, hc, hA, hkl, eh, hw⟩ := zpt_e hw
  refine zw_putF hk hin hH hz hS er he hA hkl eh (ff_X5_174 hc) (z_narA _ _) (z_fitA _ _) dX5_init_504 (fun H locs hH hz hS => ?_)
  refine zr_aload_n (r := some h0) hx hb dX5_init_507 rfl (lv_at hl 0 rfl) ?_
  refine lv_bipush (v := (64 : Int32)) hx hb dX5_init_508 (by decide) ?_
  obtain ⟨hn0, hn1, hcl, hsl, hw⟩ := hw
  refine zx_newa hk hH hz hS (atype := .double) 1 (ty := .double) rfl q275 rfl (fun _ _ h => h) (a0 := ((64 : Int32).toNatClampNeg, .inr (.inr (.inr (.inl (fun _ => 0)))))) (fun _ => rfl) hn0 rfl (by simp only [componentBytes]; omega) hcl hsl dX5_init_510 (fun H hH hz hS hlt hnb => ?_)
  have hw := hw hlt hnb
  generalize va_up hp_440 nx_434 _ = hp_441 at hH hw
  obtain ⟨kc_443, ekc⟩ : ∃ k, k = (kc_435 + 1) := ⟨_, rfl⟩
  obtain ⟨ks_444, eks⟩ : ∃ k, k = (ks_436 + (64 : Int32).toNatClampNeg) := ⟨_, rfl⟩
  have hw := hw _ _ _ rfl ekc eks
  refine W.widen (Nat.le_of_eq ekc.symm) (Nat.le_of_eq eks.symm) ?_
  clear ekc eks
  generalize (nx_434 + 1) = nx_442 at hz hw
  obtain ⟨a_445, ci_446, fs_447, hp_448, er, he, hc, hA, hkl, eh, hw⟩ := zpt_e hw
  refine zw_putF hk hin hH hz hS er he hA hkl eh (ff_X5_177 hc) (z_narA _ _) (z_fitA _ _) dX5_init_512 (fun H locs hH hz hS => ?_)
  refine zr_aload_n (r := some h0) hx hb dX5_init_515 rfl (lv_at hl 0 rfl) ?_
  refine lv_bipush (v := (64 : Int32)) hx hb dX5_init_516 (by decide) ?_
  obtain ⟨hn0, hn1, hcl, hsl, hw⟩ := hw
  refine zx_newa hk hH hz hS (atype := .boolean) 3 (ty := .boolean) rfl q2903 rfl (fun _ _ h => h) (a0 := ((64 : Int32).toNatClampNeg, .inl (fun _ => 0))) (fun _ => rfl) hn0 rfl (by simp only [componentBytes]; omega) hcl hsl dX5_init_518 (fun H hH hz hS hlt hnb => ?_)
  have hw := hw hlt hnb
  generalize va_up hp_448 nx_442 _ = hp_449 at hH hw
  obtain ⟨kc_451, ekc⟩ : ∃ k, k = (kc_443 + 1) := ⟨_, rfl⟩
  obtain ⟨ks_452, eks⟩ : ∃ k, k = (ks_444 + (64 : Int32).toNatClampNeg) := ⟨_, rfl⟩
  have hw := hw _ _ _ rfl ekc eks
  refine W.widen (Nat.le_of_eq ekc.symm) (Nat.le_of_eq eks.symm) ?_
  clear ekc eks
  generalize (nx_442 + 1) = nx_450 at hz hw
  obtain ⟨a_453, ci_454, fs_455, hp_456, er, he, hc, hA, hkl, eh, hw⟩ := zpt_e hw
  refine zw_putF hk hin hH hz hS er he hA hkl eh (ff_X5_180 hc) (z_narA _ _) (z_fitA _ _) dX5_init_520 (fun H locs hH hz hS => ?_)
  obtain ⟨hkc, hks, hw⟩ := hw
  exact zr_vret hk hr hH hz hS hw hkc hks dX5_init_523
