set_option maxRecDepth 100000
theorem ff_X0_31 {ci : Nat} (h : ci ∈ [0]) : zFf "WhatIfSheet" 31 ci 0 (.array (.object "WhatIfSheet$Plain")) := by
  simp only [List.mem_cons, List.not_mem_nil, or_false] at h
  rcases h with rfl
  · exact ⟨RX0, TX0, 30, rfl, by decide, q1203, rfl, rfl, by decide +kernel⟩
theorem ff_X0_37 {ci : Nat} (h : ci ∈ [0]) : zFf "WhatIfSheet" 37 ci 1 (.array (.object "WhatIfSheet$Table")) := by
  simp only [List.mem_cons, List.not_mem_nil, or_false] at h
  rcases h with rfl
  · exact ⟨RX0, TX0, 30, rfl, by decide, q1205, rfl, rfl, by decide +kernel⟩
theorem fp_X0_41 {ci : Nat} (h : ci ∈ [0]) : zFp "WhatIfSheet" 41 ci 3 .int := by
  simp only [List.mem_cons, List.not_mem_nil, or_false] at h
  rcases h with rfl
  · exact ⟨RX0, TX0, 30, rfl, by decide, q1210, rfl, by decide +kernel⟩
theorem ff_X0_47 {ci : Nat} (h : ci ∈ [0]) : zFf "WhatIfSheet" 47 ci 5 (.array (.object "WhatIfSheet$Sight")) := by
  simp only [List.mem_cons, List.not_mem_nil, or_false] at h
  rcases h with rfl
  · exact ⟨RX0, TX0, 30, rfl, by decide, q1215, rfl, rfl, by decide +kernel⟩
theorem no_X0_45 : zNo "WhatIfSheet" 45 1 := ⟨RX1, TX1, 13, rfl, q212, q214, q132⟩
theorem ff_X0_52 {ci : Nat} (h : ci ∈ [0]) : zFf "WhatIfSheet" 52 ci 6 (.object "WhatIfSheet$Sight") := by
  simp only [List.mem_cons, List.not_mem_nil, or_false] at h
  rcases h with rfl
  · exact ⟨RX0, TX0, 30, rfl, by decide, q1216, rfl, rfl, by decide +kernel⟩
theorem ff_X0_58 {ci : Nat} (h : ci ∈ [0]) : zFf "WhatIfSheet" 58 ci 11 (.array (.object "java/util/BitSet")) := by
  simp only [List.mem_cons, List.not_mem_nil, or_false] at h
  rcases h with rfl
  · exact ⟨RX0, TX0, 30, rfl, by decide, q1221, rfl, rfl, by decide +kernel⟩
theorem ff_X0_62 {ci : Nat} (h : ci ∈ [0]) : zFf "WhatIfSheet" 62 ci 12 (.array (.object "java/util/BitSet")) := by
  simp only [List.mem_cons, List.not_mem_nil, or_false] at h
  rcases h with rfl
  · exact ⟨RX0, TX0, 30, rfl, by decide, q1222, rfl, rfl, by decide +kernel⟩
theorem ff_X0_65 {ci : Nat} (h : ci ∈ [0]) : zFf "WhatIfSheet" 65 ci 13 (.array .int) := by
  simp only [List.mem_cons, List.not_mem_nil, or_false] at h
  rcases h with rfl
  · exact ⟨RX0, TX0, 30, rfl, by decide, q1223, rfl, rfl, by decide +kernel⟩
theorem ff_X0_69 {ci : Nat} (h : ci ∈ [0]) : zFf "WhatIfSheet" 69 ci 14 (.array .int) := by
  simp only [List.mem_cons, List.not_mem_nil, or_false] at h
  rcases h with rfl
  · exact ⟨RX0, TX0, 30, rfl, by decide, q1224, rfl, rfl, by decide +kernel⟩
theorem ff_X0_72 {ci : Nat} (h : ci ∈ [0]) : zFf "WhatIfSheet" 72 ci 15 (.array .int) := by
  simp only [List.mem_cons, List.not_mem_nil, or_false] at h
  rcases h with rfl
  · exact ⟨RX0, TX0, 30, rfl, by decide, q1225, rfl, rfl, by decide +kernel⟩
theorem no_X0_56 : zNo "WhatIfSheet" 56 34 := ⟨RJ0, TJ0, 3, rfl, q278, q280, q133⟩
theorem ff_X0_76 {ci : Nat} (h : ci ∈ [0]) : zFf "WhatIfSheet" 76 ci 16 (.object "java/util/BitSet") := by
  simp only [List.mem_cons, List.not_mem_nil, or_false] at h
  rcases h with rfl
  · exact ⟨RX0, TX0, 30, rfl, by decide, q1226, rfl, rfl, by decide +kernel⟩
theorem ff_X0_80 {ci : Nat} (h : ci ∈ [0]) : zFf "WhatIfSheet" 80 ci 17 (.array .int) := by
  simp only [List.mem_cons, List.not_mem_nil, or_false] at h
  rcases h with rfl
  · exact ⟨RX0, TX0, 30, rfl, by decide, q1227, rfl, rfl, by decide +kernel⟩
theorem no_X0_83 : zNo "WhatIfSheet" 83 35 := ⟨RJ17, TJ17, 3, rfl, q624, q625, q151⟩
theorem ff_X0_86 {ci : Nat} (h : ci ∈ [0]) : zFf "WhatIfSheet" 86 ci 18 (.object "java/util/ArrayDeque") := by
  simp only [List.mem_cons, List.not_mem_nil, or_false] at h
  rcases h with rfl
  · exact ⟨RX0, TX0, 30, rfl, by decide, q1228, rfl, rfl, by decide +kernel⟩
theorem ff_X0_90 {ci : Nat} (h : ci ∈ [0]) : zFf "WhatIfSheet" 90 ci 19 (.array .byte) := by
  simp only [List.mem_cons, List.not_mem_nil, or_false] at h
  rcases h with rfl
  · exact ⟨RX0, TX0, 30, rfl, by decide, q1230, rfl, rfl, by decide +kernel⟩
theorem ff_X0_94 {ci : Nat} (h : ci ∈ [0]) : zFf "WhatIfSheet" 94 ci 21 (.array .double) := by
  simp only [List.mem_cons, List.not_mem_nil, or_false] at h
  rcases h with rfl
  · exact ⟨RX0, TX0, 30, rfl, by decide, q1233, rfl, rfl, by decide +kernel⟩
theorem ff_X0_98 {ci : Nat} (h : ci ∈ [0]) : zFf "WhatIfSheet" 98 ci 22 (.array .byte) := by
  simp only [List.mem_cons, List.not_mem_nil, or_false] at h
  rcases h with rfl
  · exact ⟨RX0, TX0, 30, rfl, by decide, q1234, rfl, rfl, by decide +kernel⟩
theorem ff_X0_101 {ci : Nat} (h : ci ∈ [0]) : zFf "WhatIfSheet" 101 ci 23 (.array .double) := by
  simp only [List.mem_cons, List.not_mem_nil, or_false] at h
  rcases h with rfl
  · exact ⟨RX0, TX0, 30, rfl, by decide, q1235, rfl, rfl, by decide +kernel⟩
theorem ff_X0_104 {ci : Nat} (h : ci ∈ [0]) : zFf "WhatIfSheet" 104 ci 24 (.array .int) := by
  simp only [List.mem_cons, List.not_mem_nil, or_false] at h
  rcases h with rfl
  · exact ⟨RX0, TX0, 30, rfl, by decide, q1236, rfl, rfl, by decide +kernel⟩
theorem ff_X0_107 {ci : Nat} (h : ci ∈ [0]) : zFf "WhatIfSheet" 107 ci 25 (.array .double) := by
  simp only [List.mem_cons, List.not_mem_nil, or_false] at h
  rcases h with rfl
  · exact ⟨RX0, TX0, 30, rfl, by decide, q1237, rfl, rfl, by decide +kernel⟩
theorem ff_X0_112 {ci : Nat} (h : ci ∈ [0]) : zFf "WhatIfSheet" 112 ci 26 (.array (.object "WhatIfSheet$Formula")) := by
  simp only [List.mem_cons, List.not_mem_nil, or_false] at h
  rcases h with rfl
  · exact ⟨RX0, TX0, 30, rfl, by decide, q1238, rfl, rfl, by decide +kernel⟩
theorem ff_X0_116 {ci : Nat} (h : ci ∈ [0]) : zFf "WhatIfSheet" 116 ci 27 (.array (.object "WhatIfSheet$Table")) := by
  simp only [List.mem_cons, List.not_mem_nil, or_false] at h
  rcases h with rfl
  · exact ⟨RX0, TX0, 30, rfl, by decide, q1239, rfl, rfl, by decide +kernel⟩
theorem ff_X0_121 {ci : Nat} (h : ci ∈ [0]) : zFf "WhatIfSheet" 121 ci 29 (.array (.object "WhatIfSheet$Row")) := by
  simp only [List.mem_cons, List.not_mem_nil, or_false] at h
  rcases h with rfl
  · exact ⟨RX0, TX0, 30, rfl, by decide, q1241, rfl, rfl, by decide +kernel⟩
theorem fk_X0_121 {ci : Nat} (h : ci ∈ [0]) : zFk "WhatIfSheet" 121 ci 29 := by
  simp only [List.mem_cons, List.not_mem_nil, or_false] at h
  rcases h with rfl
  · exact ⟨RX0, TX0, 30, rfl, by decide, q1241⟩
theorem no_X0_119 : zNo "WhatIfSheet" 119 3 := ⟨RX3, TX3, 1, rfl, q648, q670, q153⟩
theorem cw_WhatIfSheet_Row : ∀ ci ∈ [3], zCw "WhatIfSheet$Row" ci := by
  intro ci h
  simp only [List.mem_cons, List.not_mem_nil, or_false] at h
  rcases h with rfl
  · exact ⟨RX3, TX3, 1, rfl, Or.inr rfl⟩
theorem fk_X0_47 {ci : Nat} (h : ci ∈ [0]) : zFk "WhatIfSheet" 47 ci 5 := by
  simp only [List.mem_cons, List.not_mem_nil, or_false] at h
  rcases h with rfl
  · exact ⟨RX0, TX0, 30, rfl, by decide, q1215⟩
theorem cw_WhatIfSheet_Sight : ∀ ci ∈ [1], zCw "WhatIfSheet$Sight" ci := by
  intro ci h
  simp only [List.mem_cons, List.not_mem_nil, or_false] at h
  rcases h with rfl
  · exact ⟨RX1, TX1, 13, rfl, Or.inr rfl⟩
theorem fk_X0_31 {ci : Nat} (h : ci ∈ [0]) : zFk "WhatIfSheet" 31 ci 0 := by
  simp only [List.mem_cons, List.not_mem_nil, or_false] at h
  rcases h with rfl
  · exact ⟨RX0, TX0, 30, rfl, by decide, q1203⟩
theorem no_X0_3 : zNo "WhatIfSheet" 3 2 := ⟨RX2, TX2, 3, rfl, q208, q650, q152⟩
theorem cw_WhatIfSheet_Plain : ∀ ci ∈ [2, 6, 7, 8, 9, 10], zCw "WhatIfSheet$Plain" ci := by
  intro ci h
  simp only [List.mem_cons, List.not_mem_nil, or_false] at h
  rcases h with rfl | rfl | rfl | rfl | rfl | rfl
  · exact ⟨RX2, TX2, 3, rfl, Or.inr rfl⟩
  · exact ⟨RX6, TX6, 3, rfl, Or.inl q3388⟩
  · exact ⟨RX7, TX7, 3, rfl, Or.inl q3385⟩
  · exact ⟨RX8, TX8, 3, rfl, Or.inl q3386⟩
  · exact ⟨RX9, TX9, 3, rfl, Or.inl q3387⟩
  · exact ⟨RX10, TX10, 3, rfl, Or.inl q3384⟩
theorem fk_X0_58 {ci : Nat} (h : ci ∈ [0]) : zFk "WhatIfSheet" 58 ci 11 := by
  simp only [List.mem_cons, List.not_mem_nil, or_false] at h
  rcases h with rfl
  · exact ⟨RX0, TX0, 30, rfl, by decide, q1221⟩
theorem cw_java_util_BitSet : ∀ ci ∈ [34], zCw "java/util/BitSet" ci := by
  intro ci h
  simp only [List.mem_cons, List.not_mem_nil, or_false] at h
  rcases h with rfl
  · exact ⟨RJ0, TJ0, 3, rfl, Or.inr rfl⟩
theorem fk_X0_62 {ci : Nat} (h : ci ∈ [0]) : zFk "WhatIfSheet" 62 ci 12 := by
  simp only [List.mem_cons, List.not_mem_nil, or_false] at h
  rcases h with rfl
  · exact ⟨RX0, TX0, 30, rfl, by decide, q1222⟩
def wp_X0_init (l : Launch) (g : zG) (d : Nat) (mc ms : Nat) (h0 : Nat) (hp : zHp) (nx : Nat) (Post : zHp → Nat → Prop) : Prop :=
  (znq g mc ms hp nx 0 0 7 (24 : Int32) fun hp_1 =>
  ∀ nx_2 kc_3 ks_4 : Nat, nx_2 = (nx + 1) → kc_3 = (0 + 1) → ks_4 = (0 + (24 : Int32).toNatClampNeg) →
  (zpt g hp_1 (some h0) [0] 0 (va_rf (some nx)) fun hp_8 =>
  (znq g mc ms hp_8 nx_2 kc_3 ks_4 8 (6 : Int32) fun hp_9 =>
  ∀ nx_10 kc_11 ks_12 : Nat, nx_10 = (nx_2 + 1) → kc_11 = (kc_3 + 1) → ks_12 = (ks_4 + (6 : Int32).toNatClampNeg) →
  (zpt g hp_9 (some h0) [0] 1 (va_rf (some nx_2)) fun hp_16 =>
  (zpt g hp_16 (some h0) [0] 3 (.int (-1 : Int32)) fun hp_20 =>
  (znq g mc ms hp_20 nx_10 kc_11 ks_12 9 (6 : Int32) fun hp_21 =>
  ∀ nx_22 kc_23 ks_24 : Nat, nx_22 = (nx_10 + 1) → kc_23 = (kc_11 + 1) → ks_24 = (ks_12 + (6 : Int32).toNatClampNeg) →
  (zpt g hp_21 (some h0) [0] 5 (va_rf (some nx_10)) fun hp_28 =>
  (znw g mc ms hp_28 nx_22 kc_23 ks_24 1 fun hp_29 =>
  ∀ nx_30 kc_31 ks_32 : Nat, nx_30 = (nx_22 + 1) → kc_31 = (kc_23 + 1) → ks_32 = (ks_24 + zNn 1) →
  (∃ c_33 s_34 : Nat, kc_31 + c_33 ≤ mc ∧ ks_32 + s_34 ≤ ms ∧ zMt l g yX1_init cX1_init 2 none d c_33 s_34 (.ref nx_22 :: [.int (1 : Int32)]) hp_29 nx_30 (zQv g fun hp_35 nx_36 =>
  (zpt g hp_35 (some h0) [0] 6 (va_rf (some nx_22)) fun hp_40 =>
  (znq g mc ms hp_40 nx_36 (kc_31 + c_33) (ks_32 + s_34) 10 (24 : Int32) fun hp_41 =>
  ∀ nx_42 kc_43 ks_44 : Nat, nx_42 = (nx_36 + 1) → kc_43 = ((kc_31 + c_33) + 1) → ks_44 = ((ks_32 + s_34) + (24 : Int32).toNatClampNeg) →
  (zpt g hp_41 (some h0) [0] 11 (va_rf (some nx_36)) fun hp_48 =>
  (znq g mc ms hp_48 nx_42 kc_43 ks_44 10 (24 : Int32) fun hp_49 =>
  ∀ nx_50 kc_51 ks_52 : Nat, nx_50 = (nx_42 + 1) → kc_51 = (kc_43 + 1) → ks_52 = (ks_44 + (24 : Int32).toNatClampNeg) →
  (zpt g hp_49 (some h0) [0] 12 (va_rf (some nx_42)) fun hp_56 =>
  (zna g mc ms hp_56 nx_50 kc_51 ks_52 0 (24 : Int32) (.inl (fun _ => 0)) fun hp_57 =>
  ∀ nx_58 kc_59 ks_60 : Nat, nx_58 = (nx_50 + 1) → kc_59 = (kc_51 + 1) → ks_60 = (ks_52 + (24 : Int32).toNatClampNeg) →
  (zpt g hp_57 (some h0) [0] 13 (va_rf (some nx_50)) fun hp_64 =>
  (zna g mc ms hp_64 nx_58 kc_59 ks_60 0 (24 : Int32) (.inl (fun _ => 0)) fun hp_65 =>
  ∀ nx_66 kc_67 ks_68 : Nat, nx_66 = (nx_58 + 1) → kc_67 = (kc_59 + 1) → ks_68 = (ks_60 + (24 : Int32).toNatClampNeg) →
  (zpt g hp_65 (some h0) [0] 14 (va_rf (some nx_58)) fun hp_72 =>
  (zna g mc ms hp_72 nx_66 kc_67 ks_68 0 (6 : Int32) (.inl (fun _ => 0)) fun hp_73 =>
  ∀ nx_74 kc_75 ks_76 : Nat, nx_74 = (nx_66 + 1) → kc_75 = (kc_67 + 1) → ks_76 = (ks_68 + (6 : Int32).toNatClampNeg) →
  (zpt g hp_73 (some h0) [0] 15 (va_rf (some nx_66)) fun hp_80 =>
  (znw g mc ms hp_80 nx_74 kc_75 ks_76 34 fun hp_81 =>
  ∀ nx_82 kc_83 ks_84 : Nat, nx_82 = (nx_74 + 1) → kc_83 = (kc_75 + 1) → ks_84 = (ks_76 + zNn 34) →
  (∃ c_85 s_86 : Nat, kc_83 + c_85 ≤ mc ∧ ks_84 + s_86 ≤ ms ∧ zMt l g yJ0_init cJ0_init 2 none d c_85 s_86 (.ref nx_74 :: [.int (24 : Int32)]) hp_81 nx_82 (zQv g fun hp_87 nx_88 =>
  (zpt g hp_87 (some h0) [0] 16 (va_rf (some nx_74)) fun hp_92 =>
  (zna g mc ms hp_92 nx_88 (kc_83 + c_85) (ks_84 + s_86) 0 (30 : Int32) (.inl (fun _ => 0)) fun hp_93 =>
  ∀ nx_94 kc_95 ks_96 : Nat, nx_94 = (nx_88 + 1) → kc_95 = ((kc_83 + c_85) + 1) → ks_96 = ((ks_84 + s_86) + (30 : Int32).toNatClampNeg) →
  (zpt g hp_93 (some h0) [0] 17 (va_rf (some nx_88)) fun hp_100 =>
  (znw g mc ms hp_100 nx_94 kc_95 ks_96 35 fun hp_101 =>
  ∀ nx_102 kc_103 ks_104 : Nat, nx_102 = (nx_94 + 1) → kc_103 = (kc_95 + 1) → ks_104 = (ks_96 + zNn 35) →
  (∃ c_105 s_106 : Nat, kc_103 + c_105 ≤ mc ∧ ks_104 + s_106 ≤ ms ∧ zMt l g yJ17_init cJ17_init 2 none d c_105 s_106 (.ref nx_94 :: [.int (32 : Int32)]) hp_101 nx_102 (zQv g fun hp_107 nx_108 =>
  (zpt g hp_107 (some h0) [0] 18 (va_rf (some nx_94)) fun hp_112 =>
  (zna g mc ms hp_112 nx_108 (kc_103 + c_105) (ks_104 + s_106) 2 (96 : Int32) (.inl (fun _ => 0)) fun hp_113 =>
  ∀ nx_114 kc_115 ks_116 : Nat, nx_114 = (nx_108 + 1) → kc_115 = ((kc_103 + c_105) + 1) → ks_116 = ((ks_104 + s_106) + (96 : Int32).toNatClampNeg) →
  (zpt g hp_113 (some h0) [0] 19 (va_rf (some nx_108)) fun hp_120 =>
  (zna g mc ms hp_120 nx_114 kc_115 ks_116 1 (8 : Int32) (.inr (.inr (.inr (.inl (fun _ => 0))))) fun hp_121 =>
  ∀ nx_122 kc_123 ks_124 : Nat, nx_122 = (nx_114 + 1) → kc_123 = (kc_115 + 1) → ks_124 = (ks_116 + (8 : Int32).toNatClampNeg) →
  (zpt g hp_121 (some h0) [0] 21 (va_rf (some nx_114)) fun hp_128 =>
  (zna g mc ms hp_128 nx_122 kc_123 ks_124 2 (8 : Int32) (.inl (fun _ => 0)) fun hp_129 =>
  ∀ nx_130 kc_131 ks_132 : Nat, nx_130 = (nx_122 + 1) → kc_131 = (kc_123 + 1) → ks_132 = (ks_124 + (8 : Int32).toNatClampNeg) →
  (zpt g hp_129 (some h0) [0] 22 (va_rf (some nx_122)) fun hp_136 =>
  (zna g mc ms hp_136 nx_130 kc_131 ks_132 1 (24 : Int32) (.inr (.inr (.inr (.inl (fun _ => 0))))) fun hp_137 =>
  ∀ nx_138 kc_139 ks_140 : Nat, nx_138 = (nx_130 + 1) → kc_139 = (kc_131 + 1) → ks_140 = (ks_132 + (24 : Int32).toNatClampNeg) →
  (zpt g hp_137 (some h0) [0] 23 (va_rf (some nx_130)) fun hp_144 =>
  (zna g mc ms hp_144 nx_138 kc_139 ks_140 0 (24 : Int32) (.inl (fun _ => 0)) fun hp_145 =>
  ∀ nx_146 kc_147 ks_148 : Nat, nx_146 = (nx_138 + 1) → kc_147 = (kc_139 + 1) → ks_148 = (ks_140 + (24 : Int32).toNatClampNeg) →
  (zpt g hp_145 (some h0) [0] 24 (va_rf (some nx_138)) fun hp_152 =>
  (zna g mc ms hp_152 nx_146 kc_147 ks_148 1 (24 : Int32) (.inr (.inr (.inr (.inl (fun _ => 0))))) fun hp_153 =>
  ∀ nx_154 kc_155 ks_156 : Nat, nx_154 = (nx_146 + 1) → kc_155 = (kc_147 + 1) → ks_156 = (ks_148 + (24 : Int32).toNatClampNeg) →
  (zpt g hp_153 (some h0) [0] 25 (va_rf (some nx_146)) fun hp_160 =>
  (znq g mc ms hp_160 nx_154 kc_155 ks_156 11 (24 : Int32) fun hp_161 =>
  ∀ nx_162 kc_163 ks_164 : Nat, nx_162 = (nx_154 + 1) → kc_163 = (kc_155 + 1) → ks_164 = (ks_156 + (24 : Int32).toNatClampNeg) →
  (zpt g hp_161 (some h0) [0] 26 (va_rf (some nx_154)) fun hp_168 =>
  (znq g mc ms hp_168 nx_162 kc_163 ks_164 8 (6 : Int32) fun hp_169 =>
  ∀ nx_170 kc_171 ks_172 : Nat, nx_170 = (nx_162 + 1) → kc_171 = (kc_163 + 1) → ks_172 = (ks_164 + (6 : Int32).toNatClampNeg) →
  (zpt g hp_169 (some h0) [0] 27 (va_rf (some nx_162)) fun hp_176 =>
  (znq g mc ms hp_176 nx_170 kc_171 ks_172 12 (4 : Int32) fun hp_177 =>
  ∀ nx_178 kc_179 ks_180 : Nat, nx_178 = (nx_170 + 1) → kc_179 = (kc_171 + 1) → ks_180 = (ks_172 + (4 : Int32).toNatClampNeg) →
  (zpt g hp_177 (some h0) [0] 29 (va_rf (some nx_170)) fun hp_184 =>
  (∃ I_200 : Nat → Int32 → zHp → Nat → Nat → Nat → Prop, (∃ n_310, I_200 n_310 (0 : Int32) hp_184 nx_178 kc_179 ks_180) ∧ ∀ (n_190 : Nat) (x_185 : Int32) (hp_186 : zHp) (nx_187 : Nat) (kc_188 : Nat) (ks_189 : Nat), I_200 n_190 x_185 hp_186 nx_187 kc_188 ks_189 →
  (((24 : Int32) ≤ x_185 →
  (∃ I_258 : Nat → Int32 → zHp → Nat → Nat → Nat → Prop, (∃ n_252, I_258 n_252 (0 : Int32) hp_186 nx_187 kc_188 ks_189) ∧ ∀ (n_196 : Nat) (x_191 : Int32) (hp_192 : zHp) (nx_193 : Nat) (kc_194 : Nat) (ks_195 : Nat), I_258 n_196 x_191 hp_192 nx_193 kc_194 ks_195 →
  (((6 : Int32) ≤ x_191 →
  (∃ I_287 : Nat → Int32 → zHp → Nat → Nat → Nat → Prop, (∃ n_230, I_287 n_230 (0 : Int32) hp_192 nx_193 kc_194 ks_195) ∧ ∀ (n_202 : Nat) (x_197 : Int32) (hp_198 : zHp) (nx_199 : Nat) (kc_200 : Nat) (ks_201 : Nat), I_287 n_202 x_197 hp_198 nx_199 kc_200 ks_201 →
  (((4 : Int32) ≤ x_197 →
  (∃ c_203 s_204 : Nat, kc_200 + c_203 ≤ mc ∧ ks_201 + s_204 ≤ ms ∧ zo hp_198 (some h0) [0] fun a_208 ci_209 fs_210 => zMtW l g yX0_orders cX0_orders 2 (some .int) [(0, 11, 12, 333)] d c_203 s_204 (.ref a_208 :: []) hp_198 nx_199 (zQi g fun x_207 hp_205 nx_206 =>
  ((kc_200 + c_203) ≤ mc ∧ (ks_201 + s_204) ≤ ms ∧ Post hp_205 nx_206)))) ∧
  (¬ (4 : Int32) ≤ x_197 →
  (zgR hp_198 (some h0) [0] 29 fun r_214 =>
  (znw g mc ms hp_198 nx_199 kc_200 ks_201 3 fun hp_215 =>
  ∀ nx_216 kc_217 ks_218 : Nat, nx_216 = (nx_199 + 1) → kc_217 = (kc_200 + 1) → ks_218 = (ks_201 + zNn 3) →
  (kc_217 ≤ mc ∧ ks_218 ≤ ms ∧ zMt l g yX3_init cX3_init 1 none d 0 0 (.ref nx_199 :: []) hp_215 nx_216 (zQv g fun hp_219 nx_220 =>
  (zaR (g.2.1 12) hp_219 r_214 fun a_221 n_222 f_223 => vp_in x_197 n_222 ∧ zB g ≤ a_221 ∧ zCa hp_219 (some nx_199) [3] ∧ ∀ hp_224 : zHp, hp_224 = va_up hp_219 a_221 (some (.inl (g.2.1 12, n_222, .inr (.inr (.inr (.inr (va_up f_223 x_197.toNatClampNeg (some nx_199)))))))) →
  (∀ x_225 : Int32, x_225 = x_197 + (1 : Int32) →
  (∃ k_226, k_226 < n_202 ∧ I_287 k_226 x_225 hp_224 nx_220 kc_217 ks_218))))))))))) ∧
  (¬ (6 : Int32) ≤ x_191 →
  (zgR hp_192 (some h0) [0] 5 fun r_234 =>
  (znw g mc ms hp_192 nx_193 kc_194 ks_195 1 fun hp_235 =>
  ∀ nx_236 kc_237 ks_238 : Nat, nx_236 = (nx_193 + 1) → kc_237 = (kc_194 + 1) → ks_238 = (ks_195 + zNn 1) →
  (∃ c_239 s_240 : Nat, kc_237 + c_239 ≤ mc ∧ ks_238 + s_240 ≤ ms ∧ zMt l g yX1_init cX1_init 2 none d c_239 s_240 (.ref nx_193 :: [.int (64 : Int32)]) hp_235 nx_236 (zQv g fun hp_241 nx_242 =>
  (zaR (g.2.1 9) hp_241 r_234 fun a_243 n_244 f_245 => vp_in x_191 n_244 ∧ zB g ≤ a_243 ∧ zCa hp_241 (some nx_193) [1] ∧ ∀ hp_246 : zHp, hp_246 = va_up hp_241 a_243 (some (.inl (g.2.1 9, n_244, .inr (.inr (.inr (.inr (va_up f_245 x_191.toNatClampNeg (some nx_193)))))))) →
  (∀ x_247 : Int32, x_247 = x_191 + (1 : Int32) →
  (∃ k_248, k_248 < n_196 ∧ I_258 k_248 x_247 hp_246 nx_242 (kc_237 + c_239) (ks_238 + s_240)))))))))))) ∧
  (¬ (24 : Int32) ≤ x_185 →
  (zgR hp_186 (some h0) [0] 0 fun r_256 =>
  (znw g mc ms hp_186 nx_187 kc_188 ks_189 2 fun hp_257 =>
  ∀ nx_258 kc_259 ks_260 : Nat, nx_258 = (nx_187 + 1) → kc_259 = (kc_188 + 1) → ks_260 = (ks_189 + zNn 2) →
  (kc_259 ≤ mc ∧ ks_260 ≤ ms ∧ zMt l g yX2_init cX2_init 2 none d 0 0 (.ref nx_187 :: [.int x_185]) hp_257 nx_258 (zQv g fun hp_261 nx_262 =>
  (zaR (g.2.1 7) hp_261 r_256 fun a_263 n_264 f_265 => vp_in x_185 n_264 ∧ zB g ≤ a_263 ∧ zCa hp_261 (some nx_187) [2, 6, 7, 8, 9, 10] ∧ ∀ hp_266 : zHp, hp_266 = va_up hp_261 a_263 (some (.inl (g.2.1 7, n_264, .inr (.inr (.inr (.inr (va_up f_265 x_185.toNatClampNeg (some nx_187)))))))) →
  (zgR hp_266 (some h0) [0] 11 fun r_270 =>
  (znw g mc ms hp_266 nx_262 kc_259 ks_260 34 fun hp_271 =>
  ∀ nx_272 kc_273 ks_274 : Nat, nx_272 = (nx_262 + 1) → kc_273 = (kc_259 + 1) → ks_274 = (ks_260 + zNn 34) →
  (∃ c_275 s_276 : Nat, kc_273 + c_275 ≤ mc ∧ ks_274 + s_276 ≤ ms ∧ zMt l g yJ0_init cJ0_init 2 none d c_275 s_276 (.ref nx_262 :: [.int (24 : Int32)]) hp_271 nx_272 (zQv g fun hp_277 nx_278 =>
  (zaR (g.2.1 10) hp_277 r_270 fun a_279 n_280 f_281 => vp_in x_185 n_280 ∧ zB g ≤ a_279 ∧ zCa hp_277 (some nx_262) [34] ∧ ∀ hp_282 : zHp, hp_282 = va_up hp_277 a_279 (some (.inl (g.2.1 10, n_280, .inr (.inr (.inr (.inr (va_up f_281 x_185.toNatClampNeg (some nx_262)))))))) →
  (zgR hp_282 (some h0) [0] 12 fun r_286 =>
  (znw g mc ms hp_282 nx_278 (kc_273 + c_275) (ks_274 + s_276) 34 fun hp_287 =>
  ∀ nx_288 kc_289 ks_290 : Nat, nx_288 = (nx_278 + 1) → kc_289 = ((kc_273 + c_275) + 1) → ks_290 = ((ks_274 + s_276) + zNn 34) →
  (∃ c_291 s_292 : Nat, kc_289 + c_291 ≤ mc ∧ ks_290 + s_292 ≤ ms ∧ zMt l g yJ0_init cJ0_init 2 none d c_291 s_292 (.ref nx_278 :: [.int (24 : Int32)]) hp_287 nx_288 (zQv g fun hp_293 nx_294 =>
  (zaR (g.2.1 10) hp_293 r_286 fun a_295 n_296 f_297 => vp_in x_185 n_296 ∧ zB g ≤ a_295 ∧ zCa hp_293 (some nx_278) [34] ∧ ∀ hp_298 : zHp, hp_298 = va_up hp_293 a_295 (some (.inl (g.2.1 10, n_296, .inr (.inr (.inr (.inr (va_up f_297 x_185.toNatClampNeg (some nx_278)))))))) →
  (∀ x_299 : Int32, x_299 = x_185 + (1 : Int32) →
  (∃ k_300, k_300 < n_190 ∧ I_200 k_300 x_299 hp_298 nx_294 (kc_289 + c_291) (ks_290 + s_292))))))))))))))))))))))))))))))))))))))))))))))))))))))))))))))))))))))
set_option maxHeartbeats 40000000 in
theorem met_X0_init {l : Launch} {g : zG} {d : Nat} {mc ms : Nat} {h0 : Nat} {hp : zHp} {nx : Nat} {Post : zHp → Nat → Prop} (hw : wp_X0_init l g d mc ms h0 hp nx Post) : zMt l g yX0_init cX0_init 2 none (d + 1) mc ms [.ref h0] hp nx (zQv g Post) := by
  refine z_start (by decide) (Nat.le_of_ble_eq_true rfl) ?_
  intro p e s m below meth c hk hr hin hH hz ls hl
  have hx := hk.1.1
  have hb := hk.1.2.1
  have hown := hk.1.2.2.2.1
  have hts := hk.1.2.2.2.2
  have hS : va_S (zAd g) s.heap s.heap [] := va_S.rf
  have hl : lv_has ls 2 [(0, va_rf (some h0))] := hl
  unfold wp_X0_init at hw
  refine zr_aload_n (r := some h0) hx hb dX0_init_0 rfl (lv_at hl 0 rfl) ?_
  refine W.objInit (a := h0) hx hb hown (hts _ q205) (hts _ q206) (hts _ q207) rfl (by rw [hk.1.2.2.1]; exact hl.1) rfl dX0_init_1 (Nat.le_add_left 1 d) (Nat.le_trans (Nat.le_of_ble_eq_true rfl : _ ≤ 64) (by show 64 ≤ 64 * (d + 1); omega)) ?_
  refine W.eq (g2 := F0 m 4 ls []) rfl ?_
  refine zr_aload_n (r := some h0) hx hb dX0_init_4 rfl (lv_at hl 0 rfl) ?_
  refine lv_bipush (v := (24 : Int32)) hx hb dX0_init_5 (by decide) ?_
  obtain ⟨hn0, hn1, hcl, hsl, hw⟩ := hw
  refine zx_newq hk hH hz hS 7 (C := "WhatIfSheet$Plain") q208 (List.mem_of_getElem? (i := 0) rfl) rfl hn0 hn1 hcl hsl dX0_init_7 (fun H hH hz hS hlt hnb => ?_)
  have hw := hw hlt hnb
  generalize va_up hp nx _ = hp_1 at hH hw
  obtain ⟨kc_3, ekc⟩ : ∃ k, k = (0 + 1) := ⟨_, rfl⟩
  obtain ⟨ks_4, eks⟩ : ∃ k, k = (0 + (24 : Int32).toNatClampNeg) := ⟨_, rfl⟩
  have hw := hw _ _ _ rfl ekc eks
  refine W.widen (Nat.le_of_eq ekc.symm) (Nat.le_of_eq eks.symm) ?_
  clear ekc eks
  generalize (nx + 1) = nx_2 at hz hw
  obtain ⟨a_5, ci_6, fs_7, hp_8, er, he, hc, hA, hkl, eh, hw⟩ := zpt_e hw
  refine zw_putF hk hin hH hz hS er he hA hkl eh (ff_X0_31 hc) (z_narA _ _) (z_fitA _ _) dX0_init_10 (fun H locs hH hz hS => ?_)
  refine zr_aload_n (r := some h0) hx hb dX0_init_13 rfl (lv_at hl 0 rfl) ?_
  refine lv_bipush (v := (6 : Int32)) hx hb dX0_init_14 (by decide) ?_
  obtain ⟨hn0, hn1, hcl, hsl, hw⟩ := hw
  refine zx_newq hk hH hz hS 8 (C := "WhatIfSheet$Table") q210 (List.mem_of_getElem? (i := 1) rfl) rfl hn0 hn1 hcl hsl dX0_init_16 (fun H hH hz hS hlt hnb => ?_)
  have hw := hw hlt hnb
  generalize va_up hp_8 nx_2 _ = hp_9 at hH hw
  obtain ⟨kc_11, ekc⟩ : ∃ k, k = (kc_3 + 1) := ⟨_, rfl⟩
  obtain ⟨ks_12, eks⟩ : ∃ k, k = (ks_4 + (6 : Int32).toNatClampNeg) := ⟨_, rfl⟩
  have hw := hw _ _ _ rfl ekc eks
  refine W.widen (Nat.le_of_eq ekc.symm) (Nat.le_of_eq eks.symm) ?_
  clear ekc eks
  generalize (nx_2 + 1) = nx_10 at hz hw
  obtain ⟨a_13, ci_14, fs_15, hp_16, er, he, hc, hA, hkl, eh, hw⟩ := zpt_e hw
  refine zw_putF hk hin hH hz hS er he hA hkl eh (ff_X0_37 hc) (z_narA _ _) (z_fitA _ _) dX0_init_19 (fun H locs hH hz hS => ?_)
  refine zr_aload_n (r := some h0) hx hb dX0_init_22 rfl (lv_at hl 0 rfl) ?_
  refine lv_iconst (v := (-1 : Int32)) hx hb dX0_init_23 (by decide) ?_
  obtain ⟨a_17, ci_18, fs_19, hp_20, er, he, hc, hA, hkl, eh, hw⟩ := zpt_e hw
  refine zw_put hk hH hz hS er he hA hkl eh (fp_X0_41 hc) rfl rfl dX0_init_24 (fun H locs hH hz hS => ?_)
  refine zr_aload_n (r := some h0) hx hb dX0_init_27 rfl (lv_at hl 0 rfl) ?_
  refine lv_bipush (v := (6 : Int32)) hx hb dX0_init_28 (by decide) ?_
  obtain ⟨hn0, hn1, hcl, hsl, hw⟩ := hw
  refine zx_newq hk hH hz hS 9 (C := "WhatIfSheet$Sight") q212 (List.mem_of_getElem? (i := 2) rfl) rfl hn0 hn1 hcl hsl dX0_init_30 (fun H hH hz hS hlt hnb => ?_)
  have hw := hw hlt hnb
  generalize va_up hp_20 nx_10 _ = hp_21 at hH hw
  obtain ⟨kc_23, ekc⟩ : ∃ k, k = (kc_11 + 1) := ⟨_, rfl⟩
  obtain ⟨ks_24, eks⟩ : ∃ k, k = (ks_12 + (6 : Int32).toNatClampNeg) := ⟨_, rfl⟩
  have hw := hw _ _ _ rfl ekc eks
  refine W.widen (Nat.le_of_eq ekc.symm) (Nat.le_of_eq eks.symm) ?_
  clear ekc eks
  generalize (nx_10 + 1) = nx_22 at hz hw
  obtain ⟨a_25, ci_26, fs_27, hp_28, er, he, hc, hA, hkl, eh, hw⟩ := zpt_e hw
  refine zw_putF hk hin hH hz hS er he hA hkl eh (ff_X0_47 hc) (z_narA _ _) (z_fitA _ _) dX0_init_33 (fun H locs hH hz hS => ?_)
  refine zr_aload_n (r := some h0) hx hb dX0_init_36 rfl (lv_at hl 0 rfl) ?_
  obtain ⟨hcl, hsl, hw⟩ := hw
  refine zx_new hk hH hz hS (ci := 1) no_X0_45 hcl hsl dX0_init_37 (fun H hH hz hS hlt hnb => ?_)
  have hw := hw hlt hnb
  generalize va_up hp_28 nx_22 _ = hp_29 at hH hw
  obtain ⟨kc_31, ekc⟩ : ∃ k, k = (kc_23 + 1) := ⟨_, rfl⟩
  obtain ⟨ks_32, eks⟩ : ∃ k, k = (ks_24 + zNn 1) := ⟨_, rfl⟩
  have hw := hw _ _ _ rfl ekc eks
  refine W.widen (Nat.le_of_eq ekc.symm) (Nat.le_of_eq eks.symm) ?_
  clear ekc eks
  generalize (nx_22 + 1) = nx_30 at hz hw
  refine lv_dup hx hb dX0_init_40 (z_cat _) ?_
  refine lv_iconst (v := (1 : Int32)) hx hb dX0_init_41 (by decide) ?_
  obtain ⟨c_33, s_34, hcl, hsl, hw⟩ := hw
  refine zr_callv (zw_runI (As := [.int (1 : Int32)]) (r := some nx_22) hk hH hz hS hl.1 rfl hw (cwI 1 hts (lw_meth q217) rfl rfl rfl (hts _ q132) (hts _ q215) (hts _ q216) rfl (by decide +kernel) (z_room (Nat.le_of_ble_eq_true rfl))) rfl rfl (by simp only [List.map_cons, List.map_nil, z_cat]; exact Nat.le_of_ble_eq_true rfl) dX0_init_42 ⟨hcl, hsl⟩) hS (fun hp_35 nx_36 hw H locs hH hz hS => ?_)
  obtain ⟨a_37, ci_38, fs_39, hp_40, er, he, hc, hA, hkl, eh, hw⟩ := zpt_e hw
  refine zw_putF hk hin hH hz hS er he hA hkl eh (ff_X0_52 hc) (z_narR _ _) (z_fitR _ _) dX0_init_45 (fun H locs hH hz hS => ?_)
  refine zr_aload_n (r := some h0) hx hb dX0_init_48 rfl (lv_at hl 0 rfl) ?_
  refine lv_bipush (v := (24 : Int32)) hx hb dX0_init_49 (by decide) ?_
  obtain ⟨hn0, hn1, hcl, hsl, hw⟩ := hw
  refine zx_newq hk hH hz hS 10 (C := "java/util/BitSet") q278 (List.mem_of_getElem? (i := 3) rfl) rfl hn0 hn1 hcl hsl dX0_init_51 (fun H hH hz hS hlt hnb => ?_)
  have hw := hw hlt hnb
  generalize va_up hp_40 nx_36 _ = hp_41 at hH hw
  obtain ⟨kc_43, ekc⟩ : ∃ k, k = ((kc_31 + c_33) + 1) := ⟨_, rfl⟩
  obtain ⟨ks_44, eks⟩ : ∃ k, k = ((ks_32 + s_34) + (24 : Int32).toNatClampNeg) := ⟨_, rfl⟩
  have hw := hw _ _ _ rfl ekc eks
  refine W.widen (Nat.le_of_eq ekc.symm) (Nat.le_of_eq eks.symm) ?_
  clear ekc eks
  generalize (nx_36 + 1) = nx_42 at hz hw
  obtain ⟨a_45, ci_46, fs_47, hp_48, er, he, hc, hA, hkl, eh, hw⟩ := zpt_e hw
  refine zw_putF hk hin hH hz hS er he hA hkl eh (ff_X0_58 hc) (z_narA _ _) (z_fitA _ _) dX0_init_54 (fun H locs hH hz hS => ?_)
  refine zr_aload_n (r := some h0) hx hb dX0_init_57 rfl (lv_at hl 0 rfl) ?_
  refine lv_bipush (v := (24 : Int32)) hx hb dX0_init_58 (by decide) ?_
  obtain ⟨hn0, hn1, hcl, hsl, hw⟩ := hw
  refine zx_newq hk hH hz hS 10 (C := "java/util/BitSet") q278 (List.mem_of_getElem? (i := 3) rfl) rfl hn0 hn1 hcl hsl dX0_init_60 (fun H hH hz hS hlt hnb => ?_)
  have hw := hw hlt hnb
  generalize va_up hp_48 nx_42 _ = hp_49 at hH hw
  obtain ⟨kc_51, ekc⟩ : ∃ k, k = (kc_43 + 1) := ⟨_, rfl⟩
  obtain ⟨ks_52, eks⟩ : ∃ k, k = (ks_44 + (24 : Int32).toNatClampNeg) := ⟨_, rfl⟩
  have hw := hw _ _ _ rfl ekc eks
  refine W.widen (Nat.le_of_eq ekc.symm) (Nat.le_of_eq eks.symm) ?_
  clear ekc eks
  generalize (nx_42 + 1) = nx_50 at hz hw
  obtain ⟨a_53, ci_54, fs_55, hp_56, er, he, hc, hA, hkl, eh, hw⟩ := zpt_e hw
  refine zw_putF hk hin hH hz hS er he hA hkl eh (ff_X0_62 hc) (z_narA _ _) (z_fitA _ _) dX0_init_63 (fun H locs hH hz hS => ?_)
  refine zr_aload_n (r := some h0) hx hb dX0_init_66 rfl (lv_at hl 0 rfl) ?_
  refine lv_bipush (v := (24 : Int32)) hx hb dX0_init_67 (by decide) ?_
  obtain ⟨hn0, hn1, hcl, hsl, hw⟩ := hw
  refine zx_newa hk hH hz hS (atype := .int) 0 (ty := .int) rfl q277 rfl (fun _ _ h => h) (a0 := ((24 : Int32).toNatClampNeg, .inl (fun _ => 0))) (fun _ => rfl) hn0 rfl (by simp only [componentBytes]; omega) hcl hsl dX0_init_69 (fun H hH hz hS hlt hnb => ?_)
  have hw := hw hlt hnb
  generalize va_up hp_56 nx_50 _ = hp_57 at hH hw
  obtain ⟨kc_59, ekc⟩ : ∃ k, k = (kc_51 + 1) := ⟨_, rfl⟩
  obtain ⟨ks_60, eks⟩ : ∃ k, k = (ks_52 + (24 : Int32).toNatClampNeg) := ⟨_, rfl⟩
  have hw := hw _ _ _ rfl ekc eks
  refine W.widen (Nat.le_of_eq ekc.symm) (Nat.le_of_eq eks.symm) ?_
  clear ekc eks
  generalize (nx_50 + 1) = nx_58 at hz hw
  obtain ⟨a_61, ci_62, fs_63, hp_64, er, he, hc, hA, hkl, eh, hw⟩ := zpt_e hw
  refine zw_putF hk hin hH hz hS er he hA hkl eh (ff_X0_65 hc) (z_narA _ _) (z_fitA _ _) dX0_init_71 (fun H locs hH hz hS => ?_)
  refine zr_aload_n (r := some h0) hx hb dX0_init_74 rfl (lv_at hl 0 rfl) ?_
  refine lv_bipush (v := (24 : Int32)) hx hb dX0_init_75 (by decide) ?_
  obtain ⟨hn0, hn1, hcl, hsl, hw⟩ := hw
  refine zx_newa hk hH hz hS (atype := .int) 0 (ty := .int) rfl q277 rfl (fun _ _ h => h) (a0 := ((24 : Int32).toNatClampNeg, .inl (fun _ => 0))) (fun _ => rfl) hn0 rfl (by simp only [componentBytes]; omega) hcl hsl dX0_init_77 (fun H hH hz hS hlt hnb => ?_)
  have hw := hw hlt hnb
  generalize va_up hp_64 nx_58 _ = hp_65 at hH hw
  obtain ⟨kc_67, ekc⟩ : ∃ k, k = (kc_59 + 1) := ⟨_, rfl⟩
  obtain ⟨ks_68, eks⟩ : ∃ k, k = (ks_60 + (24 : Int32).toNatClampNeg) := ⟨_, rfl⟩
  have hw := hw _ _ _ rfl ekc eks
  refine W.widen (Nat.le_of_eq ekc.symm) (Nat.le_of_eq eks.symm) ?_
  clear ekc eks
  generalize (nx_58 + 1) = nx_66 at hz hw
  obtain ⟨a_69, ci_70, fs_71, hp_72, er, he, hc, hA, hkl, eh, hw⟩ := zpt_e hw
  refine zw_putF hk hin hH hz hS er he hA hkl eh (ff_X0_69 hc) (z_narA _ _) (z_fitA _ _) dX0_init_79 (fun H locs hH hz hS => ?_)
  refine zr_aload_n (r := some h0) hx hb dX0_init_82 rfl (lv_at hl 0 rfl) ?_
  refine lv_bipush (v := (6 : Int32)) hx hb dX0_init_83 (by decide) ?_
  obtain ⟨hn0, hn1, hcl, hsl, hw⟩ := hw
  refine zx_newa hk hH hz hS (atype := .int) 0 (ty := .int) rfl q277 rfl (fun _ _ h => h) (a0 := ((6 : Int32).toNatClampNeg, .inl (fun _ => 0))) (fun _ => rfl) hn0 rfl (by simp only [componentBytes]; omega) hcl hsl dX0_init_85 (fun H hH hz hS hlt hnb => ?_)
  have hw := hw hlt hnb
  generalize va_up hp_72 nx_66 _ = hp_73 at hH hw
  obtain ⟨kc_75, ekc⟩ : ∃ k, k = (kc_67 + 1) := ⟨_, rfl⟩
  obtain ⟨ks_76, eks⟩ : ∃ k, k = (ks_68 + (6 : Int32).toNatClampNeg) := ⟨_, rfl⟩
  have hw := hw _ _ _ rfl ekc eks
  refine W.widen (Nat.le_of_eq ekc.symm) (Nat.le_of_eq eks.symm) ?_
  clear ekc eks
  generalize (nx_66 + 1) = nx_74 at hz hw
  obtain ⟨a_77, ci_78, fs_79, hp_80, er, he, hc, hA, hkl, eh, hw⟩ := zpt_e hw
  refine zw_putF hk hin hH hz hS er he hA hkl eh (ff_X0_72 hc) (z_narA _ _) (z_fitA _ _) dX0_init_87 (fun H locs hH hz hS => ?_)
  refine zr_aload_n (r := some h0) hx hb dX0_init_90 rfl (lv_at hl 0 rfl) ?_
  obtain ⟨hcl, hsl, hw⟩ := hw
  refine zx_new hk hH hz hS (ci := 34) no_X0_56 hcl hsl dX0_init_91 (fun H hH hz hS hlt hnb => ?_)
  have hw := hw hlt hnb
  generalize va_up hp_80 nx_74 _ = hp_81 at hH hw
  obtain ⟨kc_83, ekc⟩ : ∃ k, k = (kc_75 + 1) := ⟨_, rfl⟩
  obtain ⟨ks_84, eks⟩ : ∃ k, k = (ks_76 + zNn 34) := ⟨_, rfl⟩
  have hw := hw _ _ _ rfl ekc eks
  refine W.widen (Nat.le_of_eq ekc.symm) (Nat.le_of_eq eks.symm) ?_
  clear ekc eks
  generalize (nx_74 + 1) = nx_82 at hz hw
  refine lv_dup hx hb dX0_init_94 (z_cat _) ?_
  refine lv_bipush (v := (24 : Int32)) hx hb dX0_init_95 (by decide) ?_
  obtain ⟨c_85, s_86, hcl, hsl, hw⟩ := hw
  refine zr_callv (zw_runI (As := [.int (24 : Int32)]) (r := some nx_74) hk hH hz hS hl.1 rfl hw (cwI 1 hts (lw_meth q283) rfl rfl rfl (hts _ q133) (hts _ q281) (hts _ q282) rfl (by decide +kernel) (z_room (Nat.le_of_ble_eq_true rfl))) rfl rfl (by simp only [List.map_cons, List.map_nil, z_cat]; exact Nat.le_of_ble_eq_true rfl) dX0_init_97 ⟨hcl, hsl⟩) hS (fun hp_87 nx_88 hw H locs hH hz hS => ?_)
  obtain ⟨a_89, ci_90, fs_91, hp_92, er, he, hc, hA, hkl, eh, hw⟩ := zpt_e hw
  refine zw_putF hk hin hH hz hS er he hA hkl eh (ff_X0_76 hc) (z_narR _ _) (z_fitR _ _) dX0_init_100 (fun H locs hH hz hS => ?_)
  refine zr_aload_n (r := some h0) hx hb dX0_init_103 rfl (lv_at hl 0 rfl) ?_
  refine lv_bipush (v := (30 : Int32)) hx hb dX0_init_104 (by decide) ?_
  obtain ⟨hn0, hn1, hcl, hsl, hw⟩ := hw
  refine zx_newa hk hH hz hS (atype := .int) 0 (ty := .int) rfl q277 rfl (fun _ _ h => h) (a0 := ((30 : Int32).toNatClampNeg, .inl (fun _ => 0))) (fun _ => rfl) hn0 rfl (by simp only [componentBytes]; omega) hcl hsl dX0_init_106 (fun H hH hz hS hlt hnb => ?_)
  have hw := hw hlt hnb
  generalize va_up hp_92 nx_88 _ = hp_93 at hH hw
  obtain ⟨kc_95, ekc⟩ : ∃ k, k = ((kc_83 + c_85) + 1) := ⟨_, rfl⟩
  obtain ⟨ks_96, eks⟩ : ∃ k, k = ((ks_84 + s_86) + (30 : Int32).toNatClampNeg) := ⟨_, rfl⟩
  have hw := hw _ _ _ rfl ekc eks
  refine W.widen (Nat.le_of_eq ekc.symm) (Nat.le_of_eq eks.symm) ?_
  clear ekc eks
  generalize (nx_88 + 1) = nx_94 at hz hw
  obtain ⟨a_97, ci_98, fs_99, hp_100, er, he, hc, hA, hkl, eh, hw⟩ := zpt_e hw
  refine zw_putF hk hin hH hz hS er he hA hkl eh (ff_X0_80 hc) (z_narA _ _) (z_fitA _ _) dX0_init_108 (fun H locs hH hz hS => ?_)
  refine zr_aload_n (r := some h0) hx hb dX0_init_111 rfl (lv_at hl 0 rfl) ?_
  obtain ⟨hcl, hsl, hw⟩ := hw
  refine zx_new hk hH hz hS (ci := 35) no_X0_83 hcl hsl dX0_init_112 (fun H hH hz hS hlt hnb => ?_)
  have hw := hw hlt hnb
  generalize va_up hp_100 nx_94 _ = hp_101 at hH hw
  obtain ⟨kc_103, ekc⟩ : ∃ k, k = (kc_95 + 1) := ⟨_, rfl⟩
  obtain ⟨ks_104, eks⟩ : ∃ k, k = (ks_96 + zNn 35) := ⟨_, rfl⟩
  have hw := hw _ _ _ rfl ekc eks
  refine W.widen (Nat.le_of_eq ekc.symm) (Nat.le_of_eq eks.symm) ?_
  clear ekc eks
  generalize (nx_94 + 1) = nx_102 at hz hw
  refine lv_dup hx hb dX0_init_115 (z_cat _) ?_
  refine lv_bipush (v := (32 : Int32)) hx hb dX0_init_116 (by decide) ?_
  obtain ⟨c_105, s_106, hcl, hsl, hw⟩ := hw
  refine zr_callv (zw_runI (As := [.int (32 : Int32)]) (r := some nx_94) hk hH hz hS hl.1 rfl hw (cwI 1 hts (lw_meth q628) rfl rfl rfl (hts _ q151) (hts _ q626) (hts _ q627) rfl (by decide +kernel) (z_room (Nat.le_of_ble_eq_true rfl))) rfl rfl (by simp only [List.map_cons, List.map_nil, z_cat]; exact Nat.le_of_ble_eq_true rfl) dX0_init_118 ⟨hcl, hsl⟩) hS (fun hp_107 nx_108 hw H locs hH hz hS => ?_)
  obtain ⟨a_109, ci_110, fs_111, hp_112, er, he, hc, hA, hkl, eh, hw⟩ := zpt_e hw
  refine zw_putF hk hin hH hz hS er he hA hkl eh (ff_X0_86 hc) (z_narR _ _) (z_fitR _ _) dX0_init_121 (fun H locs hH hz hS => ?_)
  refine zr_aload_n (r := some h0) hx hb dX0_init_124 rfl (lv_at hl 0 rfl) ?_
  refine lv_bipush (v := (96 : Int32)) hx hb dX0_init_125 (by decide) ?_
  obtain ⟨hn0, hn1, hcl, hsl, hw⟩ := hw
  refine zx_newa hk hH hz hS (atype := .byte) 2 (ty := .byte) rfl q276 rfl (fun _ _ h => h) (a0 := ((96 : Int32).toNatClampNeg, .inl (fun _ => 0))) (fun _ => rfl) hn0 rfl (by simp only [componentBytes]; omega) hcl hsl dX0_init_127 (fun H hH hz hS hlt hnb => ?_)
  have hw := hw hlt hnb
  generalize va_up hp_112 nx_108 _ = hp_113 at hH hw
  obtain ⟨kc_115, ekc⟩ : ∃ k, k = ((kc_103 + c_105) + 1) := ⟨_, rfl⟩
  obtain ⟨ks_116, eks⟩ : ∃ k, k = ((ks_104 + s_106) + (96 : Int32).toNatClampNeg) := ⟨_, rfl⟩
  have hw := hw _ _ _ rfl ekc eks
  refine W.widen (Nat.le_of_eq ekc.symm) (Nat.le_of_eq eks.symm) ?_
  clear ekc eks
  generalize (nx_108 + 1) = nx_114 at hz hw
  obtain ⟨a_117, ci_118, fs_119, hp_120, er, he, hc, hA, hkl, eh, hw⟩ := zpt_e hw
  refine zw_putF hk hin hH hz hS er he hA hkl eh (ff_X0_90 hc) (z_narA _ _) (z_fitA _ _) dX0_init_129 (fun H locs hH hz hS => ?_)
  refine zr_aload_n (r := some h0) hx hb dX0_init_132 rfl (lv_at hl 0 rfl) ?_
  refine lv_bipush (v := (8 : Int32)) hx hb dX0_init_133 (by decide) ?_
  obtain ⟨hn0, hn1, hcl, hsl, hw⟩ := hw
  refine zx_newa hk hH hz hS (atype := .double) 1 (ty := .double) rfl q275 rfl (fun _ _ h => h) (a0 := ((8 : Int32).toNatClampNeg, .inr (.inr (.inr (.inl (fun _ => 0)))))) (fun _ => rfl) hn0 rfl (by simp only [componentBytes]; omega) hcl hsl dX0_init_135 (fun H hH hz hS hlt hnb => ?_)
  have hw := hw hlt hnb
  generalize va_up hp_120 nx_114 _ = hp_121 at hH hw
  obtain ⟨kc_123, ekc⟩ : ∃ k, k = (kc_115 + 1) := ⟨_, rfl⟩
  obtain ⟨ks_124, eks⟩ : ∃ k, k = (ks_116 + (8 : Int32).toNatClampNeg) := ⟨_, rfl⟩
  have hw := hw _ _ _ rfl ekc eks
  refine W.widen (Nat.le_of_eq ekc.symm) (Nat.le_of_eq eks.symm) ?_
  clear ekc eks
  generalize (nx_114 + 1) = nx_122 at hz hw
  obtain ⟨a_125, ci_126, fs_127, hp_128, er, he, hc, hA, hkl, eh, hw⟩ := zpt_e hw
  refine zw_putF hk hin hH hz hS er he hA hkl eh (ff_X0_94 hc) (z_narA _ _) (z_fitA _ _) dX0_init_137 (fun H locs hH hz hS => ?_)
  refine zr_aload_n (r := some h0) hx hb dX0_init_140 rfl (lv_at hl 0 rfl) ?_
  refine lv_bipush (v := (8 : Int32)) hx hb dX0_init_141 (by decide) ?_
  obtain ⟨hn0, hn1, hcl, hsl, hw⟩ := hw
  refine zx_newa hk hH hz hS (atype := .byte) 2 (ty := .byte) rfl q276 rfl (fun _ _ h => h) (a0 := ((8 : Int32).toNatClampNeg, .inl (fun _ => 0))) (fun _ => rfl) hn0 rfl (by simp only [componentBytes]; omega) hcl hsl dX0_init_143 (fun H hH hz hS hlt hnb => ?_)
  have hw := hw hlt hnb
  generalize va_up hp_128 nx_122 _ = hp_129 at hH hw
  obtain ⟨kc_131, ekc⟩ : ∃ k, k = (kc_123 + 1) := ⟨_, rfl⟩
  obtain ⟨ks_132, eks⟩ : ∃ k, k = (ks_124 + (8 : Int32).toNatClampNeg) := ⟨_, rfl⟩
  have hw := hw _ _ _ rfl ekc eks
  refine W.widen (Nat.le_of_eq ekc.symm) (Nat.le_of_eq eks.symm) ?_
  clear ekc eks
  generalize (nx_122 + 1) = nx_130 at hz hw
  obtain ⟨a_133, ci_134, fs_135, hp_136, er, he, hc, hA, hkl, eh, hw⟩ := zpt_e hw
  refine zw_putF hk hin hH hz hS er he hA hkl eh (ff_X0_98 hc) (z_narA _ _) (z_fitA _ _) dX0_init_145 (fun H locs hH hz hS => ?_)
  refine zr_aload_n (r := some h0) hx hb dX0_init_148 rfl (lv_at hl 0 rfl) ?_
  refine lv_bipush (v := (24 : Int32)) hx hb dX0_init_149 (by decide) ?_
  obtain ⟨hn0, hn1, hcl, hsl, hw⟩ := hw
  refine zx_newa hk hH hz hS (atype := .double) 1 (ty := .double) rfl q275 rfl (fun _ _ h => h) (a0 := ((24 : Int32).toNatClampNeg, .inr (.inr (.inr (.inl (fun _ => 0)))))) (fun _ => rfl) hn0 rfl (by simp only [componentBytes]; omega) hcl hsl dX0_init_151 (fun H hH hz hS hlt hnb => ?_)
  have hw := hw hlt hnb
  generalize va_up hp_136 nx_130 _ = hp_137 at hH hw
  obtain ⟨kc_139, ekc⟩ : ∃ k, k = (kc_131 + 1) := ⟨_, rfl⟩
  obtain ⟨ks_140, eks⟩ : ∃ k, k = (ks_132 + (24 : Int32).toNatClampNeg) := ⟨_, rfl⟩
  have hw := hw _ _ _ rfl ekc eks
  refine W.widen (Nat.le_of_eq ekc.symm) (Nat.le_of_eq eks.symm) ?_
  clear ekc eks
  generalize (nx_130 + 1) = nx_138 at hz hw
  obtain ⟨a_141, ci_142, fs_143, hp_144, er, he, hc, hA, hkl, eh, hw⟩ := zpt_e hw
  refine zw_putF hk hin hH hz hS er he hA hkl eh (ff_X0_101 hc) (z_narA _ _) (z_fitA _ _) dX0_init_153 (fun H locs hH hz hS => ?_)
  refine zr_aload_n (r := some h0) hx hb dX0_init_156 rfl (lv_at hl 0 rfl) ?_
  refine lv_bipush (v := (24 : Int32)) hx hb dX0_init_157 (by decide) ?_
  obtain ⟨hn0, hn1, hcl, hsl, hw⟩ := hw
  refine zx_newa hk hH hz hS (atype := .int) 0 (ty := .int) rfl q277 rfl (fun _ _ h => h) (a0 := ((24 : Int32).toNatClampNeg, .inl (fun _ => 0))) (fun _ => rfl) hn0 rfl (by simp only [componentBytes]; omega) hcl hsl dX0_init_159 (fun H hH hz hS hlt hnb => ?_)
  have hw := hw hlt hnb
  generalize va_up hp_144 nx_138 _ = hp_145 at hH hw
  obtain ⟨kc_147, ekc⟩ : ∃ k, k = (kc_139 + 1) := ⟨_, rfl⟩
  obtain ⟨ks_148, eks⟩ : ∃ k, k = (ks_140 + (24 : Int32).toNatClampNeg) := ⟨_, rfl⟩
  have hw := hw _ _ _ rfl ekc eks
  refine W.widen (Nat.le_of_eq ekc.symm) (Nat.le_of_eq eks.symm) ?_
  clear ekc eks
  generalize (nx_138 + 1) = nx_146 at hz hw
  obtain ⟨a_149, ci_150, fs_151, hp_152, er, he, hc, hA, hkl, eh, hw⟩ := zpt_e hw
  refine zw_putF hk hin hH hz hS er he hA hkl eh (ff_X0_104 hc) (z_narA _ _) (z_fitA _ _) dX0_init_161 (fun H locs hH hz hS => ?_)
  refine zr_aload_n (r := some h0) hx hb dX0_init_164 rfl (lv_at hl 0 rfl) ?_
  refine lv_bipush (v := (24 : Int32)) hx hb dX0_init_165 (by decide) ?_
  obtain ⟨hn0, hn1, hcl, hsl, hw⟩ := hw
  refine zx_newa hk hH hz hS (atype := .double) 1 (ty := .double) rfl q275 rfl (fun _ _ h => h) (a0 := ((24 : Int32).toNatClampNeg, .inr (.inr (.inr (.inl (fun _ => 0)))))) (fun _ => rfl) hn0 rfl (by simp only [componentBytes]; omega) hcl hsl dX0_init_167 (fun H hH hz hS hlt hnb => ?_)
  have hw := hw hlt hnb
  generalize va_up hp_152 nx_146 _ = hp_153 at hH hw
  obtain ⟨kc_155, ekc⟩ : ∃ k, k = (kc_147 + 1) := ⟨_, rfl⟩
  obtain ⟨ks_156, eks⟩ : ∃ k, k = (ks_148 + (24 : Int32).toNatClampNeg) := ⟨_, rfl⟩
  have hw := hw _ _ _ rfl ekc eks
  refine W.widen (Nat.le_of_eq ekc.symm) (Nat.le_of_eq eks.symm) ?_
  clear ekc eks
  generalize (nx_146 + 1) = nx_154 at hz hw
  obtain ⟨a_157, ci_158, fs_159, hp_160, er, he, hc, hA, hkl, eh, hw⟩ := zpt_e hw
  refine zw_putF hk hin hH hz hS er he hA hkl eh (ff_X0_107 hc) (z_narA _ _) (z_fitA _ _) dX0_init_169 (fun H locs hH hz hS => ?_)
  refine zr_aload_n (r := some h0) hx hb dX0_init_172 rfl (lv_at hl 0 rfl) ?_
  refine lv_bipush (v := (24 : Int32)) hx hb dX0_init_173 (by decide) ?_
  obtain ⟨hn0, hn1, hcl, hsl, hw⟩ := hw
  refine zx_newq hk hH hz hS 11 (C := "WhatIfSheet$Formula") q646 (List.mem_of_getElem? (i := 4) rfl) rfl hn0 hn1 hcl hsl dX0_init_175 (fun H hH hz hS hlt hnb => ?_)
  have hw := hw hlt hnb
  generalize va_up hp_160 nx_154 _ = hp_161 at hH hw
  obtain ⟨kc_163, ekc⟩ : ∃ k, k = (kc_155 + 1) := ⟨_, rfl⟩
  obtain ⟨ks_164, eks⟩ : ∃ k, k = (ks_156 + (24 : Int32).toNatClampNeg) := ⟨_, rfl⟩
  have hw := hw _ _ _ rfl ekc eks
  refine W.widen (Nat.le_of_eq ekc.symm) (Nat.le_of_eq eks.symm) ?_
  clear ekc eks
  generalize (nx_154 + 1) = nx_162 at hz hw
  obtain ⟨a_165, ci_166, fs_167, hp_168, er, he, hc, hA, hkl, eh, hw⟩ := zpt_e hw
  refine zw_putF hk hin hH hz hS er he hA hkl eh (ff_X0_112 hc) (z_narA _ _) (z_fitA _ _) dX0_init_178 (fun H locs hH hz hS => ?_)
  refine zr_aload_n (r := some h0) hx hb dX0_init_181 rfl (lv_at hl 0 rfl) ?_
  refine lv_bipush (v := (6 : Int32)) hx hb dX0_init_182 (by decide) ?_
  obtain ⟨hn0, hn1, hcl, hsl, hw⟩ := hw
  refine zx_newq hk hH hz hS 8 (C := "WhatIfSheet$Table") q210 (List.mem_of_getElem? (i := 1) rfl) rfl hn0 hn1 hcl hsl dX0_init_184 (fun H hH hz hS hlt hnb => ?_)
  have hw := hw hlt hnb
  generalize va_up hp_168 nx_162 _ = hp_169 at hH hw
  obtain ⟨kc_171, ekc⟩ : ∃ k, k = (kc_163 + 1) := ⟨_, rfl⟩
  obtain ⟨ks_172, eks⟩ : ∃ k, k = (ks_164 + (6 : Int32).toNatClampNeg) := ⟨_, rfl⟩
  have hw := hw _ _ _ rfl ekc eks
  refine W.widen (Nat.le_of_eq ekc.symm) (Nat.le_of_eq eks.symm) ?_
  clear ekc eks
  generalize (nx_162 + 1) = nx_170 at hz hw
  obtain ⟨a_173, ci_174, fs_175, hp_176, er, he, hc, hA, hkl, eh, hw⟩ := zpt_e hw
  refine zw_putF hk hin hH hz hS er he hA hkl eh (ff_X0_116 hc) (z_narA _ _) (z_fitA _ _) dX0_init_187 (fun H locs hH hz hS => ?_)
  refine zr_aload_n (r := some h0) hx hb dX0_init_190 rfl (lv_at hl 0 rfl) ?_
  refine lv_iconst (v := (4 : Int32)) hx hb dX0_init_191 (by decide) ?_
  obtain ⟨hn0, hn1, hcl, hsl, hw⟩ := hw
  refine zx_newq hk hH hz hS 12 (C := "WhatIfSheet$Row") q648 (List.mem_of_getElem? (i := 5) rfl) rfl hn0 hn1 hcl hsl dX0_init_192 (fun H hH hz hS hlt hnb => ?_)
  have hw := hw hlt hnb
  generalize va_up hp_176 nx_170 _ = hp_177 at hH hw
  obtain ⟨kc_179, ekc⟩ : ∃ k, k = (kc_171 + 1) := ⟨_, rfl⟩
  obtain ⟨ks_180, eks⟩ : ∃ k, k = (ks_172 + (4 : Int32).toNatClampNeg) := ⟨_, rfl⟩
  have hw := hw _ _ _ rfl ekc eks
  refine W.widen (Nat.le_of_eq ekc.symm) (Nat.le_of_eq eks.symm) ?_
  clear ekc eks
  generalize (nx_170 + 1) = nx_178 at hz hw
  obtain ⟨a_181, ci_182, fs_183, hp_184, er, he, hc, hA, hkl, eh, hw⟩ := zpt_e hw
  refine zw_putF hk hin hH hz hS er he hA hkl eh (ff_X0_121 hc) (z_narA _ _) (z_fitA _ _) dX0_init_195 (fun H locs hH hz hS => ?_)
  refine lv_iconst (v := (0 : Int32)) hx hb dX0_init_198 (by decide) ?_
  refine lv_istore_n (i := 1) (lv' := [(1, .int (0 : Int32)), (0, va_rf (some h0))]) hx hb dX0_init_199 rfl hl (by decide) (by first | rfl | simp [List.filter_cons, z_cat, z_catI, z_catJ, z_catF, z_catD]) (fun ls hl => ?_)
  obtain ⟨I_200, ⟨n_310, hI⟩, hB_200⟩ := hw
  have hL_200 : ∀ (n_190 : Nat) (x_185 : Int32) (hp_186 : zHp) (nx_187 : Nat) (kc_188 : Nat) (ks_189 : Nat) (H : Heap) (locs : List Loc) (ls : Array Slot), I_200 n_190 x_185 hp_186 nx_187 kc_188 ks_189 → lv_has ls 2 [(0, va_rf (some h0)), (1, .int x_185)] → zHd g hp_186 H → H.size = nx_187 → va_S (zAd g) s.heap H locs → W p l e (zrm (d + 1) mc ms) s m ([.ref h0] : List Value).toArray below meth c H locs kc_188 ks_189 (MQ below (zQv g Post) ([.ref h0] : List Value).toArray s mc ms (zAd g)) (F0 m 200 ls []) := by
    intro n_190
    induction n_190 using Nat.strongRecOn with
    | _ n_190 ih_200 =>
      intro x_185 hp_186 nx_187 kc_188 ks_189 H locs ls hw hl hH hz hS
      have hw := hB_200 n_190 x_185 hp_186 nx_187 kc_188 ks_189 hw
      refine lv_iload_n hx hb dX0_init_200 rfl (lv_at hl 1 rfl) ?_
      refine lv_bipush (v := (24 : Int32)) hx hb dX0_init_201 (by decide) ?_
      refine lv_icmp_ge (tgt := 256) hx hb dX0_init_203 (by decide) (fun hc => ?_) (fun hc => ?_)
      · have hw := hw.1 hc
        refine lv_iconst (v := (0 : Int32)) hx hb dX0_init_256 (by decide) ?_
        refine lv_istore_n (i := 1) (lv' := [(1, .int (0 : Int32)), (0, va_rf (some h0))]) hx hb dX0_init_257 rfl hl (by decide) (by first | rfl | simp [List.filter_cons, z_cat, z_catI, z_catJ, z_catF, z_catD]) (fun ls hl => ?_)
        obtain ⟨I_258, ⟨n_252, hI⟩, hB_258⟩ := hw
        have hL_258 : ∀ (n_196 : Nat) (x_191 : Int32) (hp_192 : zHp) (nx_193 : Nat) (kc_194 : Nat) (ks_195 : Nat) (H : Heap) (locs : List Loc) (ls : Array Slot), I_258 n_196 x_191 hp_192 nx_193 kc_194 ks_195 → lv_has ls 2 [(0, va_rf (some h0)), (1, .int x_191)] → zHd g hp_192 H → H.size = nx_193 → va_S (zAd g) s.heap H locs → W p l e (zrm (d + 1) mc ms) s m ([.ref h0] : List Value).toArray below meth c H locs kc_194 ks_195 (MQ below (zQv g Post) ([.ref h0] : List Value).toArray s mc ms (zAd g)) (F0 m 258 ls []) := by
          intro n_196
          induction n_196 using Nat.strongRecOn with
          | _ n_196 ih_258 =>
            intro x_191 hp_192 nx_193 kc_194 ks_195 H locs ls hw hl hH hz hS
            have hw := hB_258 n_196 x_191 hp_192 nx_193 kc_194 ks_195 hw
            refine lv_iload_n hx hb dX0_init_258 rfl (lv_at hl 1 rfl) ?_
            refine lv_bipush (v := (6 : Int32)) hx hb dX0_init_259 (by decide) ?_
            refine lv_icmp_ge (tgt := 285) hx hb dX0_init_261 (by decide) (fun hc => ?_) (fun hc => ?_)
            · have hw := hw.1 hc
              refine lv_iconst (v := (0 : Int32)) hx hb dX0_init_285 (by decide) ?_
              refine lv_istore_n (i := 1) (lv' := [(1, .int (0 : Int32)), (0, va_rf (some h0))]) hx hb dX0_init_286 rfl hl (by decide) (by first | rfl | simp [List.filter_cons, z_cat, z_catI, z_catJ, z_catF, z_catD]) (fun ls hl => ?_)
              obtain ⟨I_287, ⟨n_230, hI⟩, hB_287⟩ := hw
              have hL_287 : ∀ (n_202 : Nat) (x_197 : Int32) (hp_198 : zHp) (nx_199 : Nat) (kc_200 : Nat) (ks_201 : Nat) (H : Heap) (locs : List Loc) (ls : Array Slot), I_287 n_202 x_197 hp_198 nx_199 kc_200 ks_201 → lv_has ls 2 [(0, va_rf (some h0)), (1, .int x_197)] → zHd g hp_198 H → H.size = nx_199 → va_S (zAd g) s.heap H locs → W p l e (zrm (d + 1) mc ms) s m ([.ref h0] : List Value).toArray below meth c H locs kc_200 ks_201 (MQ below (zQv g Post) ([.ref h0] : List Value).toArray s mc ms (zAd g)) (F0 m 287 ls []) := by
                intro n_202
                induction n_202 using Nat.strongRecOn with
                | _ n_202 ih_287 =>
                  intro x_197 hp_198 nx_199 kc_200 ks_201 H locs ls hw hl hH hz hS
                  have hw := hB_287 n_202 x_197 hp_198 nx_199 kc_200 ks_201 hw
                  refine lv_iload_n hx hb dX0_init_287 rfl (lv_at hl 1 rfl) ?_
                  refine lv_iconst (v := (4 : Int32)) hx hb dX0_init_288 (by decide) ?_
                  refine lv_icmp_ge (tgt := 311) hx hb dX0_init_289 (by decide) (fun hc => ?_) (fun hc => ?_)
                  · have hw := hw.1 hc
                    refine zr_aload_n (r := some h0) hx hb dX0_init_311 rfl (lv_at hl 0 rfl) ?_
                    obtain ⟨c_203, s_204, hcl, hsl, hw⟩ := hw
                    obtain ⟨a_208, ci_209, fs_210, er, he, hc, hw⟩ := zo_e hw
                    obtain rfl := List.mem_singleton.mp hc
                    refine zr_calli (zw_runVW (As := []) hk hH hz hS hl.1 er hw (vx_cwVW 0 hts (lw_VW q680 q682 qs2 q131 q683) rfl rfl rfl (by decide +kernel) (z_room (Nat.le_of_ble_eq_true rfl))) he rfl rfl rfl (Nat.le_of_ble_eq_true rfl) dX0_init_312 ⟨hcl, hsl⟩) hS (fun x_207 hp_205 nx_206 hw H locs hH hz hS => ?_)
                    refine lv_pop hx hb dX0_init_315 rfl ?_
                    obtain ⟨hkc, hks, hw⟩ := hw
                    exact zr_vret hk hr hH hz hS hw hkc hks dX0_init_316
                  · have hw := hw.2 hc
                    refine zr_aload_n (r := some h0) hx hb dX0_init_292 rfl (lv_at hl 0 rfl) ?_
                    obtain ⟨a_211, ci_212, fs_213, r_214, er, he, hc, hv, hw⟩ := zgR_e hw
                    refine zw_get hk hH er he hv (fk_X0_121 hc) dX0_init_293 ?_
                    refine lv_iload_n hx hb dX0_init_296 rfl (lv_at hl 1 rfl) ?_
                    obtain ⟨hcl, hsl, hw⟩ := hw
                    refine zx_new hk hH hz hS (ci := 3) no_X0_119 hcl hsl dX0_init_297 (fun H hH hz hS hlt hnb => ?_)
                    have hw := hw hlt hnb
                    generalize va_up hp_198 nx_199 _ = hp_215 at hH hw
                    obtain ⟨kc_217, ekc⟩ : ∃ k, k = (kc_200 + 1) := ⟨_, rfl⟩
                    obtain ⟨ks_218, eks⟩ : ∃ k, k = (ks_201 + zNn 3) := ⟨_, rfl⟩
                    have hw := hw _ _ _ rfl ekc eks
                    refine W.widen (Nat.le_of_eq ekc.symm) (Nat.le_of_eq eks.symm) ?_
                    clear ekc eks
                    generalize (nx_199 + 1) = nx_216 at hz hw
                    refine lv_dup hx hb dX0_init_300 (z_cat _) ?_
                    obtain ⟨hcl, hsl, hw⟩ := hw
                    refine zr_callv (zw_runIN (As := []) (r := some nx_199) hk hH hz hS hl.1 rfl hw ⟨va_cnB 0 hts (lw_meth q673) rfl rfl rfl (hk.2.2.1.1 _ q671 rfl) (hts _ q153) (by decide +kernel) (z_room (Nat.le_of_ble_eq_true rfl)), rfl, hts _ q672⟩ rfl rfl (by simp only [List.map_cons, List.map_nil, z_cat]; exact Nat.le_of_ble_eq_true rfl) dX0_init_301 ⟨hcl, hsl⟩) hS (fun hp_219 nx_220 hw H locs hH hz hS => ?_)
                    obtain ⟨a_221, n_222, f_223, er, he, hi, hA, hca, hw⟩ := zaR_e hw
                    obtain ⟨hp_224, eh⟩ : ∃ y : zHp, y = va_up hp_219 a_221 (some (.inl (g.2.1 12, n_222, .inr (.inr (.inr (.inr (va_up f_223 x_197.toNatClampNeg (some nx_199)))))))) := ⟨_, rfl⟩
                    have hw := hw hp_224 eh
                    refine zw_aast (v := some nx_199) (r := r_214) hk hH hz hS 12 er he rfl hi hA hca cw_WhatIfSheet_Row eh dX0_init_304 (fun H locs hH hz hS => ?_)
                    obtain ⟨x_225, ex_225⟩ : ∃ y : Int32, y = x_197 + (1 : Int32) := ⟨_, rfl⟩
                    have hw := hw x_225 ex_225
                    refine lv_iinc (v := x_225) (lv' := [(1, .int x_225), (0, va_rf (some h0))]) hx hb dX0_init_305 hl (k := 1) rfl (by rw [ex_225]; rfl) (by decide) (by first | rfl | simp [List.filter_cons, z_cat, z_catI, z_catJ, z_catF, z_catD]) (fun ls hl => ?_)
                    refine lv_goto (tgt := 287) hx hb dX0_init_308 (by decide) ?_
                    obtain ⟨k_226, hlt, hw⟩ := hw
                    exact ih_287 k_226 hlt x_225 hp_224 nx_220 kc_217 ks_218 _ _ _ hw (lv_sub hl [1, 0] rfl) hH hz hS
              exact hL_287 n_230 (0 : Int32) hp_192 nx_193 kc_194 ks_195 _ _ _ hI (lv_sub hl [1, 0] rfl) hH hz hS
            · have hw := hw.2 hc
              refine zr_aload_n (r := some h0) hx hb dX0_init_264 rfl (lv_at hl 0 rfl) ?_
              obtain ⟨a_231, ci_232, fs_233, r_234, er, he, hc, hv, hw⟩ := zgR_e hw
              refine zw_get hk hH er he hv (fk_X0_47 hc) dX0_init_265 ?_
              refine lv_iload_n hx hb dX0_init_268 rfl (lv_at hl 1 rfl) ?_
              obtain ⟨hcl, hsl, hw⟩ := hw
              refine zx_new hk hH hz hS (ci := 1) no_X0_45 hcl hsl dX0_init_269 (fun H hH hz hS hlt hnb => ?_)
              have hw := hw hlt hnb
              generalize va_up hp_192 nx_193 _ = hp_235 at hH hw
              obtain ⟨kc_237, ekc⟩ : ∃ k, k = (kc_194 + 1) := ⟨_, rfl⟩
              obtain ⟨ks_238, eks⟩ : ∃ k, k = (ks_195 + zNn 1) := ⟨_, rfl⟩
              have hw := hw _ _ _ rfl ekc eks
              refine W.widen (Nat.le_of_eq ekc.symm) (Nat.le_of_eq eks.symm) ?_
              clear ekc eks
              generalize (nx_193 + 1) = nx_236 at hz hw
              refine lv_dup hx hb dX0_init_272 (z_cat _) ?_
              refine lv_bipush (v := (64 : Int32)) hx hb dX0_init_273 (by decide) ?_
              obtain ⟨c_239, s_240, hcl, hsl, hw⟩ := hw
              refine zr_callv (zw_runI (As := [.int (64 : Int32)]) (r := some nx_193) hk hH hz hS hl.1 rfl hw (cwI 1 hts (lw_meth q217) rfl rfl rfl (hts _ q132) (hts _ q215) (hts _ q216) rfl (by decide +kernel) (z_room (Nat.le_of_ble_eq_true rfl))) rfl rfl (by simp only [List.map_cons, List.map_nil, z_cat]; exact Nat.le_of_ble_eq_true rfl) dX0_init_275 ⟨hcl, hsl⟩) hS (fun hp_241 nx_242 hw H locs hH hz hS => ?_)
              obtain ⟨a_243, n_244, f_245, er, he, hi, hA, hca, hw⟩ := zaR_e hw
              obtain ⟨hp_246, eh⟩ : ∃ y : zHp, y = va_up hp_241 a_243 (some (.inl (g.2.1 9, n_244, .inr (.inr (.inr (.inr (va_up f_245 x_191.toNatClampNeg (some nx_193)))))))) := ⟨_, rfl⟩
              have hw := hw hp_246 eh
              refine zw_aast (v := some nx_193) (r := r_234) hk hH hz hS 9 er he rfl hi hA hca cw_WhatIfSheet_Sight eh dX0_init_278 (fun H locs hH hz hS => ?_)
              obtain ⟨x_247, ex_247⟩ : ∃ y : Int32, y = x_191 + (1 : Int32) := ⟨_, rfl⟩
              have hw := hw x_247 ex_247
              refine lv_iinc (v := x_247) (lv' := [(1, .int x_247), (0, va_rf (some h0))]) hx hb dX0_init_279 hl (k := 1) rfl (by rw [ex_247]; rfl) (by decide) (by first | rfl | simp [List.filter_cons, z_cat, z_catI, z_catJ, z_catF, z_catD]) (fun ls hl => ?_)
              refine lv_goto (tgt := 258) hx hb dX0_init_282 (by decide) ?_
              obtain ⟨k_248, hlt, hw⟩ := hw
              exact ih_258 k_248 hlt x_247 hp_246 nx_242 (kc_237 + c_239) (ks_238 + s_240) _ _ _ hw (lv_sub hl [1, 0] rfl) hH hz hS
        exact hL_258 n_252 (0 : Int32) hp_186 nx_187 kc_188 ks_189 _ _ _ hI (lv_sub hl [1, 0] rfl) hH hz hS
      · have hw := hw.2 hc
        refine zr_aload_n (r := some h0) hx hb dX0_init_206 rfl (lv_at hl 0 rfl) ?_
        obtain ⟨a_253, ci_254, fs_255, r_256, er, he, hc, hv, hw⟩ := zgR_e hw
        refine zw_get hk hH er he hv (fk_X0_31 hc) dX0_init_207 ?_
        refine lv_iload_n hx hb dX0_init_210 rfl (lv_at hl 1 rfl) ?_
        obtain ⟨hcl, hsl, hw⟩ := hw
        refine zx_new hk hH hz hS (ci := 2) no_X0_3 hcl hsl dX0_init_211 (fun H hH hz hS hlt hnb => ?_)
        have hw := hw hlt hnb
        generalize va_up hp_186 nx_187 _ = hp_257 at hH hw
        obtain ⟨kc_259, ekc⟩ : ∃ k, k = (kc_188 + 1) := ⟨_, rfl⟩
        obtain ⟨ks_260, eks⟩ : ∃ k, k = (ks_189 + zNn 2) := ⟨_, rfl⟩
        have hw := hw _ _ _ rfl ekc eks
        refine W.widen (Nat.le_of_eq ekc.symm) (Nat.le_of_eq eks.symm) ?_
        clear ekc eks
        generalize (nx_187 + 1) = nx_258 at hz hw
        refine lv_dup hx hb dX0_init_214 (z_cat _) ?_
        refine lv_iload_n hx hb dX0_init_215 rfl (lv_at hl 1 rfl) ?_
        obtain ⟨hcl, hsl, hw⟩ := hw
        refine zr_callv (zw_runI (As := [.int x_185]) (r := some nx_187) hk hH hz hS hl.1 rfl hw (cwI 1 hts (lw_meth q653) rfl rfl rfl (hts _ q152) (hts _ q651) (hts _ q652) rfl (by decide +kernel) (z_room (Nat.le_of_ble_eq_true rfl))) rfl rfl (by simp only [List.map_cons, List.map_nil, z_cat]; exact Nat.le_of_ble_eq_true rfl) dX0_init_216 ⟨hcl, hsl⟩) hS (fun hp_261 nx_262 hw H locs hH hz hS => ?_)
        obtain ⟨a_263, n_264, f_265, er, he, hi, hA, hca, hw⟩ := zaR_e hw
        obtain ⟨hp_266, eh⟩ : ∃ y : zHp, y = va_up hp_261 a_263 (some (.inl (g.2.1 7, n_264, .inr (.inr (.inr (.inr (va_up f_265 x_185.toNatClampNeg (some nx_187)))))))) := ⟨_, rfl⟩
        have hw := hw hp_266 eh
        refine zw_aast (v := some nx_187) (r := r_256) hk hH hz hS 7 er he rfl hi hA hca cw_WhatIfSheet_Plain eh dX0_init_219 (fun H locs hH hz hS => ?_)
        refine zr_aload_n (r := some h0) hx hb dX0_init_220 rfl (lv_at hl 0 rfl) ?_
        obtain ⟨a_267, ci_268, fs_269, r_270, er, he, hc, hv, hw⟩ := zgR_e hw
        refine zw_get hk hH er he hv (fk_X0_58 hc) dX0_init_221 ?_
        refine lv_iload_n hx hb dX0_init_224 rfl (lv_at hl 1 rfl) ?_
        obtain ⟨hcl, hsl, hw⟩ := hw
        refine zx_new hk hH hz hS (ci := 34) no_X0_56 hcl hsl dX0_init_225 (fun H hH hz hS hlt hnb => ?_)
        have hw := hw hlt hnb
        generalize va_up hp_266 nx_262 _ = hp_271 at hH hw
        obtain ⟨kc_273, ekc⟩ : ∃ k, k = (kc_259 + 1) := ⟨_, rfl⟩
        obtain ⟨ks_274, eks⟩ : ∃ k, k = (ks_260 + zNn 34) := ⟨_, rfl⟩
        have hw := hw _ _ _ rfl ekc eks
        refine W.widen (Nat.le_of_eq ekc.symm) (Nat.le_of_eq eks.symm) ?_
        clear ekc eks
        generalize (nx_262 + 1) = nx_272 at hz hw
        refine lv_dup hx hb dX0_init_228 (z_cat _) ?_
        refine lv_bipush (v := (24 : Int32)) hx hb dX0_init_229 (by decide) ?_
        obtain ⟨c_275, s_276, hcl, hsl, hw⟩ := hw
        refine zr_callv (zw_runI (As := [.int (24 : Int32)]) (r := some nx_262) hk hH hz hS hl.1 rfl hw (cwI 1 hts (lw_meth q283) rfl rfl rfl (hts _ q133) (hts _ q281) (hts _ q282) rfl (by decide +kernel) (z_room (Nat.le_of_ble_eq_true rfl))) rfl rfl (by simp only [List.map_cons, List.map_nil, z_cat]; exact Nat.le_of_ble_eq_true rfl) dX0_init_231 ⟨hcl, hsl⟩) hS (fun hp_277 nx_278 hw H locs hH hz hS => ?_)
        obtain ⟨a_279, n_280, f_281, er, he, hi, hA, hca, hw⟩ := zaR_e hw
        obtain ⟨hp_282, eh⟩ : ∃ y : zHp, y = va_up hp_277 a_279 (some (.inl (g.2.1 10, n_280, .inr (.inr (.inr (.inr (va_up f_281 x_185.toNatClampNeg (some nx_262)))))))) := ⟨_, rfl⟩
        have hw := hw hp_282 eh
        refine zw_aast (v := some nx_262) (r := r_270) hk hH hz hS 10 er he rfl hi hA hca cw_java_util_BitSet eh dX0_init_234 (fun H locs hH hz hS => ?_)
        refine zr_aload_n (r := some h0) hx hb dX0_init_235 rfl (lv_at hl 0 rfl) ?_
        obtain ⟨a_283, ci_284, fs_285, r_286, er, he, hc, hv, hw⟩ := zgR_e hw
        refine zw_get hk hH er he hv (fk_X0_62 hc) dX0_init_236 ?_
        refine lv_iload_n hx hb dX0_init_239 rfl (lv_at hl 1 rfl) ?_
        obtain ⟨hcl, hsl, hw⟩ := hw
        refine zx_new hk hH hz hS (ci := 34) no_X0_56 hcl hsl dX0_init_240 (fun H hH hz hS hlt hnb => ?_)
        have hw := hw hlt hnb
        generalize va_up hp_282 nx_278 _ = hp_287 at hH hw
        obtain ⟨kc_289, ekc⟩ : ∃ k, k = ((kc_273 + c_275) + 1) := ⟨_, rfl⟩
        obtain ⟨ks_290, eks⟩ : ∃ k, k = ((ks_274 + s_276) + zNn 34) := ⟨_, rfl⟩
        have hw := hw _ _ _ rfl ekc eks
        refine W.widen (Nat.le_of_eq ekc.symm) (Nat.le_of_eq eks.symm) ?_
        clear ekc eks
        generalize (nx_278 + 1) = nx_288 at hz hw
        refine lv_dup hx hb dX0_init_243 (z_cat _) ?_
        refine lv_bipush (v := (24 : Int32)) hx hb dX0_init_244 (by decide) ?_
        obtain ⟨c_291, s_292, hcl, hsl, hw⟩ := hw
        refine zr_callv (zw_runI (As := [.int (24 : Int32)]) (r := some nx_278) hk hH hz hS hl.1 rfl hw (cwI 1 hts (lw_meth q283) rfl rfl rfl (hts _ q133) (hts _ q281) (hts _ q282) rfl (by decide +kernel) (z_room (Nat.le_of_ble_eq_true rfl))) rfl rfl (by simp only [List.map_cons, List.map_nil, z_cat]; exact Nat.le_of_ble_eq_true rfl) dX0_init_246 ⟨hcl, hsl⟩) hS (fun hp_293 nx_294 hw H locs hH hz hS => ?_)
        obtain ⟨a_295, n_296, f_297, er, he, hi, hA, hca, hw⟩ := zaR_e hw
        obtain ⟨hp_298, eh⟩ : ∃ y : zHp, y = va_up hp_293 a_295 (some (.inl (g.2.1 10, n_296, .inr (.inr (.inr (.inr (va_up f_297 x_185.toNatClampNeg (some nx_278)))))))) := ⟨_, rfl⟩
        have hw := hw hp_298 eh
        refine zw_aast (v := some nx_278) (r := r_286) hk hH hz hS 10 er he rfl hi hA hca cw_java_util_BitSet eh dX0_init_249 (fun H locs hH hz hS => ?_)
        obtain ⟨x_299, ex_299⟩ : ∃ y : Int32, y = x_185 + (1 : Int32) := ⟨_, rfl⟩
        have hw := hw x_299 ex_299
        refine lv_iinc (v := x_299) (lv' := [(1, .int x_299), (0, va_rf (some h0))]) hx hb dX0_init_250 hl (k := 1) rfl (by rw [ex_299]; rfl) (by decide) (by first | rfl | simp [List.filter_cons, z_cat, z_catI, z_catJ, z_catF, z_catD]) (fun ls hl => ?_)
        refine lv_goto (tgt := 200) hx hb dX0_init_253 (by decide) ?_
        obtain ⟨k_300, hlt, hw⟩ := hw
        exact ih_200 k_300 hlt x_299 hp_298 nx_294 (kc_289 + c_291) (ks_290 + s_292) _ _ _ hw (lv_sub hl [1, 0] rfl) hH hz hS
  exact hL_200 n_310 (0 : Int32) hp_184 nx_178 kc_179 ks_180 _ _ _ hI (lv_sub hl [1, 0] rfl) hH hz hS
theorem fk_X0_378 {ci : Nat} (h : ci ∈ [4]) : zFk "WhatIfSheet" 378 ci 6 := by
  simp only [List.mem_cons, List.not_mem_nil, or_false] at h
  rcases h with rfl
  · exact ⟨RX4, TX4, 7, rfl, by decide, q1198⟩
def wp_X0_orders (l : Launch) (g : zG) (d : Nat) (mc ms : Nat) (h0 : Nat) (hp : zHp) (nx : Nat) (Post : Int32 → zHp → Nat → Prop) : Prop :=
  (∃ P_12 : (Option Nat) → zHp → Nat → Nat → Nat → Prop, (∀ (r_1 : Option Nat) (hp_2 : zHp) (nx_3 : Nat) (kc_4 : Nat) (ks_5 : Nat), P_12 r_1 hp_2 nx_3 kc_4 ks_5 →
  (zgI hp_2 r_1 [4] 6 fun x_9 =>
  (kc_4 ≤ mc ∧ ks_5 ≤ ms ∧ Post x_9 hp_2 nx_3))) ∧
  (∃ c_10 s_11 : Nat, 0 + c_10 ≤ mc ∧ 0 + s_11 ≤ ms ∧ zo hp (some h0) [0] fun a_27 ci_28 fs_29 => zMx l g yX0_goesThrough cX0_goesThrough 5 none d c_10 s_11 (.ref a_27 :: [.int (0 : Int32)]) hp nx (zQv g fun hp_12 nx_13 =>
  (∃ c_14 s_15 : Nat, (0 + c_10) + c_14 ≤ mc ∧ (0 + s_11) + s_15 ≤ ms ∧ zo hp_12 (some h0) [0] fun a_21 ci_22 fs_23 => zMx l g yX0_goesThrough cX0_goesThrough 5 none d c_14 s_15 (.ref a_21 :: [.int (1 : Int32)]) hp_12 nx_13 (zQv g fun hp_16 nx_17 =>
  (((0 + c_10) + c_14) ≤ mc ∧ ((0 + s_11) + s_15) ≤ ms ∧ Post (1 : Int32) hp_16 nx_17)) "WhatIfSheet$Refused" (fun q_18 hp_19 nx_20 => zo hp_19 (some q_18) [4] fun _ _ _ =>
  P_12 (some q_18) hp_19 nx_20 ((0 + c_10) + c_14) ((0 + s_11) + s_15)))) "WhatIfSheet$Refused" (fun q_24 hp_25 nx_26 => zo hp_25 (some q_24) [4] fun _ _ _ =>
  P_12 (some q_24) hp_25 nx_26 (0 + c_10) (0 + s_11))))
set_option maxHeartbeats 40000000 in
theorem met_X0_orders {l : Launch} {g : zG} {d : Nat} {mc ms : Nat} {h0 : Nat} {hp : zHp} {nx : Nat} {Post : Int32 → zHp → Nat → Prop} (hw : wp_X0_orders l g d mc ms h0 hp nx Post) : zMtW l g yX0_orders cX0_orders 2 (some .int) [(0, 11, 12, 333)] (d + 1) mc ms [.ref h0] hp nx (zQi g Post) := by
  refine z_startT (by decide) (Nat.le_of_ble_eq_true rfl) ?_
  intro p e s m below meth c hk hr hin htb hH hz ls hl
  have hx := hk.1.1
  have hb := hk.1.2.1
  have hown := hk.1.2.2.2.1
  have hts := hk.1.2.2.2.2
  have hS : va_S (zAd g) s.heap s.heap [] := va_S.rf
  have hl : lv_has ls 2 [(0, va_rf (some h0))] := hl
  unfold wp_X0_orders at hw
  refine zr_aload_n (r := some h0) hx hb dX0_orders_0 rfl (lv_at hl 0 rfl) ?_
  refine lv_iconst (v := (0 : Int32)) hx hb dX0_orders_1 (by decide) ?_
  obtain ⟨P_12, hP_12, hw⟩ := hw
  have hJ_12 : ∀ (r_1 : Option Nat) (hp_2 : zHp) (nx_3 : Nat) (kc_4 : Nat) (ks_5 : Nat) (H : Heap) (locs : List Loc) (ls : Array Slot), P_12 r_1 hp_2 nx_3 kc_4 ks_5 → lv_has ls 2 [(0, va_rf (some h0))] → zHd g hp_2 H → H.size = nx_3 → va_S (zAd g) s.heap H locs → W p l e (zrm (d + 1) mc ms) s m ([.ref h0] : List Value).toArray below meth c H locs kc_4 ks_5 (MQ below (zQi g Post) ([.ref h0] : List Value).toArray s mc ms (zAd g)) (F0 m 12 ls [va_rf r_1]) := by
    intro r_1 hp_2 nx_3 kc_4 ks_5 H locs ls hw hl hH hz hS
    have hw := hP_12 r_1 hp_2 nx_3 kc_4 ks_5 hw
    refine zr_astore_n (r := r_1) (i := 1) (lv' := [(1, va_rf r_1), (0, va_rf (some h0))]) hx hb dX0_orders_12 rfl hl (by decide) (by first | rfl | simp [List.filter_cons, z_cat, z_catI, z_catJ, z_catF, z_catD]) (fun ls hl => ?_)
    refine zr_aload_n (r := r_1) hx hb dX0_orders_13 rfl (lv_at hl 0 rfl) ?_
    obtain ⟨a_6, ci_7, fs_8, x_9, er, he, hc, hv, hw⟩ := zgI_e hw
    refine zw_get hk hH er he hv (fk_X0_378 hc) dX0_orders_14 ?_
    obtain ⟨hkc, hks, hw⟩ := hw
    exact zr_iret hk hr hH hz hS hw hkc hks dX0_orders_17
  obtain ⟨c_10, s_11, hcl, hsl, hw⟩ := hw
  obtain ⟨a_27, ci_28, fs_29, er, he, hc, hw⟩ := zo_e hw
  obtain rfl := List.mem_singleton.mp hc
  refine zy_callv (zy_runV (As := [.int (0 : Int32)]) hk hH hz hS hl.1 er hw (cwV 1 hts (lw_V q685 q687 qs3 q131 q688) rfl rfl rfl (by decide +kernel) (z_room (Nat.le_of_ble_eq_true rfl))) he rfl rfl rfl (Nat.le_of_ble_eq_true rfl) dX0_orders_2 ⟨hcl, hsl⟩) hS ?_ (fun hp_12 nx_13 hw H locs hH hz hS => ?_)
  · intro q_24 hp_25 nx_26 hw H locs hH hz hS hq
    obtain ⟨_, _, _, _, _, _, hw⟩ := zo_e hw
    refine zy_catch hk hq (name := "WhatIfSheet$Refused") (tableOf []) ⟨0, 11, 12, 333⟩ (tableOf []) htb (by simp [tableOf, covers]) (by decide) (by decide) q684 q1181 ?_
    exact hJ_12 (some q_24) hp_25 nx_26 (0 + c_10) (0 + s_11) _ _ _ hw hl hH hz hS
  · refine zr_aload_n (r := some h0) hx hb dX0_orders_5 rfl (lv_at hl 0 rfl) ?_
    refine lv_iconst (v := (1 : Int32)) hx hb dX0_orders_6 (by decide) ?_
    obtain ⟨c_14, s_15, hcl, hsl, hw⟩ := hw
    obtain ⟨a_21, ci_22, fs_23, er, he, hc, hw⟩ := zo_e hw
    obtain rfl := List.mem_singleton.mp hc
    refine zy_callv (zy_runV (As := [.int (1 : Int32)]) hk hH hz hS hl.1 er hw (cwV 1 hts (lw_V q685 q687 qs3 q131 q688) rfl rfl rfl (by decide +kernel) (z_room (Nat.le_of_ble_eq_true rfl))) he rfl rfl rfl (Nat.le_of_ble_eq_true rfl) dX0_orders_7 ⟨hcl, hsl⟩) hS ?_ (fun hp_16 nx_17 hw H locs hH hz hS => ?_)
    · intro q_18 hp_19 nx_20 hw H locs hH hz hS hq
      obtain ⟨_, _, _, _, _, _, hw⟩ := zo_e hw
      refine zy_catch hk hq (name := "WhatIfSheet$Refused") (tableOf []) ⟨0, 11, 12, 333⟩ (tableOf []) htb (by simp [tableOf, covers]) (by decide) (by decide) q684 q1181 ?_
      exact hJ_12 (some q_18) hp_19 nx_20 ((0 + c_10) + c_14) ((0 + s_11) + s_15) _ _ _ hw hl hH hz hS
    · refine lv_iconst (v := (1 : Int32)) hx hb dX0_orders_10 (by decide) ?_
      obtain ⟨hkc, hks, hw⟩ := hw
      exact zr_iret hk hr hH hz hS hw hkc hks dX0_orders_11
theorem fk_X0_86 {ci : Nat} (h : ci ∈ [0]) : zFk "WhatIfSheet" 86 ci 18 := by
  simp only [List.mem_cons, List.not_mem_nil, or_false] at h
  rcases h with rfl
  · exact ⟨RX0, TX0, 30, rfl, by decide, q1228⟩
theorem no_X0_333 : zNo "WhatIfSheet" 333 4 := ⟨RX4, TX4, 7, rfl, q684, q1180, q161⟩
theorem fk_X0_80 {ci : Nat} (h : ci ∈ [0]) : zFk "WhatIfSheet" 80 ci 17 := by
  simp only [List.mem_cons, List.not_mem_nil, or_false] at h
  rcases h with rfl
  · exact ⟨RX0, TX0, 30, rfl, by decide, q1227⟩
theorem cw_java_lang_Integer : ∀ ci ∈ [41], zCw "java/lang/Integer" ci := by
  intro ci h
  simp only [List.mem_cons, List.not_mem_nil, or_false] at h
  rcases h with rfl
  · exact ⟨RJ15, TJ15, 1, rfl, Or.inr rfl⟩
def wp_X0_goesThrough (l : Launch) (g : zG) (d : Nat) (mc ms : Nat) (h0 : Nat) (x1 : Int32) (hp : zHp) (nx : Nat) (Post : zHp → Nat → Prop) (PostX : Nat → zHp → Nat → Prop) : Prop :=
  (zgR hp (some h0) [0] 18 fun r_4 =>
  (0 ≤ mc ∧ 0 ≤ ms ∧ zo hp r_4 [35] fun a_142 ci_143 fs_144 => zMt l g yJ17_clear cJ17_clear 1 none d 0 0 (.ref a_142 :: []) hp nx (zQv g fun hp_5 nx_6 =>
  (∃ I_9 : Nat → Int32 → zHp → Nat → Nat → Nat → Prop, (∃ n_141, I_9 n_141 (0 : Int32) hp_5 nx_6 0 0) ∧ ∀ (n_12 : Nat) (x_7 : Int32) (hp_8 : zHp) (nx_9 : Nat) (kc_10 : Nat) (ks_11 : Nat), I_9 n_12 x_7 hp_8 nx_9 kc_10 ks_11 →
  (((30 : Int32) ≤ x_7 →
  (∃ I_28 : Nat → Int32 → zHp → Nat → Nat → Nat → Prop, (∃ n_131, I_28 n_131 (0 : Int32) hp_8 nx_9 kc_10 ks_11) ∧ ∀ (n_18 : Nat) (x_13 : Int32) (hp_14 : zHp) (nx_15 : Nat) (kc_16 : Nat) (ks_17 : Nat), I_28 n_18 x_13 hp_14 nx_15 kc_16 ks_17 →
  (zgR hp_14 (some h0) [0] 18 fun r_22 =>
  (kc_16 ≤ mc ∧ ks_17 ≤ ms ∧ zo hp_14 r_22 [35] fun a_128 ci_129 fs_130 => zMt l g yJ17_isEmpty cJ17_isEmpty 1 (some .boolean) d 0 0 (.ref a_128 :: []) hp_14 nx_15 (zQi g fun x_25 hp_23 nx_24 =>
  ((x_25 = 0 →
  (zgR hp_23 (some h0) [0] 18 fun r_43 =>
  (kc_16 ≤ mc ∧ ks_17 ≤ ms ∧ zo hp_23 r_43 [35] fun a_125 ci_126 fs_127 => zMt l g yJ17_pollFirst cJ17_pollFirst 4 (some (.object "java/lang/Object")) d 0 0 (.ref a_125 :: []) hp_23 nx_24 (zQq g fun r_46 hp_44 nx_45 =>
  (zCa hp_44 r_46 [41] ∧ (kc_16 ≤ mc ∧ ks_17 ≤ ms ∧ zo hp_44 r_46 [41] fun a_122 ci_123 fs_124 => zMt l g yJ15_intValue cJ15_intValue 1 (some .int) d 0 0 (.ref a_122 :: []) hp_44 nx_45 (zQi g fun x_49 hp_47 nx_48 =>
  (∀ x_50 : Int32, x_50 = x_13 + (1 : Int32) →
  (∃ P_64 : Int32 → Int32 → zHp → Nat → Nat → Nat → Prop, (∀ (x_51 : Int32) (x_52 : Int32) (hp_53 : zHp) (nx_54 : Nat) (kc_55 : Nat) (ks_56 : Nat), P_64 x_51 x_52 hp_53 nx_54 kc_55 ks_56 →
  (∃ I_67 : Nat → Int32 → Int32 → Int32 → zHp → Nat → Nat → Nat → Prop, (∃ n_111, I_67 n_111 x_51 x_52 (0 : Int32) hp_53 nx_54 kc_55 ks_56) ∧ ∀ (n_64 : Nat) (x_57 : Int32) (x_58 : Int32) (x_59 : Int32) (hp_60 : zHp) (nx_61 : Nat) (kc_62 : Nat) (ks_63 : Nat), I_67 n_64 x_57 x_58 x_59 hp_60 nx_61 kc_62 ks_63 →
  (((30 : Int32) ≤ x_59 →
  (∃ k_65, k_65 < n_18 ∧ I_28 k_65 x_57 hp_60 nx_61 kc_62 ks_63)) ∧
  (¬ (30 : Int32) ≤ x_59 →
  (∃ c_66 s_67 : Nat, kc_62 + c_66 ≤ mc ∧ ks_63 + s_67 ≤ ms ∧ zo hp_60 (some h0) [0] fun a_108 ci_109 fs_110 => zMt l g yX0_names cX0_names 4 (some .boolean) d c_66 s_67 (.ref a_108 :: [.int x_59, .int x_58]) hp_60 nx_61 (zQi g fun x_70 hp_68 nx_69 =>
  (∃ P_111 : Int32 → Int32 → Int32 → zHp → Nat → Nat → Nat → Prop, (∀ (x_71 : Int32) (x_72 : Int32) (x_73 : Int32) (hp_74 : zHp) (nx_75 : Nat) (kc_76 : Nat) (ks_77 : Nat), P_111 x_71 x_72 x_73 hp_74 nx_75 kc_76 ks_77 →
  (∀ x_78 : Int32, x_78 = x_73 + (1 : Int32) →
  (∃ k_79, k_79 < n_64 ∧ I_67 k_79 x_71 x_72 x_78 hp_74 nx_75 kc_76 ks_77))) ∧
  ((x_70 = 0 →
  P_111 x_57 x_58 x_59 hp_68 nx_69 (kc_62 + c_66) (ks_63 + s_67)) ∧
  (¬ x_70 = 0 →
  (zgR hp_68 (some h0) [0] 17 fun r_83 =>
  (zaI (g.2.1 0) hp_68 r_83 fun a_84 n_85 f_86 => vp_in x_59 n_85 ∧ ∀ x_87 : Int32, x_87 = f_86 x_59.toNatClampNeg →
  (zaI (g.2.1 0) hp_68 r_83 fun a_88 n_89 f_90 => vp_in x_59 n_89 ∧ zB g ≤ a_88 ∧ ∀ hp_91 : zHp, hp_91 = va_up hp_68 a_88 (some (.inl (g.2.1 0, n_89, .inl (va_up f_90 x_59.toNatClampNeg (x_87 - (1 : Int32)))))) →
  (((x_87 - (1 : Int32)) = 0 →
  (zgR hp_91 (some h0) [0] 18 fun r_95 =>
  (∃ c_96 s_97 : Nat, (kc_62 + c_66) + c_96 ≤ mc ∧ (ks_63 + s_67) + s_97 ≤ ms ∧ zMt l g yJ15_valueOf cJ15_valueOf 1 (some (.object "java/lang/Integer")) d c_96 s_97 [.int x_59] hp_91 nx_69 (zQq g fun r_100 hp_98 nx_99 =>
  (∃ c_101 s_102 : Nat, ((kc_62 + c_66) + c_96) + c_101 ≤ mc ∧ ((ks_63 + s_67) + s_97) + s_102 ≤ ms ∧ zo hp_98 r_95 [35] fun a_105 ci_106 fs_107 => zMt l g yJ17_addLast cJ17_addLast 3 none d c_101 s_102 (.ref a_105 :: [va_rf r_100]) hp_98 nx_99 (zQv g fun hp_103 nx_104 =>
  P_111 x_57 x_58 x_59 hp_103 nx_104 (((kc_62 + c_66) + c_96) + c_101) (((ks_63 + s_67) + s_97) + s_102))))))) ∧
  (¬ (x_87 - (1 : Int32)) = 0 →
  P_111 x_57 x_58 x_59 hp_91 nx_69 (kc_62 + c_66) (ks_63 + s_67))))))))))))))) ∧
  ((x1 = 0 →
  P_64 x_50 x_49 hp_47 nx_48 kc_16 ks_17) ∧
  (¬ x1 = 0 →
  (∃ c_112 s_113 : Nat, kc_16 + c_112 ≤ mc ∧ ks_17 + s_113 ≤ ms ∧ zo hp_47 (some h0) [0] fun a_119 ci_120 fs_121 => zMx l g yX0_weighs cX0_weighs 4 none d c_112 s_113 (.ref a_119 :: [.int x_49]) hp_47 nx_48 (zQv g fun hp_114 nx_115 =>
  P_64 x_50 x_49 hp_114 nx_115 (kc_16 + c_112) (ks_17 + s_113)) "WhatIfSheet$Refused" (fun q_116 hp_117 nx_118 => (kc_16 + c_112) ≤ mc ∧ (ks_17 + s_113) ≤ ms ∧ PostX q_116 hp_117 nx_118))))))))))))) ∧
  (¬ x_25 = 0 →
  (((30 : Int32) ≤ x_13 →
  (kc_16 ≤ mc ∧ ks_17 ≤ ms ∧ Post hp_23 nx_24)) ∧
  (¬ (30 : Int32) ≤ x_13 →
  (znw g mc ms hp_23 nx_24 kc_16 ks_17 4 fun hp_26 =>
  ∀ nx_27 kc_28 ks_29 : Nat, nx_27 = (nx_24 + 1) → kc_28 = (kc_16 + 1) → ks_29 = (ks_17 + zNn 4) →
  (∃ c_30 s_31 : Nat, kc_28 + c_30 ≤ mc ∧ ks_29 + s_31 ≤ ms ∧ zMt l g yX4_init cX4_init 2 none d c_30 s_31 (.ref nx_24 :: [.int (-5 : Int32)]) hp_26 nx_27 (zQv g fun hp_32 nx_33 =>
  (zo hp_32 (some nx_24) [4] fun a_34 ci_35 fs_36 => (kc_28 + c_30) ≤ mc ∧ (ks_29 + s_31) ≤ ms ∧ PostX a_34 hp_32 nx_33))))))))))))) ∧
  (¬ (30 : Int32) ≤ x_7 →
  (∃ c_132 s_133 : Nat, kc_10 + c_132 ≤ mc ∧ ks_11 + s_133 ≤ ms ∧ zo hp_8 (some h0) [0] fun a_138 ci_139 fs_140 => zMt l g yX0_stands cX0_stands 3 none d c_132 s_133 (.ref a_138 :: [.int x_7]) hp_8 nx_9 (zQv g fun hp_134 nx_135 =>
  (∀ x_136 : Int32, x_136 = x_7 + (1 : Int32) →
  (∃ k_137, k_137 < n_12 ∧ I_9 k_137 x_136 hp_134 nx_135 (kc_10 + c_132) (ks_11 + s_133)))))))))))
set_option maxHeartbeats 40000000 in
theorem met_X0_goesThrough {l : Launch} {g : zG} {d : Nat} {mc ms : Nat} {h0 : Nat} {x1 : Int32} {hp : zHp} {nx : Nat} {Post : zHp → Nat → Prop} {PostX : Nat → zHp → Nat → Prop} (hw : wp_X0_goesThrough l g d mc ms h0 x1 hp nx Post PostX) : zMx l g yX0_goesThrough cX0_goesThrough 5 none (d + 1) mc ms [.ref h0, .int x1] hp nx (zQv g Post) "WhatIfSheet$Refused" PostX := by
  refine zy_start (by decide) (Nat.le_of_ble_eq_true rfl) ?_
  intro p e s m below meth c hk hr hin htb hH hz ls hl
  have hx := hk.1.1
  have hb := hk.1.2.1
  have hown := hk.1.2.2.2.1
  have hts := hk.1.2.2.2.2
  have hS : va_S (zAd g) s.heap s.heap [] := va_S.rf
  have hl : lv_has ls 5 [(0, va_rf (some h0)), (1, .int x1)] := hl
  unfold wp_X0_goesThrough at hw
  refine zr_aload_n (r := some h0) hx hb dX0_goesThrough_0 rfl (lv_at hl 0 rfl) ?_
  obtain ⟨a_1, ci_2, fs_3, r_4, er, he, hc, hv, hw⟩ := zgR_e hw
  refine zw_get hk hH er he hv (fk_X0_86 hc) dX0_goesThrough_1 ?_
  obtain ⟨hcl, hsl, hw⟩ := hw
  obtain ⟨a_142, ci_143, fs_144, er, he, hc, hw⟩ := zo_e hw
  obtain rfl := List.mem_singleton.mp hc
  refine zr_callv (zw_runV (As := []) hk hH hz hS hl.1 er hw (cwV 0 hts (lw_V q689 q690 q691 q151 q692) rfl rfl rfl (by decide +kernel) (z_room (Nat.le_of_ble_eq_true rfl))) he rfl rfl rfl (Nat.le_of_ble_eq_true rfl) dX0_goesThrough_4 ⟨hcl, hsl⟩) hS (fun hp_5 nx_6 hw H locs hH hz hS => ?_)
  refine lv_iconst (v := (0 : Int32)) hx hb dX0_goesThrough_7 (by decide) ?_
  refine lv_istore_n (i := 2) (lv' := [(2, .int (0 : Int32)), (0, va_rf (some h0)), (1, .int x1)]) hx hb dX0_goesThrough_8 rfl hl (by decide) (by first | rfl | simp [List.filter_cons, z_cat, z_catI, z_catJ, z_catF, z_catD]) (fun ls hl => ?_)
  obtain ⟨I_9, ⟨n_141, hI⟩, hB_9⟩ := hw
  have hL_9 : ∀ (n_12 : Nat) (x_7 : Int32) (hp_8 : zHp) (nx_9 : Nat) (kc_10 : Nat) (ks_11 : Nat) (H : Heap) (locs : List Loc) (ls : Array Slot), I_9 n_12 x_7 hp_8 nx_9 kc_10 ks_11 → lv_has ls 5 [(0, va_rf (some h0)), (1, .int x1), (2, .int x_7)] → zHd g hp_8 H → H.size = nx_9 → va_S (zAd g) s.heap H locs → W p l e (zrm (d + 1) mc ms) s m ([.ref h0, .int x1] : List Value).toArray below meth c H locs kc_10 ks_11 (vy_MQ below (zQv g Post) (zXC g "WhatIfSheet$Refused" PostX) ([.ref h0, .int x1] : List Value).toArray s mc ms (zAd g)) (F0 m 9 ls []) := by
    intro n_12
    induction n_12 using Nat.strongRecOn with
    | _ n_12 ih_9 =>
      intro x_7 hp_8 nx_9 kc_10 ks_11 H locs ls hw hl hH hz hS
      have hw := hB_9 n_12 x_7 hp_8 nx_9 kc_10 ks_11 hw
      refine lv_iload_n hx hb dX0_goesThrough_9 rfl (lv_at hl 2 rfl) ?_
      refine lv_bipush (v := (30 : Int32)) hx hb dX0_goesThrough_10 (by decide) ?_
      refine lv_icmp_ge (tgt := 26) hx hb dX0_goesThrough_12 (by decide) (fun hc => ?_) (fun hc => ?_)
      · have hw := hw.1 hc
        refine lv_iconst (v := (0 : Int32)) hx hb dX0_goesThrough_26 (by decide) ?_
        refine lv_istore_n (i := 2) (lv' := [(2, .int (0 : Int32)), (0, va_rf (some h0)), (1, .int x1)]) hx hb dX0_goesThrough_27 rfl hl (by decide) (by first | rfl | simp [List.filter_cons, z_cat, z_catI, z_catJ, z_catF, z_catD]) (fun ls hl => ?_)
        obtain ⟨I_28, ⟨n_131, hI⟩, hB_28⟩ := hw
        have hL_28 : ∀ (n_18 : Nat) (x_13 : Int32) (hp_14 : zHp) (nx_15 : Nat) (kc_16 : Nat) (ks_17 : Nat) (H : Heap) (locs : List Loc) (ls : Array Slot), I_28 n_18 x_13 hp_14 nx_15 kc_16 ks_17 → lv_has ls 5 [(0, va_rf (some h0)), (1, .int x1), (2, .int x_13)] → zHd g hp_14 H → H.size = nx_15 → va_S (zAd g) s.heap H locs → W p l e (zrm (d + 1) mc ms) s m ([.ref h0, .int x1] : List Value).toArray below meth c H locs kc_16 ks_17 (vy_MQ below (zQv g Post) (zXC g "WhatIfSheet$Refused" PostX) ([.ref h0, .int x1] : List Value).toArray s mc ms (zAd g)) (F0 m 28 ls []) := by
          intro n_18
          induction n_18 using Nat.strongRecOn with
          | _ n_18 ih_28 =>
            intro x_13 hp_14 nx_15 kc_16 ks_17 H locs ls hw hl hH hz hS
            have hw := hB_28 n_18 x_13 hp_14 nx_15 kc_16 ks_17 hw
            refine zr_aload_n (r := some h0) hx hb dX0_goesThrough_28 rfl (lv_at hl 0 rfl) ?_
            obtain ⟨a_19, ci_20, fs_21, r_22, er, he, hc, hv, hw⟩ := zgR_e hw
            refine zw_get hk hH er he hv (fk_X0_86 hc) dX0_goesThrough_29 ?_
            obtain ⟨hcl, hsl, hw⟩ := hw
            obtain ⟨a_128, ci_129, fs_130, er, he, hc, hw⟩ := zo_e hw
            obtain rfl := List.mem_singleton.mp hc
            refine zr_calli (zw_runV (As := []) hk hH hz hS hl.1 er hw (cwV 0 hts (lw_V q898 q899 q900 q151 q901) rfl rfl rfl (by decide +kernel) (z_room (Nat.le_of_ble_eq_true rfl))) he rfl rfl rfl (Nat.le_of_ble_eq_true rfl) dX0_goesThrough_32 ⟨hcl, hsl⟩) hS (fun x_25 hp_23 nx_24 hw H locs hH hz hS => ?_)
            refine lv_if_ne (tgt := 120) hx hb dX0_goesThrough_35 (by decide) (fun hc => ?_) (fun hc => ?_)
            · have hw := hw.2 hc
              refine lv_iload_n hx hb dX0_goesThrough_120 rfl (lv_at hl 2 rfl) ?_
              refine lv_bipush (v := (30 : Int32)) hx hb dX0_goesThrough_121 (by decide) ?_
              refine lv_icmp_ge (tgt := 136) hx hb dX0_goesThrough_123 (by decide) (fun hc => ?_) (fun hc => ?_)
              · have hw := hw.1 hc
                obtain ⟨hkc, hks, hw⟩ := hw
                exact vy_ret (zr_vret hk hr hH hz hS hw hkc hks dX0_goesThrough_136)
              · have hw := hw.2 hc
                obtain ⟨hcl, hsl, hw⟩ := hw
                refine zx_new hk hH hz hS (ci := 4) no_X0_333 hcl hsl dX0_goesThrough_126 (fun H hH hz hS hlt hnb => ?_)
                have hw := hw hlt hnb
                generalize va_up hp_23 nx_24 _ = hp_26 at hH hw
                obtain ⟨kc_28, ekc⟩ : ∃ k, k = (kc_16 + 1) := ⟨_, rfl⟩
                obtain ⟨ks_29, eks⟩ : ∃ k, k = (ks_17 + zNn 4) := ⟨_, rfl⟩
                have hw := hw _ _ _ rfl ekc eks
                refine W.widen (Nat.le_of_eq ekc.symm) (Nat.le_of_eq eks.symm) ?_
                clear ekc eks
                generalize (nx_24 + 1) = nx_27 at hz hw
                refine lv_dup hx hb dX0_goesThrough_129 (z_cat _) ?_
                refine lv_bipush (v := (-5 : Int32)) hx hb dX0_goesThrough_130 (by decide) ?_
                obtain ⟨c_30, s_31, hcl, hsl, hw⟩ := hw
                refine zr_callv (zw_runI (As := [.int (-5 : Int32)]) (r := some nx_24) hk hH hz hS hl.1 rfl hw (cwI 1 hts (lw_meth q1190) rfl rfl rfl (hts _ q161) (hts _ q1188) (hts _ q1189) rfl (by decide +kernel) (z_room (Nat.le_of_ble_eq_true rfl))) rfl rfl (by simp only [List.map_cons, List.map_nil, z_cat]; exact Nat.le_of_ble_eq_true rfl) dX0_goesThrough_132 ⟨hcl, hsl⟩) hS (fun hp_32 nx_33 hw H locs hH hz hS => ?_)
                obtain ⟨a_34, ci_35, fs_36, er, he, hc, hkc, hks, hw⟩ := zo_e hw
                obtain rfl := List.mem_singleton.mp hc
                exact zy_athrow hk hH hz hS htb er he rfl hw hkc hks dX0_goesThrough_135
            · have hw := hw.1 hc
              refine zr_aload_n (r := some h0) hx hb dX0_goesThrough_38 rfl (lv_at hl 0 rfl) ?_
              obtain ⟨a_40, ci_41, fs_42, r_43, er, he, hc, hv, hw⟩ := zgR_e hw
              refine zw_get hk hH er he hv (fk_X0_86 hc) dX0_goesThrough_39 ?_
              obtain ⟨hcl, hsl, hw⟩ := hw
              obtain ⟨a_125, ci_126, fs_127, er, he, hc, hw⟩ := zo_e hw
              obtain rfl := List.mem_singleton.mp hc
              refine zr_callq (zw_runV (As := []) hk hH hz hS hl.1 er hw (cwV 0 hts (lw_V q902 q903 q904 q151 q905) rfl rfl rfl (by decide +kernel) (z_room (Nat.le_of_ble_eq_true rfl))) he rfl rfl rfl (Nat.le_of_ble_eq_true rfl) dX0_goesThrough_42 ⟨hcl, hsl⟩) hS (fun r_46 hp_44 nx_45 hw H locs hH hz hS => ?_)
              obtain ⟨hca, hw⟩ := hw
              refine zw_cast (r := r_46) hk hH q909 hca cw_java_lang_Integer dX0_goesThrough_45 ?_
              obtain ⟨hcl, hsl, hw⟩ := hw
              obtain ⟨a_122, ci_123, fs_124, er, he, hc, hw⟩ := zo_e hw
              obtain rfl := List.mem_singleton.mp hc
              refine zr_calli (zw_runV (As := []) hk hH hz hS hl.1 er hw (cwV 0 hts (lw_V q910 q806 q807 q149 q808) rfl rfl rfl (by decide +kernel) (z_room (Nat.le_of_ble_eq_true rfl))) he rfl rfl rfl (Nat.le_of_ble_eq_true rfl) dX0_goesThrough_48 ⟨hcl, hsl⟩) hS (fun x_49 hp_47 nx_48 hw H locs hH hz hS => ?_)
              refine lv_istore_n (i := 3) (lv' := [(3, .int x_49), (0, va_rf (some h0)), (1, .int x1), (2, .int x_13)]) hx hb dX0_goesThrough_51 rfl hl (by decide) (by first | rfl | simp [List.filter_cons, z_cat, z_catI, z_catJ, z_catF, z_catD]) (fun ls hl => ?_)
              obtain ⟨x_50, ex_50⟩ : ∃ y : Int32, y = x_13 + (1 : Int32) := ⟨_, rfl⟩
              have hw := hw x_50 ex_50
              refine lv_iinc (v := x_50) (lv' := [(2, .int x_50), (3, .int x_49), (0, va_rf (some h0)), (1, .int x1)]) hx hb dX0_goesThrough_52 hl (k := 3) rfl (by rw [ex_50]; rfl) (by decide) (by first | rfl | simp [List.filter_cons, z_cat, z_catI, z_catJ, z_catF, z_catD]) (fun ls hl => ?_)
              refine lv_iload_n hx hb dX0_goesThrough_55 rfl (lv_at hl 3 rfl) ?_
              obtain ⟨P_64, hP_64, hw⟩ := hw
              have hJ_64 : ∀ (x_51 : Int32) (x_52 : Int32) (hp_53 : zHp) (nx_54 : Nat) (kc_55 : Nat) (ks_56 : Nat) (H : Heap) (locs : List Loc) (ls : Array Slot), P_64 x_51 x_52 hp_53 nx_54 kc_55 ks_56 → lv_has ls 5 [(0, va_rf (some h0)), (1, .int x1), (2, .int x_51), (3, .int x_52)] → zHd g hp_53 H → H.size = nx_54 → va_S (zAd g) s.heap H locs → W p l e (zrm (d + 1) mc ms) s m ([.ref h0, .int x1] : List Value).toArray below meth c H locs kc_55 ks_56 (vy_MQ below (zQv g Post) (zXC g "WhatIfSheet$Refused" PostX) ([.ref h0, .int x1] : List Value).toArray s mc ms (zAd g)) (F0 m 64 ls []) := by
                intro x_51 x_52 hp_53 nx_54 kc_55 ks_56 H locs ls hw hl hH hz hS
                have hw := hP_64 x_51 x_52 hp_53 nx_54 kc_55 ks_56 hw
                refine lv_iconst (v := (0 : Int32)) hx hb dX0_goesThrough_64 (by decide) ?_
                refine lv_istore (lv' := [(4, .int (0 : Int32)), (0, va_rf (some h0)), (1, .int x1), (2, .int x_51), (3, .int x_52)]) hx hb dX0_goesThrough_65 hl (by decide) (by first | rfl | simp [List.filter_cons, z_cat, z_catI, z_catJ, z_catF, z_catD]) (fun ls hl => ?_)
                obtain ⟨I_67, ⟨n_111, hI⟩, hB_67⟩ := hw
                have hL_67 : ∀ (n_64 : Nat) (x_57 : Int32) (x_58 : Int32) (x_59 : Int32) (hp_60 : zHp) (nx_61 : Nat) (kc_62 : Nat) (ks_63 : Nat) (H : Heap) (locs : List Loc) (ls : Array Slot), I_67 n_64 x_57 x_58 x_59 hp_60 nx_61 kc_62 ks_63 → lv_has ls 5 [(0, va_rf (some h0)), (1, .int x1), (2, .int x_57), (3, .int x_58), (4, .int x_59)] → zHd g hp_60 H → H.size = nx_61 → va_S (zAd g) s.heap H locs → W p l e (zrm (d + 1) mc ms) s m ([.ref h0, .int x1] : List Value).toArray below meth c H locs kc_62 ks_63 (vy_MQ below (zQv g Post) (zXC g "WhatIfSheet$Refused" PostX) ([.ref h0, .int x1] : List Value).toArray s mc ms (zAd g)) (F0 m 67 ls []) := by
                  intro n_64
                  induction n_64 using Nat.strongRecOn with
                  | _ n_64 ih_67 =>
                    intro x_57 x_58 x_59 hp_60 nx_61 kc_62 ks_63 H locs ls hw hl hH hz hS
                    have hw := hB_67 n_64 x_57 x_58 x_59 hp_60 nx_61 kc_62 ks_63 hw
                    refine lv_iload hx hb dX0_goesThrough_67 (lv_at hl 4 rfl) ?_
                    refine lv_bipush (v := (30 : Int32)) hx hb dX0_goesThrough_69 (by decide) ?_
                    refine lv_icmp_ge (tgt := 117) hx hb dX0_goesThrough_71 (by decide) (fun hc => ?_) (fun hc => ?_)
                    · have hw := hw.1 hc
                      refine lv_goto (tgt := 28) hx hb dX0_goesThrough_117 (by decide) ?_
                      obtain ⟨k_65, hlt, hw⟩ := hw
                      exact ih_28 k_65 hlt x_57 hp_60 nx_61 kc_62 ks_63 _ _ _ hw (lv_sub hl [0, 1, 2] rfl) hH hz hS
                    · have hw := hw.2 hc
                      refine zr_aload_n (r := some h0) hx hb dX0_goesThrough_74 rfl (lv_at hl 0 rfl) ?_
                      refine lv_iload hx hb dX0_goesThrough_75 (lv_at hl 4 rfl) ?_
                      refine lv_iload_n hx hb dX0_goesThrough_77 rfl (lv_at hl 3 rfl) ?_
                      obtain ⟨c_66, s_67, hcl, hsl, hw⟩ := hw
                      obtain ⟨a_108, ci_109, fs_110, er, he, hc, hw⟩ := zo_e hw
                      obtain rfl := List.mem_singleton.mp hc
                      refine zr_calli (zw_runV (As := [.int x_59, .int x_58]) hk hH hz hS hl.1 er hw (cwV 2 hts (lw_V q700 q702 qs5 q131 q703) rfl rfl rfl (by decide +kernel) (z_room (Nat.le_of_ble_eq_true rfl))) he rfl rfl rfl (Nat.le_of_ble_eq_true rfl) dX0_goesThrough_78 ⟨hcl, hsl⟩) hS (fun x_70 hp_68 nx_69 hw H locs hH hz hS => ?_)
                      obtain ⟨P_111, hP_111, hw⟩ := hw
                      have hJ_111 : ∀ (x_71 : Int32) (x_72 : Int32) (x_73 : Int32) (hp_74 : zHp) (nx_75 : Nat) (kc_76 : Nat) (ks_77 : Nat) (H : Heap) (locs : List Loc) (ls : Array Slot), P_111 x_71 x_72 x_73 hp_74 nx_75 kc_76 ks_77 → lv_has ls 5 [(0, va_rf (some h0)), (1, .int x1), (2, .int x_71), (3, .int x_72), (4, .int x_73)] → zHd g hp_74 H → H.size = nx_75 → va_S (zAd g) s.heap H locs → W p l e (zrm (d + 1) mc ms) s m ([.ref h0, .int x1] : List Value).toArray below meth c H locs kc_76 ks_77 (vy_MQ below (zQv g Post) (zXC g "WhatIfSheet$Refused" PostX) ([.ref h0, .int x1] : List Value).toArray s mc ms (zAd g)) (F0 m 111 ls []) := by
                        intro x_71 x_72 x_73 hp_74 nx_75 kc_76 ks_77 H locs ls hw hl hH hz hS
                        have hw := hP_111 x_71 x_72 x_73 hp_74 nx_75 kc_76 ks_77 hw
                        obtain ⟨x_78, ex_78⟩ : ∃ y : Int32, y = x_73 + (1 : Int32) := ⟨_, rfl⟩
                        have hw := hw x_78 ex_78
                        refine lv_iinc (v := x_78) (lv' := [(4, .int x_78), (0, va_rf (some h0)), (1, .int x1), (2, .int x_71), (3, .int x_72)]) hx hb dX0_goesThrough_111 hl (k := 4) rfl (by rw [ex_78]; rfl) (by decide) (by first | rfl | simp [List.filter_cons, z_cat, z_catI, z_catJ, z_catF, z_catD]) (fun ls hl => ?_)
                        refine lv_goto (tgt := 67) hx hb dX0_goesThrough_114 (by decide) ?_
                        obtain ⟨k_79, hlt, hw⟩ := hw
                        exact ih_67 k_79 hlt x_71 x_72 x_78 hp_74 nx_75 kc_76 ks_77 _ _ _ hw (lv_sub hl [1, 2, 3, 4, 0] rfl) hH hz hS
                      refine lv_if_eq (tgt := 111) hx hb dX0_goesThrough_81 (by decide) (fun hc => ?_) (fun hc => ?_)
                      · have hw := hw.1 hc
                        exact hJ_111 x_57 x_58 x_59 hp_68 nx_69 (kc_62 + c_66) (ks_63 + s_67) _ _ _ hw hl hH hz hS
                      · have hw := hw.2 hc
                        refine zr_aload_n (r := some h0) hx hb dX0_goesThrough_84 rfl (lv_at hl 0 rfl) ?_
                        obtain ⟨a_80, ci_81, fs_82, r_83, er, he, hc, hv, hw⟩ := zgR_e hw
                        refine zw_get hk hH er he hv (fk_X0_80 hc) dX0_goesThrough_85 ?_
                        refine lv_iload hx hb dX0_goesThrough_88 (lv_at hl 4 rfl) ?_
                        refine lv_dup2_11 hx hb dX0_goesThrough_90 rfl (z_cat _) ?_
                        obtain ⟨a_84, n_85, f_86, er, he, hi, hw⟩ := zaI_e hw
                        have hw := hw _ rfl
                        refine zw_iald hk hH er he hi dX0_goesThrough_91 ?_
                        generalize f_86 x_59.toNatClampNeg = x_87 at hw ⊢
                        refine lv_iconst (v := (1 : Int32)) hx hb dX0_goesThrough_92 (by decide) ?_
                        refine lv_isub hx hb dX0_goesThrough_93 ?_
                        refine lv_dup_x2 hx hb dX0_goesThrough_94 rfl rfl (z_cat _) ?_
                        obtain ⟨a_88, n_89, f_90, er, he, hi, hA, hw⟩ := zaI_e hw
                        obtain ⟨hp_91, eh⟩ : ∃ y : zHp, y = va_up hp_68 a_88 (some (.inl (g.2.1 0, n_89, .inl (va_up f_90 x_59.toNatClampNeg (x_87 - (1 : Int32)))))) := ⟨_, rfl⟩
                        have hw := hw hp_91 eh
                        refine zw_iast hk hH hz hS er he hi hA eh dX0_goesThrough_95 (fun H locs hH hz hS => ?_)
                        refine lv_if_ne (tgt := 111) hx hb dX0_goesThrough_96 (by decide) (fun hc => ?_) (fun hc => ?_)
                        · have hw := hw.2 hc
                          exact hJ_111 x_57 x_58 x_59 hp_91 nx_69 (kc_62 + c_66) (ks_63 + s_67) _ _ _ hw hl hH hz hS
                        · have hw := hw.1 hc
                          refine zr_aload_n (r := some h0) hx hb dX0_goesThrough_99 rfl (lv_at hl 0 rfl) ?_
                          obtain ⟨a_92, ci_93, fs_94, r_95, er, he, hc, hv, hw⟩ := zgR_e hw
                          refine zw_get hk hH er he hv (fk_X0_86 hc) dX0_goesThrough_100 ?_
                          refine lv_iload hx hb dX0_goesThrough_103 (lv_at hl 4 rfl) ?_
                          obtain ⟨c_96, s_97, hcl, hsl, hw⟩ := hw
                          refine zr_callq (zr_runS (As := [.int x_59]) hk hH hz hS hl.1 hw (va_cwS 1 hts (lw_S q820 q735 q149 q736) rfl rfl rfl (by decide +kernel) (z_room (Nat.le_of_ble_eq_true rfl))) rfl rfl (by simp only [List.map_cons, List.map_nil, z_cat]; exact Nat.le_of_ble_eq_true rfl) dX0_goesThrough_105 ⟨hcl, hsl⟩) hS (fun r_100 hp_98 nx_99 hw H locs hH hz hS => ?_)
                          obtain ⟨c_101, s_102, hcl, hsl, hw⟩ := hw
                          obtain ⟨a_105, ci_106, fs_107, er, he, hc, hw⟩ := zo_e hw
                          obtain rfl := List.mem_singleton.mp hc
                          refine zr_callv (zw_runV (As := [va_rf r_100]) hk hH hz hS hl.1 er hw (cwV 1 hts (lw_V q821 q822 q823 q151 q824) rfl rfl rfl (by decide +kernel) (z_room (Nat.le_of_ble_eq_true rfl))) he rfl rfl rfl (Nat.le_of_ble_eq_true rfl) dX0_goesThrough_108 ⟨hcl, hsl⟩) hS (fun hp_103 nx_104 hw H locs hH hz hS => ?_)
                          exact hJ_111 x_57 x_58 x_59 hp_103 nx_104 (((kc_62 + c_66) + c_96) + c_101) (((ks_63 + s_67) + s_97) + s_102) _ _ _ hw hl hH hz hS
                exact hL_67 n_111 x_51 x_52 (0 : Int32) hp_53 nx_54 kc_55 ks_56 _ _ _ hI (lv_sub hl [1, 2, 3, 4, 0] rfl) hH hz hS
              refine lv_if_eq (tgt := 64) hx hb dX0_goesThrough_56 (by decide) (fun hc => ?_) (fun hc => ?_)
              · have hw := hw.1 hc
                exact hJ_64 x_50 x_49 hp_47 nx_48 kc_16 ks_17 _ _ _ hw (lv_sub hl [2, 3, 0, 1] rfl) hH hz hS
              · have hw := hw.2 hc
                refine zr_aload_n (r := some h0) hx hb dX0_goesThrough_59 rfl (lv_at hl 2 rfl) ?_
                refine lv_iload_n hx hb dX0_goesThrough_60 rfl (lv_at hl 1 rfl) ?_
                obtain ⟨c_112, s_113, hcl, hsl, hw⟩ := hw
                obtain ⟨a_119, ci_120, fs_121, er, he, hc, hw⟩ := zo_e hw
                obtain rfl := List.mem_singleton.mp hc
                refine zy_callv (zy_runV (As := [.int x_49]) hk hH hz hS hl.1 er hw (cwV 1 hts (lw_V q911 q913 qs9 q131 q914) rfl rfl rfl (by decide +kernel) (z_room (Nat.le_of_ble_eq_true rfl))) he rfl rfl rfl (Nat.le_of_ble_eq_true rfl) dX0_goesThrough_61 ⟨hcl, hsl⟩) hS ?_ (fun hp_114 nx_115 hw H locs hH hz hS => ?_)
                · intro q_116 hp_117 nx_118 hw H locs hH hz hS hq
                  obtain ⟨hkc, hks, hw⟩ := hw
                  exact zy_out hk hH hz hS htb hq hw hkc hks
                · exact hJ_64 x_50 x_49 hp_114 nx_115 (kc_16 + c_112) (ks_17 + s_113) _ _ _ hw (lv_sub hl [2, 3, 0, 1] rfl) hH hz hS
        exact hL_28 n_131 (0 : Int32) hp_8 nx_9 kc_10 ks_11 _ _ _ hI (lv_sub hl [1, 2, 0] rfl) hH hz hS
      · have hw := hw.2 hc
        refine zr_aload_n (r := some h0) hx hb dX0_goesThrough_15 rfl (lv_at hl 0 rfl) ?_
        refine lv_iload_n hx hb dX0_goesThrough_16 rfl (lv_at hl 2 rfl) ?_
        obtain ⟨c_132, s_133, hcl, hsl, hw⟩ := hw
        obtain ⟨a_138, ci_139, fs_140, er, he, hc, hw⟩ := zo_e hw
        obtain rfl := List.mem_singleton.mp hc
        refine zr_callv (zw_runV (As := [.int x_7]) hk hH hz hS hl.1 er hw (cwV 1 hts (lw_V q696 q698 qs4 q131 q699) rfl rfl rfl (by decide +kernel) (z_room (Nat.le_of_ble_eq_true rfl))) he rfl rfl rfl (Nat.le_of_ble_eq_true rfl) dX0_goesThrough_17 ⟨hcl, hsl⟩) hS (fun hp_134 nx_135 hw H locs hH hz hS => ?_)
        obtain ⟨x_136, ex_136⟩ : ∃ y : Int32, y = x_7 + (1 : Int32) := ⟨_, rfl⟩
        have hw := hw x_136 ex_136
        refine lv_iinc (v := x_136) (lv' := [(2, .int x_136), (0, va_rf (some h0)), (1, .int x1)]) hx hb dX0_goesThrough_20 hl (k := 2) rfl (by rw [ex_136]; rfl) (by decide) (by first | rfl | simp [List.filter_cons, z_cat, z_catI, z_catJ, z_catF, z_catD]) (fun ls hl => ?_)
        refine lv_goto (tgt := 9) hx hb dX0_goesThrough_23 (by decide) ?_
        obtain ⟨k_137, hlt, hw⟩ := hw
        exact ih_9 k_137 hlt x_136 hp_134 nx_135 (kc_10 + c_132) (ks_11 + s_133) _ _ _ hw (lv_sub hl [1, 2, 0] rfl) hH hz hS
  exact hL_9 n_141 (0 : Int32) hp_5 nx_6 0 0 _ _ _ hI (lv_sub hl [1, 2, 0] rfl) hH hz hS
def wp_X0_stands (l : Launch) (g : zG) (d : Nat) (mc ms : Nat) (h0 : Nat) (x1 : Int32) (hp : zHp) (nx : Nat) (Post : zHp → Nat → Prop) : Prop :=
  (zgR hp (some h0) [0] 17 fun r_4 =>
  (zaI (g.2.1 0) hp r_4 fun a_5 n_6 f_7 => vp_in x1 n_6 ∧ zB g ≤ a_5 ∧ ∀ hp_8 : zHp, hp_8 = va_up hp a_5 (some (.inl (g.2.1 0, n_6, .inl (va_up f_7 x1.toNatClampNeg (0 : Int32))))) →
  (∃ I_9 : Nat → Int32 → zHp → Nat → Nat → Nat → Prop, (∃ n_71, I_9 n_71 (0 : Int32) hp_8 nx 0 0) ∧ ∀ (n_14 : Nat) (x_9 : Int32) (hp_10 : zHp) (nx_11 : Nat) (kc_12 : Nat) (ks_13 : Nat), I_9 n_14 x_9 hp_10 nx_11 kc_12 ks_13 →
  (((30 : Int32) ≤ x_9 →
  (zgR hp_10 (some h0) [0] 17 fun r_18 =>
  (zaI (g.2.1 0) hp_10 r_18 fun a_19 n_20 f_21 => vp_in x1 n_20 ∧ ∀ x_22 : Int32, x_22 = f_21 x1.toNatClampNeg →
  (∃ P_60 : Int32 → zHp → Nat → Nat → Nat → Prop, (∀ (x_23 : Int32) (hp_24 : zHp) (nx_25 : Nat) (kc_26 : Nat) (ks_27 : Nat), P_60 x_23 hp_24 nx_25 kc_26 ks_27 →
  (kc_26 ≤ mc ∧ ks_27 ≤ ms ∧ Post hp_24 nx_25)) ∧
  ((x_22 = 0 →
  (zgR hp_10 (some h0) [0] 18 fun r_31 =>
  (∃ c_32 s_33 : Nat, kc_12 + c_32 ≤ mc ∧ ks_13 + s_33 ≤ ms ∧ zMt l g yJ15_valueOf cJ15_valueOf 1 (some (.object "java/lang/Integer")) d c_32 s_33 [.int x1] hp_10 nx_11 (zQq g fun r_36 hp_34 nx_35 =>
  (∃ c_37 s_38 : Nat, (kc_12 + c_32) + c_37 ≤ mc ∧ (ks_13 + s_33) + s_38 ≤ ms ∧ zo hp_34 r_31 [35] fun a_41 ci_42 fs_43 => zMt l g yJ17_addLast cJ17_addLast 3 none d c_37 s_38 (.ref a_41 :: [va_rf r_36]) hp_34 nx_35 (zQv g fun hp_39 nx_40 =>
  P_60 x_9 hp_39 nx_40 ((kc_12 + c_32) + c_37) ((ks_13 + s_33) + s_38))))))) ∧
  (¬ x_22 = 0 →
  P_60 x_9 hp_10 nx_11 kc_12 ks_13)))))) ∧
  (¬ (30 : Int32) ≤ x_9 →
  (∃ c_44 s_45 : Nat, kc_12 + c_44 ≤ mc ∧ ks_13 + s_45 ≤ ms ∧ zo hp_10 (some h0) [0] fun a_68 ci_69 fs_70 => zMt l g yX0_names cX0_names 4 (some .boolean) d c_44 s_45 (.ref a_68 :: [.int x1, .int x_9]) hp_10 nx_11 (zQi g fun x_48 hp_46 nx_47 =>
  (∃ P_34 : Int32 → zHp → Nat → Nat → Nat → Prop, (∀ (x_49 : Int32) (hp_50 : zHp) (nx_51 : Nat) (kc_52 : Nat) (ks_53 : Nat), P_34 x_49 hp_50 nx_51 kc_52 ks_53 →
  (∀ x_54 : Int32, x_54 = x_49 + (1 : Int32) →
  (∃ k_55, k_55 < n_14 ∧ I_9 k_55 x_54 hp_50 nx_51 kc_52 ks_53))) ∧
  ((x_48 = 0 →
  P_34 x_9 hp_46 nx_47 (kc_12 + c_44) (ks_13 + s_45)) ∧
  (¬ x_48 = 0 →
  (zgR hp_46 (some h0) [0] 17 fun r_59 =>
  (zaI (g.2.1 0) hp_46 r_59 fun a_60 n_61 f_62 => vp_in x1 n_61 ∧ ∀ x_63 : Int32, x_63 = f_62 x1.toNatClampNeg →
  (zaI (g.2.1 0) hp_46 r_59 fun a_64 n_65 f_66 => vp_in x1 n_65 ∧ zB g ≤ a_64 ∧ ∀ hp_67 : zHp, hp_67 = va_up hp_46 a_64 (some (.inl (g.2.1 0, n_65, .inl (va_up f_66 x1.toNatClampNeg (x_63 + (1 : Int32)))))) →
  P_34 x_9 hp_67 nx_47 (kc_12 + c_44) (ks_13 + s_45))))))))))))))
set_option maxHeartbeats 40000000 in
theorem met_X0_stands {l : Launch} {g : zG} {d : Nat} {mc ms : Nat} {h0 : Nat} {x1 : Int32} {hp : zHp} {nx : Nat} {Post : zHp → Nat → Prop} (hw : wp_X0_stands l g d mc ms h0 x1 hp nx Post) : zMt l g yX0_stands cX0_stands 3 none (d + 1) mc ms [.ref h0, .int x1] hp nx (zQv g Post) := by
  refine z_start (by decide) (Nat.le_of_ble_eq_true rfl) ?_
  intro p e s m below meth c hk hr hin hH hz ls hl
  have hx := hk.1.1
  have hb := hk.1.2.1
  have hown := hk.1.2.2.2.1
  have hts := hk.1.2.2.2.2
  have hS : va_S (zAd g) s.heap s.heap [] := va_S.rf
  have hl : lv_has ls 3 [(0, va_rf (some h0)), (1, .int x1)] := hl
  unfold wp_X0_stands at hw
  refine zr_aload_n (r := some h0) hx hb dX0_stands_0 rfl (lv_at hl 0 rfl) ?_
  obtain ⟨a_1, ci_2, fs_3, r_4, er, he, hc, hv, hw⟩ := zgR_e hw
  refine zw_get hk hH er he hv (fk_X0_80 hc) dX0_stands_1 ?_
  refine lv_iload_n hx hb dX0_stands_4 rfl (lv_at hl 1 rfl) ?_
  refine lv_iconst (v := (0 : Int32)) hx hb dX0_stands_5 (by decide) ?_
  obtain ⟨a_5, n_6, f_7, er, he, hi, hA, hw⟩ := zaI_e hw
  obtain ⟨hp_8, eh⟩ : ∃ y : zHp, y = va_up hp a_5 (some (.inl (g.2.1 0, n_6, .inl (va_up f_7 x1.toNatClampNeg (0 : Int32))))) := ⟨_, rfl⟩
  have hw := hw hp_8 eh
  refine zw_iast hk hH hz hS er he hi hA eh dX0_stands_6 (fun H locs hH hz hS => ?_)
  refine lv_iconst (v := (0 : Int32)) hx hb dX0_stands_7 (by decide) ?_
  refine lv_istore_n (i := 2) (lv' := [(2, .int (0 : Int32)), (0, va_rf (some h0)), (1, .int x1)]) hx hb dX0_stands_8 rfl hl (by decide) (by first | rfl | simp [List.filter_cons, z_cat, z_catI, z_catJ, z_catF, z_catD]) (fun ls hl => ?_)
  obtain ⟨I_9, ⟨n_71, hI⟩, hB_9⟩ := hw
  have hL_9 : ∀ (n_14 : Nat) (x_9 : Int32) (hp_10 : zHp) (nx_11 : Nat) (kc_12 : Nat) (ks_13 : Nat) (H : Heap) (locs : List Loc) (ls : Array Slot), I_9 n_14 x_9 hp_10 nx_11 kc_12 ks_13 → lv_has ls 3 [(0, va_rf (some h0)), (1, .int x1), (2, .int x_9)] → zHd g hp_10 H → H.size = nx_11 → va_S (zAd g) s.heap H locs → W p l e (zrm (d + 1) mc ms) s m ([.ref h0, .int x1] : List Value).toArray below meth c H locs kc_12 ks_13 (MQ below (zQv g Post) ([.ref h0, .int x1] : List Value).toArray s mc ms (zAd g)) (F0 m 9 ls []) := by
    intro n_14
    induction n_14 using Nat.strongRecOn with
    | _ n_14 ih_9 =>
      intro x_9 hp_10 nx_11 kc_12 ks_13 H locs ls hw hl hH hz hS
      have hw := hB_9 n_14 x_9 hp_10 nx_11 kc_12 ks_13 hw
      refine lv_iload_n hx hb dX0_stands_9 rfl (lv_at hl 2 rfl) ?_
      refine lv_bipush (v := (30 : Int32)) hx hb dX0_stands_10 (by decide) ?_
      refine lv_icmp_ge (tgt := 40) hx hb dX0_stands_12 (by decide) (fun hc => ?_) (fun hc => ?_)
      · have hw := hw.1 hc
        refine zr_aload_n (r := some h0) hx hb dX0_stands_40 rfl (lv_at hl 0 rfl) ?_
        obtain ⟨a_15, ci_16, fs_17, r_18, er, he, hc, hv, hw⟩ := zgR_e hw
        refine zw_get hk hH er he hv (fk_X0_80 hc) dX0_stands_41 ?_
        refine lv_iload_n hx hb dX0_stands_44 rfl (lv_at hl 1 rfl) ?_
        obtain ⟨a_19, n_20, f_21, er, he, hi, hw⟩ := zaI_e hw
        have hw := hw _ rfl
        refine zw_iald hk hH er he hi dX0_stands_45 ?_
        generalize f_21 x1.toNatClampNeg = x_22 at hw ⊢
        obtain ⟨P_60, hP_60, hw⟩ := hw
        have hJ_60 : ∀ (x_23 : Int32) (hp_24 : zHp) (nx_25 : Nat) (kc_26 : Nat) (ks_27 : Nat) (H : Heap) (locs : List Loc) (ls : Array Slot), P_60 x_23 hp_24 nx_25 kc_26 ks_27 → lv_has ls 3 [(0, va_rf (some h0)), (1, .int x1), (2, .int x_23)] → zHd g hp_24 H → H.size = nx_25 → va_S (zAd g) s.heap H locs → W p l e (zrm (d + 1) mc ms) s m ([.ref h0, .int x1] : List Value).toArray below meth c H locs kc_26 ks_27 (MQ below (zQv g Post) ([.ref h0, .int x1] : List Value).toArray s mc ms (zAd g)) (F0 m 60 ls []) := by
          intro x_23 hp_24 nx_25 kc_26 ks_27 H locs ls hw hl hH hz hS
          have hw := hP_60 x_23 hp_24 nx_25 kc_26 ks_27 hw
          obtain ⟨hkc, hks, hw⟩ := hw
          exact zr_vret hk hr hH hz hS hw hkc hks dX0_stands_60
        refine lv_if_ne (tgt := 60) hx hb dX0_stands_46 (by decide) (fun hc => ?_) (fun hc => ?_)
        · have hw := hw.2 hc
          exact hJ_60 x_9 hp_10 nx_11 kc_12 ks_13 _ _ _ hw hl hH hz hS
        · have hw := hw.1 hc
          refine zr_aload_n (r := some h0) hx hb dX0_stands_49 rfl (lv_at hl 0 rfl) ?_
          obtain ⟨a_28, ci_29, fs_30, r_31, er, he, hc, hv, hw⟩ := zgR_e hw
          refine zw_get hk hH er he hv (fk_X0_86 hc) dX0_stands_50 ?_
          refine lv_iload_n hx hb dX0_stands_53 rfl (lv_at hl 1 rfl) ?_
          obtain ⟨c_32, s_33, hcl, hsl, hw⟩ := hw
          refine zr_callq (zr_runS (As := [.int x1]) hk hH hz hS hl.1 hw (va_cwS 1 hts (lw_S q820 q735 q149 q736) rfl rfl rfl (by decide +kernel) (z_room (Nat.le_of_ble_eq_true rfl))) rfl rfl (by simp only [List.map_cons, List.map_nil, z_cat]; exact Nat.le_of_ble_eq_true rfl) dX0_stands_54 ⟨hcl, hsl⟩) hS (fun r_36 hp_34 nx_35 hw H locs hH hz hS => ?_)
          obtain ⟨c_37, s_38, hcl, hsl, hw⟩ := hw
          obtain ⟨a_41, ci_42, fs_43, er, he, hc, hw⟩ := zo_e hw
          obtain rfl := List.mem_singleton.mp hc
          refine zr_callv (zw_runV (As := [va_rf r_36]) hk hH hz hS hl.1 er hw (cwV 1 hts (lw_V q821 q822 q823 q151 q824) rfl rfl rfl (by decide +kernel) (z_room (Nat.le_of_ble_eq_true rfl))) he rfl rfl rfl (Nat.le_of_ble_eq_true rfl) dX0_stands_57 ⟨hcl, hsl⟩) hS (fun hp_39 nx_40 hw H locs hH hz hS => ?_)
          exact hJ_60 x_9 hp_39 nx_40 ((kc_12 + c_32) + c_37) ((ks_13 + s_33) + s_38) _ _ _ hw hl hH hz hS
      · have hw := hw.2 hc
        refine zr_aload_n (r := some h0) hx hb dX0_stands_15 rfl (lv_at hl 0 rfl) ?_
        refine lv_iload_n hx hb dX0_stands_16 rfl (lv_at hl 1 rfl) ?_
        refine lv_iload_n hx hb dX0_stands_17 rfl (lv_at hl 2 rfl) ?_
        obtain ⟨c_44, s_45, hcl, hsl, hw⟩ := hw
        obtain ⟨a_68, ci_69, fs_70, er, he, hc, hw⟩ := zo_e hw
        obtain rfl := List.mem_singleton.mp hc
        refine zr_calli (zw_runV (As := [.int x1, .int x_9]) hk hH hz hS hl.1 er hw (cwV 2 hts (lw_V q700 q702 qs5 q131 q703) rfl rfl rfl (by decide +kernel) (z_room (Nat.le_of_ble_eq_true rfl))) he rfl rfl rfl (Nat.le_of_ble_eq_true rfl) dX0_stands_18 ⟨hcl, hsl⟩) hS (fun x_48 hp_46 nx_47 hw H locs hH hz hS => ?_)
        obtain ⟨P_34, hP_34, hw⟩ := hw
        have hJ_34 : ∀ (x_49 : Int32) (hp_50 : zHp) (nx_51 : Nat) (kc_52 : Nat) (ks_53 : Nat) (H : Heap) (locs : List Loc) (ls : Array Slot), P_34 x_49 hp_50 nx_51 kc_52 ks_53 → lv_has ls 3 [(0, va_rf (some h0)), (1, .int x1), (2, .int x_49)] → zHd g hp_50 H → H.size = nx_51 → va_S (zAd g) s.heap H locs → W p l e (zrm (d + 1) mc ms) s m ([.ref h0, .int x1] : List Value).toArray below meth c H locs kc_52 ks_53 (MQ below (zQv g Post) ([.ref h0, .int x1] : List Value).toArray s mc ms (zAd g)) (F0 m 34 ls []) := by
          intro x_49 hp_50 nx_51 kc_52 ks_53 H locs ls hw hl hH hz hS
          have hw := hP_34 x_49 hp_50 nx_51 kc_52 ks_53 hw
          obtain ⟨x_54, ex_54⟩ : ∃ y : Int32, y = x_49 + (1 : Int32) := ⟨_, rfl⟩
          have hw := hw x_54 ex_54
          refine lv_iinc (v := x_54) (lv' := [(2, .int x_54), (0, va_rf (some h0)), (1, .int x1)]) hx hb dX0_stands_34 hl (k := 2) rfl (by rw [ex_54]; rfl) (by decide) (by first | rfl | simp [List.filter_cons, z_cat, z_catI, z_catJ, z_catF, z_catD]) (fun ls hl => ?_)
          refine lv_goto (tgt := 9) hx hb dX0_stands_37 (by decide) ?_
          obtain ⟨k_55, hlt, hw⟩ := hw
          exact ih_9 k_55 hlt x_54 hp_50 nx_51 kc_52 ks_53 _ _ _ hw (lv_sub hl [1, 2, 0] rfl) hH hz hS
        refine lv_if_eq (tgt := 34) hx hb dX0_stands_21 (by decide) (fun hc => ?_) (fun hc => ?_)
        · have hw := hw.1 hc
          exact hJ_34 x_9 hp_46 nx_47 (kc_12 + c_44) (ks_13 + s_45) _ _ _ hw hl hH hz hS
        · have hw := hw.2 hc
          refine zr_aload_n (r := some h0) hx hb dX0_stands_24 rfl (lv_at hl 0 rfl) ?_
          obtain ⟨a_56, ci_57, fs_58, r_59, er, he, hc, hv, hw⟩ := zgR_e hw
          refine zw_get hk hH er he hv (fk_X0_80 hc) dX0_stands_25 ?_
          refine lv_iload_n hx hb dX0_stands_28 rfl (lv_at hl 1 rfl) ?_
          refine lv_dup2_11 hx hb dX0_stands_29 rfl (z_cat _) ?_
          obtain ⟨a_60, n_61, f_62, er, he, hi, hw⟩ := zaI_e hw
          have hw := hw _ rfl
          refine zw_iald hk hH er he hi dX0_stands_30 ?_
          generalize f_62 x1.toNatClampNeg = x_63 at hw ⊢
          refine lv_iconst (v := (1 : Int32)) hx hb dX0_stands_31 (by decide) ?_
          refine lv_iadd hx hb dX0_stands_32 ?_
          obtain ⟨a_64, n_65, f_66, er, he, hi, hA, hw⟩ := zaI_e hw
          obtain ⟨hp_67, eh⟩ : ∃ y : zHp, y = va_up hp_46 a_64 (some (.inl (g.2.1 0, n_65, .inl (va_up f_66 x1.toNatClampNeg (x_63 + (1 : Int32)))))) := ⟨_, rfl⟩
          have hw := hw hp_67 eh
          refine zw_iast hk hH hz hS er he hi hA eh dX0_stands_33 (fun H locs hH hz hS => ?_)
          exact hJ_34 x_9 hp_67 nx_47 (kc_12 + c_44) (ks_13 + s_45) _ _ _ hw hl hH hz hS
  exact hL_9 n_71 (0 : Int32) hp_8 nx 0 0 _ _ _ hI (lv_sub hl [1, 2, 0] rfl) hH hz hS
theorem fk_X0_239 {ci : Nat} (h : ci ∈ [2, 6, 7, 8, 9, 10]) : zFk "WhatIfSheet" 239 ci 1 := by
  simp only [List.mem_cons, List.not_mem_nil, or_false] at h
  rcases h with rfl | rfl | rfl | rfl | rfl | rfl
  · exact ⟨RX2, TX2, 3, rfl, by decide, q659⟩
  · exact ⟨RX6, TX6, 3, rfl, by decide, q659⟩
  · exact ⟨RX7, TX7, 3, rfl, by decide, q659⟩
  · exact ⟨RX8, TX8, 3, rfl, by decide, q659⟩
  · exact ⟨RX9, TX9, 3, rfl, by decide, q659⟩
  · exact ⟨RX10, TX10, 3, rfl, by decide, q659⟩
theorem fk_X0_37 {ci : Nat} (h : ci ∈ [0]) : zFk "WhatIfSheet" 37 ci 1 := by
  simp only [List.mem_cons, List.not_mem_nil, or_false] at h
  rcases h with rfl
  · exact ⟨RX0, TX0, 30, rfl, by decide, q1205⟩
theorem fk_X0_297 {ci : Nat} (h : ci ∈ [30]) : zFk "WhatIfSheet" 297 ci 1 := by
  simp only [List.mem_cons, List.not_mem_nil, or_false] at h
  rcases h with rfl
  · exact ⟨RX30, TX30, 3, rfl, by decide, q1944⟩
theorem fk_X0_269 {ci : Nat} (h : ci ∈ [31]) : zFk "WhatIfSheet" 269 ci 1 := by
  simp only [List.mem_cons, List.not_mem_nil, or_false] at h
  rcases h with rfl
  · exact ⟨RX31, TX31, 4, rfl, by decide, q2370⟩
def wp_X0_names (l : Launch) (g : zG) (d : Nat) (mc ms : Nat) (h0 : Nat) (x1 : Int32) (x2 : Int32) (hp : zHp) (nx : Nat) (Post : Int32 → zHp → Nat → Prop) : Prop :=
  ((x1 < (24 : Int32) →
  (zgR hp (some h0) [0] 0 fun r_4 =>
  (zaR (g.2.1 7) hp r_4 fun a_5 n_6 f_7 => vp_in x1 n_6 ∧ ∀ r_8 : Option Nat, r_8 = f_7 x1.toNatClampNeg →
  (zgR hp r_8 [2, 6, 7, 8, 9, 10] 1 fun r_12 =>
  ((r_12 = none →
  (0 ≤ mc ∧ 0 ≤ ms ∧ Post (0 : Int32) hp nx)) ∧
  (¬ r_12 = none →
  (∃ P_101 : (Option Nat) → Int32 → zHp → Nat → Nat → Nat → Prop, (∀ (r_13 : Option Nat) (x_14 : Int32) (hp_15 : zHp) (nx_16 : Nat) (kc_17 : Nat) (ks_18 : Nat), P_101 r_13 x_14 hp_15 nx_16 kc_17 ks_18 →
  (kc_17 ≤ mc ∧ ks_18 ≤ ms ∧ ((x_14 = 0 ∨ x_14 = 1) ∧ Post x_14 hp_15 nx_16))) ∧
  (((24 : Int32) ≤ x2 →
  (zgR hp (some h0) [0] 1 fun r_22 =>
  (zaR (g.2.1 8) hp r_22 fun a_23 n_24 f_25 => vp_in (x2 - (24 : Int32)) n_24 ∧ ∀ r_26 : Option Nat, r_26 = f_25 (x2 - (24 : Int32)).toNatClampNeg →
  (∃ P_100 : (Option Nat) → zHp → Nat → Nat → Nat → Prop, (∀ (r_27 : Option Nat) (hp_28 : zHp) (nx_29 : Nat) (kc_30 : Nat) (ks_31 : Nat), P_100 r_27 hp_28 nx_29 kc_30 ks_31 →
  P_101 r_27 (0 : Int32) hp_28 nx_29 kc_30 ks_31) ∧
  ((r_26 = none →
  P_100 r_12 hp nx 0 0) ∧
  (¬ r_26 = none →
  (∃ c_32 s_33 : Nat, 0 + c_32 ≤ mc ∧ 0 + s_33 ≤ ms ∧ zo hp r_12 [30] fun a_37 ci_38 fs_39 => zMt l g yX30_isAsking cX30_isAsking 2 (some .boolean) d c_32 s_33 (.ref a_37 :: [.int (x2 - (24 : Int32))]) hp nx (zQi g fun x_36 hp_34 nx_35 =>
  ((x_36 = 0 →
  P_100 r_12 hp_34 nx_35 (0 + c_32) (0 + s_33)) ∧
  (¬ x_36 = 0 →
  P_101 r_12 (1 : Int32) hp_34 nx_35 (0 + c_32) (0 + s_33))))))))))) ∧
  (¬ (24 : Int32) ≤ x2 →
  (zgR hp r_12 [30] 1 fun r_43 =>
  (0 ≤ mc ∧ 0 ≤ ms ∧ zo hp r_43 [34] fun a_47 ci_48 fs_49 => zMt l g yJ0_get cJ0_get 3 (some .boolean) d 0 0 (.ref a_47 :: [.int x2]) hp nx (zQi g fun x_46 hp_44 nx_45 =>
  P_101 r_12 x_46 hp_44 nx_45 0 0)))))))))))) ∧
  (¬ x1 < (24 : Int32) →
  (zgR hp (some h0) [0] 1 fun r_53 =>
  (zaR (g.2.1 8) hp r_53 fun a_54 n_55 f_56 => vp_in (x1 - (24 : Int32)) n_55 ∧ ∀ r_57 : Option Nat, r_57 = f_56 (x1 - (24 : Int32)).toNatClampNeg →
  (∃ P_39 : Int32 → zHp → Nat → Nat → Nat → Prop, (∀ (x_58 : Int32) (hp_59 : zHp) (nx_60 : Nat) (kc_61 : Nat) (ks_62 : Nat), P_39 x_58 hp_59 nx_60 kc_61 ks_62 →
  (kc_61 ≤ mc ∧ ks_62 ≤ ms ∧ ((x_58 = 0 ∨ x_58 = 1) ∧ Post x_58 hp_59 nx_60))) ∧
  (∃ P_38 : zHp → Nat → Nat → Nat → Prop, (∀ (hp_63 : zHp) (nx_64 : Nat) (kc_65 : Nat) (ks_66 : Nat), P_38 hp_63 nx_64 kc_65 ks_66 →
  P_39 (0 : Int32) hp_63 nx_64 kc_65 ks_66) ∧
  ((r_57 = none →
  P_38 hp nx 0 0) ∧
  (¬ r_57 = none →
  (zgR hp (some h0) [0] 1 fun r_70 =>
  (zaR (g.2.1 8) hp r_70 fun a_71 n_72 f_73 => vp_in (x1 - (24 : Int32)) n_72 ∧ ∀ r_74 : Option Nat, r_74 = f_73 (x1 - (24 : Int32)).toNatClampNeg →
  (zgI hp r_74 [31] 1 fun x_78 =>
  ((x_78 = x2 →
  P_39 (1 : Int32) hp nx 0 0) ∧
  (¬ x_78 = x2 →
  P_38 hp nx 0 0)))))))))))))
set_option maxHeartbeats 40000000 in
theorem met_X0_names {l : Launch} {g : zG} {d : Nat} {mc ms : Nat} {h0 : Nat} {x1 : Int32} {x2 : Int32} {hp : zHp} {nx : Nat} {Post : Int32 → zHp → Nat → Prop} (hw : wp_X0_names l g d mc ms h0 x1 x2 hp nx Post) : zMt l g yX0_names cX0_names 4 (some .boolean) (d + 1) mc ms [.ref h0, .int x1, .int x2] hp nx (zQi g Post) := by
  refine z_start (by decide) (Nat.le_of_ble_eq_true rfl) ?_
  intro p e s m below meth c hk hr hin hH hz ls hl
  have hx := hk.1.1
  have hb := hk.1.2.1
  have hown := hk.1.2.2.2.1
  have hts := hk.1.2.2.2.2
  have hS : va_S (zAd g) s.heap s.heap [] := va_S.rf
  have hl : lv_has ls 4 [(0, va_rf (some h0)), (1, .int x1), (2, .int x2)] := hl
  unfold wp_X0_names at hw
  refine lv_iload_n hx hb dX0_names_0 rfl (lv_at hl 1 rfl) ?_
  refine lv_bipush (v := (24 : Int32)) hx hb dX0_names_1 (by decide) ?_
  refine lv_icmp_lt (tgt := 40) hx hb dX0_names_3 (by decide) (fun hc => ?_) (fun hc => ?_)
  · have hw := hw.1 hc
    refine zr_aload_n (r := some h0) hx hb dX0_names_40 rfl (lv_at hl 0 rfl) ?_
    obtain ⟨a_1, ci_2, fs_3, r_4, er, he, hc, hv, hw⟩ := zgR_e hw
    refine zw_get hk hH er he hv (fk_X0_31 hc) dX0_names_41 ?_
    refine lv_iload_n hx hb dX0_names_44 rfl (lv_at hl 1 rfl) ?_
    obtain ⟨a_5, n_6, f_7, er, he, hi, hw⟩ := zaR_e hw
    have hw := hw _ rfl
    refine zw_aald hk hH 7 er he rfl rfl hi dX0_names_45 ?_
    generalize f_7 x1.toNatClampNeg = r_8 at hw ⊢
    obtain ⟨a_9, ci_10, fs_11, r_12, er, he, hc, hv, hw⟩ := zgR_e hw
    refine zw_get hk hH er he hv (fk_X0_239 hc) dX0_names_46 ?_
    refine zr_astore_n (r := r_12) (i := 3) (lv' := [(3, va_rf r_12), (0, va_rf (some h0)), (1, .int x1), (2, .int x2)]) hx hb dX0_names_49 rfl hl (by decide) (by first | rfl | simp [List.filter_cons, z_cat, z_catI, z_catJ, z_catF, z_catD]) (fun ls hl => ?_)
    refine zr_aload_n (r := r_12) hx hb dX0_names_50 rfl (lv_at hl 0 rfl) ?_
    refine zr_ifnonnull (r := r_12) (tgt := 56) hx hb dX0_names_51 (by decide) (fun hc => ?_) (fun hc => ?_)
    · have hw := hw.2 hc
      refine lv_iload_n hx hb dX0_names_56 rfl (lv_at hl 3 rfl) ?_
      refine lv_bipush (v := (24 : Int32)) hx hb dX0_names_57 (by decide) ?_
      obtain ⟨P_101, hP_101, hw⟩ := hw
      have hJ_101 : ∀ (r_13 : Option Nat) (x_14 : Int32) (hp_15 : zHp) (nx_16 : Nat) (kc_17 : Nat) (ks_18 : Nat) (H : Heap) (locs : List Loc) (ls : Array Slot), P_101 r_13 x_14 hp_15 nx_16 kc_17 ks_18 → lv_has ls 4 [(0, va_rf (some h0)), (1, .int x1), (2, .int x2), (3, va_rf r_13)] → zHd g hp_15 H → H.size = nx_16 → va_S (zAd g) s.heap H locs → W p l e (zrm (d + 1) mc ms) s m ([.ref h0, .int x1, .int x2] : List Value).toArray below meth c H locs kc_17 ks_18 (MQ below (zQi g Post) ([.ref h0, .int x1, .int x2] : List Value).toArray s mc ms (zAd g)) (F0 m 101 ls [.int x_14]) := by
        intro r_13 x_14 hp_15 nx_16 kc_17 ks_18 H locs ls hw hl hH hz hS
        have hw := hP_101 r_13 x_14 hp_15 nx_16 kc_17 ks_18 hw
        obtain ⟨hkc, hks, hw⟩ := hw
        exact zr_zret hk hr hH hz hS hw.1 hw.2 hkc hks dX0_names_101
      refine lv_icmp_ge (tgt := 73) hx hb dX0_names_59 (by decide) (fun hc => ?_) (fun hc => ?_)
      · have hw := hw.1 hc
        refine zr_aload_n (r := some h0) hx hb dX0_names_73 rfl (lv_at hl 1 rfl) ?_
        obtain ⟨a_19, ci_20, fs_21, r_22, er, he, hc, hv, hw⟩ := zgR_e hw
        refine zw_get hk hH er he hv (fk_X0_37 hc) dX0_names_74 ?_
        refine lv_iload_n hx hb dX0_names_77 rfl (lv_at hl 3 rfl) ?_
        refine lv_bipush (v := (24 : Int32)) hx hb dX0_names_78 (by decide) ?_
        refine lv_isub hx hb dX0_names_80 ?_
        obtain ⟨a_23, n_24, f_25, er, he, hi, hw⟩ := zaR_e hw
        have hw := hw _ rfl
        refine zw_aald hk hH 8 er he rfl rfl hi dX0_names_81 ?_
        generalize f_25 (x2 - (24 : Int32)).toNatClampNeg = r_26 at hw ⊢
        obtain ⟨P_100, hP_100, hw⟩ := hw
        have hJ_100 : ∀ (r_27 : Option Nat) (hp_28 : zHp) (nx_29 : Nat) (kc_30 : Nat) (ks_31 : Nat) (H : Heap) (locs : List Loc) (ls : Array Slot), P_100 r_27 hp_28 nx_29 kc_30 ks_31 → lv_has ls 4 [(0, va_rf (some h0)), (1, .int x1), (2, .int x2), (3, va_rf r_27)] → zHd g hp_28 H → H.size = nx_29 → va_S (zAd g) s.heap H locs → W p l e (zrm (d + 1) mc ms) s m ([.ref h0, .int x1, .int x2] : List Value).toArray below meth c H locs kc_30 ks_31 (MQ below (zQi g Post) ([.ref h0, .int x1, .int x2] : List Value).toArray s mc ms (zAd g)) (F0 m 100 ls []) := by
          intro r_27 hp_28 nx_29 kc_30 ks_31 H locs ls hw hl hH hz hS
          have hw := hP_100 r_27 hp_28 nx_29 kc_30 ks_31 hw
          refine lv_iconst (v := (0 : Int32)) hx hb dX0_names_100 (by decide) ?_
          exact hJ_101 r_27 (0 : Int32) hp_28 nx_29 kc_30 ks_31 _ _ _ hw hl hH hz hS
        refine zr_ifnull (r := r_26) (tgt := 100) hx hb dX0_names_82 (by decide) (fun hc => ?_) (fun hc => ?_)
        · have hw := hw.1 hc
          exact hJ_100 r_12 hp nx 0 0 _ _ _ hw (lv_sub hl [1, 2, 3, 0] rfl) hH hz hS
        · have hw := hw.2 hc
          refine zr_aload_n (r := r_12) hx hb dX0_names_85 rfl (lv_at hl 0 rfl) ?_
          refine lv_iload_n hx hb dX0_names_86 rfl (lv_at hl 3 rfl) ?_
          refine lv_bipush (v := (24 : Int32)) hx hb dX0_names_87 (by decide) ?_
          refine lv_isub hx hb dX0_names_89 ?_
          obtain ⟨c_32, s_33, hcl, hsl, hw⟩ := hw
          obtain ⟨a_37, ci_38, fs_39, er, he, hc, hw⟩ := zo_e hw
          obtain rfl := List.mem_singleton.mp hc
          refine zr_calli (zw_runV (As := [.int (x2 - (24 : Int32))]) hk hH hz hS hl.1 er hw (cwV 1 hts (lw_V q730 q731 q732 q194 q733) rfl rfl rfl (by decide +kernel) (z_room (Nat.le_of_ble_eq_true rfl))) he rfl rfl rfl (Nat.le_of_ble_eq_true rfl) dX0_names_90 ⟨hcl, hsl⟩) hS (fun x_36 hp_34 nx_35 hw H locs hH hz hS => ?_)
          refine lv_if_eq (tgt := 100) hx hb dX0_names_93 (by decide) (fun hc => ?_) (fun hc => ?_)
          · have hw := hw.1 hc
            exact hJ_100 r_12 hp_34 nx_35 (0 + c_32) (0 + s_33) _ _ _ hw (lv_sub hl [1, 2, 3, 0] rfl) hH hz hS
          · have hw := hw.2 hc
            refine lv_iconst (v := (1 : Int32)) hx hb dX0_names_96 (by decide) ?_
            refine lv_goto (tgt := 101) hx hb dX0_names_97 (by decide) ?_
            exact hJ_101 r_12 (1 : Int32) hp_34 nx_35 (0 + c_32) (0 + s_33) _ _ _ hw (lv_sub hl [1, 2, 3, 0] rfl) hH hz hS
      · have hw := hw.2 hc
        refine zr_aload_n (r := r_12) hx hb dX0_names_62 rfl (lv_at hl 0 rfl) ?_
        obtain ⟨a_40, ci_41, fs_42, r_43, er, he, hc, hv, hw⟩ := zgR_e hw
        refine zw_get hk hH er he hv (fk_X0_297 hc) dX0_names_63 ?_
        refine lv_iload_n hx hb dX0_names_66 rfl (lv_at hl 3 rfl) ?_
        obtain ⟨hcl, hsl, hw⟩ := hw
        obtain ⟨a_47, ci_48, fs_49, er, he, hc, hw⟩ := zo_e hw
        obtain rfl := List.mem_singleton.mp hc
        refine zr_calli (zw_runV (As := [.int x2]) hk hH hz hS hl.1 er hw (cwV 1 hts (lw_V q704 q705 q706 q133 q707) rfl rfl rfl (by decide +kernel) (z_room (Nat.le_of_ble_eq_true rfl))) he rfl rfl rfl (Nat.le_of_ble_eq_true rfl) dX0_names_67 ⟨hcl, hsl⟩) hS (fun x_46 hp_44 nx_45 hw H locs hH hz hS => ?_)
        refine lv_goto (tgt := 101) hx hb dX0_names_70 (by decide) ?_
        exact hJ_101 r_12 x_46 hp_44 nx_45 0 0 _ _ _ hw (lv_sub hl [1, 2, 3, 0] rfl) hH hz hS
    · have hw := hw.1 hc
      refine lv_iconst (v := (0 : Int32)) hx hb dX0_names_54 (by decide) ?_
      obtain ⟨hkc, hks, hw⟩ := hw
      exact zr_zret hk hr hH hz hS (Or.inl rfl) hw hkc hks dX0_names_55
  · have hw := hw.2 hc
    refine zr_aload_n (r := some h0) hx hb dX0_names_6 rfl (lv_at hl 0 rfl) ?_
    obtain ⟨a_50, ci_51, fs_52, r_53, er, he, hc, hv, hw⟩ := zgR_e hw
    refine zw_get hk hH er he hv (fk_X0_37 hc) dX0_names_7 ?_
    refine lv_iload_n hx hb dX0_names_10 rfl (lv_at hl 1 rfl) ?_
    refine lv_bipush (v := (24 : Int32)) hx hb dX0_names_11 (by decide) ?_
    refine lv_isub hx hb dX0_names_13 ?_
    obtain ⟨a_54, n_55, f_56, er, he, hi, hw⟩ := zaR_e hw
    have hw := hw _ rfl
    refine zw_aald hk hH 8 er he rfl rfl hi dX0_names_14 ?_
    generalize f_56 (x1 - (24 : Int32)).toNatClampNeg = r_57 at hw ⊢
    obtain ⟨P_39, hP_39, hw⟩ := hw
    have hJ_39 : ∀ (x_58 : Int32) (hp_59 : zHp) (nx_60 : Nat) (kc_61 : Nat) (ks_62 : Nat) (H : Heap) (locs : List Loc) (ls : Array Slot), P_39 x_58 hp_59 nx_60 kc_61 ks_62 → lv_has ls 4 [(0, va_rf (some h0)), (1, .int x1), (2, .int x2)] → zHd g hp_59 H → H.size = nx_60 → va_S (zAd g) s.heap H locs → W p l e (zrm (d + 1) mc ms) s m ([.ref h0, .int x1, .int x2] : List Value).toArray below meth c H locs kc_61 ks_62 (MQ below (zQi g Post) ([.ref h0, .int x1, .int x2] : List Value).toArray s mc ms (zAd g)) (F0 m 39 ls [.int x_58]) := by
      intro x_58 hp_59 nx_60 kc_61 ks_62 H locs ls hw hl hH hz hS
      have hw := hP_39 x_58 hp_59 nx_60 kc_61 ks_62 hw
      obtain ⟨hkc, hks, hw⟩ := hw
      exact zr_zret hk hr hH hz hS hw.1 hw.2 hkc hks dX0_names_39
    obtain ⟨P_38, hP_38, hw⟩ := hw
    have hJ_38 : ∀ (hp_63 : zHp) (nx_64 : Nat) (kc_65 : Nat) (ks_66 : Nat) (H : Heap) (locs : List Loc) (ls : Array Slot), P_38 hp_63 nx_64 kc_65 ks_66 → lv_has ls 4 [(0, va_rf (some h0)), (1, .int x1), (2, .int x2)] → zHd g hp_63 H → H.size = nx_64 → va_S (zAd g) s.heap H locs → W p l e (zrm (d + 1) mc ms) s m ([.ref h0, .int x1, .int x2] : List Value).toArray below meth c H locs kc_65 ks_66 (MQ below (zQi g Post) ([.ref h0, .int x1, .int x2] : List Value).toArray s mc ms (zAd g)) (F0 m 38 ls []) := by
      intro hp_63 nx_64 kc_65 ks_66 H locs ls hw hl hH hz hS
      have hw := hP_38 hp_63 nx_64 kc_65 ks_66 hw
      refine lv_iconst (v := (0 : Int32)) hx hb dX0_names_38 (by decide) ?_
      exact hJ_39 (0 : Int32) hp_63 nx_64 kc_65 ks_66 _ _ _ hw hl hH hz hS
    refine zr_ifnull (r := r_57) (tgt := 38) hx hb dX0_names_15 (by decide) (fun hc => ?_) (fun hc => ?_)
    · have hw := hw.1 hc
      exact hJ_38 hp nx 0 0 _ _ _ hw hl hH hz hS
    · have hw := hw.2 hc
      refine zr_aload_n (r := some h0) hx hb dX0_names_18 rfl (lv_at hl 0 rfl) ?_
      obtain ⟨a_67, ci_68, fs_69, r_70, er, he, hc, hv, hw⟩ := zgR_e hw
      refine zw_get hk hH er he hv (fk_X0_37 hc) dX0_names_19 ?_
      refine lv_iload_n hx hb dX0_names_22 rfl (lv_at hl 1 rfl) ?_
      refine lv_bipush (v := (24 : Int32)) hx hb dX0_names_23 (by decide) ?_
      refine lv_isub hx hb dX0_names_25 ?_
      obtain ⟨a_71, n_72, f_73, er, he, hi, hw⟩ := zaR_e hw
      have hw := hw _ rfl
      refine zw_aald hk hH 8 er he rfl rfl hi dX0_names_26 ?_
      generalize f_73 (x1 - (24 : Int32)).toNatClampNeg = r_74 at hw ⊢
      obtain ⟨a_75, ci_76, fs_77, x_78, er, he, hc, hv, hw⟩ := zgI_e hw
      refine zw_get hk hH er he hv (fk_X0_269 hc) dX0_names_27 ?_
      refine lv_iload_n hx hb dX0_names_30 rfl (lv_at hl 2 rfl) ?_
      refine lv_icmp_ne (tgt := 38) hx hb dX0_names_31 (by decide) (fun hc => ?_) (fun hc => ?_)
      · have hw := hw.2 hc
        exact hJ_38 hp nx 0 0 _ _ _ hw hl hH hz hS
      · have hw := hw.1 hc
        refine lv_iconst (v := (1 : Int32)) hx hb dX0_names_34 (by decide) ?_
        refine lv_goto (tgt := 39) hx hb dX0_names_35 (by decide) ?_
        exact hJ_39 (1 : Int32) hp nx 0 0 _ _ _ hw hl hH hz hS
theorem fk_X0_72 {ci : Nat} (h : ci ∈ [0]) : zFk "WhatIfSheet" 72 ci 15 := by
  simp only [List.mem_cons, List.not_mem_nil, or_false] at h
  rcases h with rfl
  · exact ⟨RX0, TX0, 30, rfl, by decide, q1225⟩
theorem fk_X0_65 {ci : Nat} (h : ci ∈ [0]) : zFk "WhatIfSheet" 65 ci 13 := by
  simp only [List.mem_cons, List.not_mem_nil, or_false] at h
  rcases h with rfl
  · exact ⟨RX0, TX0, 30, rfl, by decide, q1223⟩
def wp_X0_weighs (l : Launch) (g : zG) (d : Nat) (mc ms : Nat) (h0 : Nat) (x1 : Int32) (hp : zHp) (nx : Nat) (Post : zHp → Nat → Prop) (PostX : Nat → zHp → Nat → Prop) : Prop :=
  (∃ P_75 : Int32 → zHp → Nat → Nat → Nat → Prop, (∀ (x_1 : Int32) (hp_2 : zHp) (nx_3 : Nat) (kc_4 : Nat) (ks_5 : Nat), P_75 x_1 hp_2 nx_3 kc_4 ks_5 →
  ((x_1 ≤ (2000 : Int32) →
  (kc_4 ≤ mc ∧ ks_5 ≤ ms ∧ Post hp_2 nx_3)) ∧
  (¬ x_1 ≤ (2000 : Int32) →
  (znw g mc ms hp_2 nx_3 kc_4 ks_5 4 fun hp_6 =>
  ∀ nx_7 kc_8 ks_9 : Nat, nx_7 = (nx_3 + 1) → kc_8 = (kc_4 + 1) → ks_9 = (ks_5 + zNn 4) →
  (∃ c_10 s_11 : Nat, kc_8 + c_10 ≤ mc ∧ ks_9 + s_11 ≤ ms ∧ zMt l g yX4_init cX4_init 2 none d c_10 s_11 (.ref nx_3 :: [.int (-4 : Int32)]) hp_6 nx_7 (zQv g fun hp_12 nx_13 =>
  (zo hp_12 (some nx_3) [4] fun a_14 ci_15 fs_16 => (kc_8 + c_10) ≤ mc ∧ (ks_9 + s_11) ≤ ms ∧ PostX a_14 hp_12 nx_13))))))) ∧
  (((24 : Int32) ≤ x1 →
  (zgR hp (some h0) [0] 1 fun r_23 =>
  (zaR (g.2.1 8) hp r_23 fun a_24 n_25 f_26 => vp_in (x1 - (24 : Int32)) n_25 ∧ ∀ r_27 : Option Nat, r_27 = f_26 (x1 - (24 : Int32)).toNatClampNeg →
  (∃ P_64 : (Option Nat) → Int32 → zHp → Nat → Nat → Nat → Prop, (∀ (r_28 : Option Nat) (x_29 : Int32) (hp_30 : zHp) (nx_31 : Nat) (kc_32 : Nat) (ks_33 : Nat), P_64 r_28 x_29 hp_30 nx_31 kc_32 ks_33 →
  (zgR hp_30 (some h0) [0] 15 fun r_37 =>
  (zaI (g.2.1 0) hp_30 r_37 fun a_38 n_39 f_40 => vp_in (x1 - (24 : Int32)) n_39 ∧ zB g ≤ a_38 ∧ ∀ hp_41 : zHp, hp_41 = va_up hp_30 a_38 (some (.inl (g.2.1 0, n_39, .inl (va_up f_40 (x1 - (24 : Int32)).toNatClampNeg x_29)))) →
  P_75 x_29 hp_41 nx_31 kc_32 ks_33))) ∧
  ((r_27 = none →
  P_64 r_27 (0 : Int32) hp nx 0 0) ∧
  (¬ r_27 = none →
  (zgR hp (some h0) [0] 13 fun r_45 =>
  (zgI hp r_27 [31] 1 fun x_49 =>
  (zaI (g.2.1 0) hp r_45 fun a_50 n_51 f_52 => vp_in x_49 n_51 ∧ ∀ x_53 : Int32, x_53 = f_52 x_49.toNatClampNeg →
  (0 ≤ mc ∧ 0 ≤ ms ∧ zo hp r_27 [31] fun a_57 ci_58 fs_59 => zMt l g yX31_cases cX31_cases 1 (some .int) d 0 0 (.ref a_57 :: []) hp nx (zQi g fun x_56 hp_54 nx_55 =>
  P_64 r_27 (x_53 * x_56) hp_54 nx_55 0 0))))))))))) ∧
  (¬ (24 : Int32) ≤ x1 →
  (∃ c_60 s_61 : Nat, 0 + c_60 ≤ mc ∧ 0 + s_61 ≤ ms ∧ zo hp (some h0) [0] fun a_86 ci_87 fs_88 => zMt l g yX0_reads cX0_reads 5 none d c_60 s_61 (.ref a_86 :: [.int x1]) hp nx (zQv g fun hp_62 nx_63 =>
  (zgR hp_62 (some h0) [0] 11 fun r_67 =>
  (zaR (g.2.1 10) hp_62 r_67 fun a_68 n_69 f_70 => vp_in x1 n_69 ∧ ∀ r_71 : Option Nat, r_71 = f_70 x1.toNatClampNeg →
  ((0 + c_60) ≤ mc ∧ (0 + s_61) ≤ ms ∧ zo hp_62 (some h0) [0] fun a_83 ci_84 fs_85 => zMt l g yX0_burdenOf cX0_burdenOf 4 (some .int) d 0 0 (.ref a_83 :: [va_rf r_71]) hp_62 nx_63 (zQi g fun x_74 hp_72 nx_73 =>
  (zgR hp_72 (some h0) [0] 13 fun r_78 =>
  (zaI (g.2.1 0) hp_72 r_78 fun a_79 n_80 f_81 => vp_in x1 n_80 ∧ zB g ≤ a_79 ∧ ∀ hp_82 : zHp, hp_82 = va_up hp_72 a_79 (some (.inl (g.2.1 0, n_80, .inl (va_up f_81 x1.toNatClampNeg x_74)))) →
  P_75 x_74 hp_82 nx_73 (0 + c_60) (0 + s_61))))))))))))
set_option maxHeartbeats 40000000 in
theorem met_X0_weighs {l : Launch} {g : zG} {d : Nat} {mc ms : Nat} {h0 : Nat} {x1 : Int32} {hp : zHp} {nx : Nat} {Post : zHp → Nat → Prop} {PostX : Nat → zHp → Nat → Prop} (hw : wp_X0_weighs l g d mc ms h0 x1 hp nx Post PostX) : zMx l g yX0_weighs cX0_weighs 4 none (d + 1) mc ms [.ref h0, .int x1] hp nx (zQv g Post) "WhatIfSheet$Refused" PostX := by
  refine zy_start (by decide) (Nat.le_of_ble_eq_true rfl) ?_
  intro p e s m below meth c hk hr hin htb hH hz ls hl
  have hx := hk.1.1
  have hb := hk.1.2.1
  have hown := hk.1.2.2.2.1
  have hts := hk.1.2.2.2.2
  have hS : va_S (zAd g) s.heap s.heap [] := va_S.rf
  have hl : lv_has ls 4 [(0, va_rf (some h0)), (1, .int x1)] := hl
  unfold wp_X0_weighs at hw
  refine lv_iload_n hx hb dX0_weighs_0 rfl (lv_at hl 1 rfl) ?_
  refine lv_bipush (v := (24 : Int32)) hx hb dX0_weighs_1 (by decide) ?_
  obtain ⟨P_75, hP_75, hw⟩ := hw
  have hJ_75 : ∀ (x_1 : Int32) (hp_2 : zHp) (nx_3 : Nat) (kc_4 : Nat) (ks_5 : Nat) (H : Heap) (locs : List Loc) (ls : Array Slot), P_75 x_1 hp_2 nx_3 kc_4 ks_5 → lv_has ls 4 [(0, va_rf (some h0)), (1, .int x1), (2, .int x_1)] → zHd g hp_2 H → H.size = nx_3 → va_S (zAd g) s.heap H locs → W p l e (zrm (d + 1) mc ms) s m ([.ref h0, .int x1] : List Value).toArray below meth c H locs kc_4 ks_5 (vy_MQ below (zQv g Post) (zXC g "WhatIfSheet$Refused" PostX) ([.ref h0, .int x1] : List Value).toArray s mc ms (zAd g)) (F0 m 75 ls []) := by
    intro x_1 hp_2 nx_3 kc_4 ks_5 H locs ls hw hl hH hz hS
    have hw := hP_75 x_1 hp_2 nx_3 kc_4 ks_5 hw
    refine lv_iload_n hx hb dX0_weighs_75 rfl (lv_at hl 2 rfl) ?_
    refine lv_sipush (v := (2000 : Int32)) hx hb dX0_weighs_76 (by decide) ?_
    refine lv_icmp_le (tgt := 92) hx hb dX0_weighs_79 (by decide) (fun hc => ?_) (fun hc => ?_)
    · have hw := hw.1 hc
      obtain ⟨hkc, hks, hw⟩ := hw
      exact vy_ret (zr_vret hk hr hH hz hS hw hkc hks dX0_weighs_92)
    · have hw := hw.2 hc
      obtain ⟨hcl, hsl, hw⟩ := hw
      refine zx_new hk hH hz hS (ci := 4) no_X0_333 hcl hsl dX0_weighs_82 (fun H hH hz hS hlt hnb => ?_)
      have hw := hw hlt hnb
      generalize va_up hp_2 nx_3 _ = hp_6 at hH hw
      obtain ⟨kc_8, ekc⟩ : ∃ k, k = (kc_4 + 1) := ⟨_, rfl⟩
      obtain ⟨ks_9, eks⟩ : ∃ k, k = (ks_5 + zNn 4) := ⟨_, rfl⟩
      have hw := hw _ _ _ rfl ekc eks
      refine W.widen (Nat.le_of_eq ekc.symm) (Nat.le_of_eq eks.symm) ?_
      clear ekc eks
      generalize (nx_3 + 1) = nx_7 at hz hw
      refine lv_dup hx hb dX0_weighs_85 (z_cat _) ?_
      refine lv_bipush (v := (-4 : Int32)) hx hb dX0_weighs_86 (by decide) ?_
      obtain ⟨c_10, s_11, hcl, hsl, hw⟩ := hw
      refine zr_callv (zw_runI (As := [.int (-4 : Int32)]) (r := some nx_3) hk hH hz hS hl.1 rfl hw (cwI 1 hts (lw_meth q1190) rfl rfl rfl (hts _ q161) (hts _ q1188) (hts _ q1189) rfl (by decide +kernel) (z_room (Nat.le_of_ble_eq_true rfl))) rfl rfl (by simp only [List.map_cons, List.map_nil, z_cat]; exact Nat.le_of_ble_eq_true rfl) dX0_weighs_88 ⟨hcl, hsl⟩) hS (fun hp_12 nx_13 hw H locs hH hz hS => ?_)
      obtain ⟨a_14, ci_15, fs_16, er, he, hc, hkc, hks, hw⟩ := zo_e hw
      obtain rfl := List.mem_singleton.mp hc
      exact zy_athrow hk hH hz hS htb er he rfl hw hkc hks dX0_weighs_91
  refine lv_icmp_ge (tgt := 32) hx hb dX0_weighs_3 (by decide) (fun hc => ?_) (fun hc => ?_)
  · have hw := hw.1 hc
    refine zr_aload_n (r := some h0) hx hb dX0_weighs_32 rfl (lv_at hl 0 rfl) ?_
    obtain ⟨a_20, ci_21, fs_22, r_23, er, he, hc, hv, hw⟩ := zgR_e hw
    refine zw_get hk hH er he hv (fk_X0_37 hc) dX0_weighs_33 ?_
    refine lv_iload_n hx hb dX0_weighs_36 rfl (lv_at hl 1 rfl) ?_
    refine lv_bipush (v := (24 : Int32)) hx hb dX0_weighs_37 (by decide) ?_
    refine lv_isub hx hb dX0_weighs_39 ?_
    obtain ⟨a_24, n_25, f_26, er, he, hi, hw⟩ := zaR_e hw
    have hw := hw _ rfl
    refine zw_aald hk hH 8 er he rfl rfl hi dX0_weighs_40 ?_
    generalize f_26 (x1 - (24 : Int32)).toNatClampNeg = r_27 at hw ⊢
    refine zr_astore_n (r := r_27) (i := 3) (lv' := [(3, va_rf r_27), (0, va_rf (some h0)), (1, .int x1)]) hx hb dX0_weighs_41 rfl hl (by decide) (by first | rfl | simp [List.filter_cons, z_cat, z_catI, z_catJ, z_catF, z_catD]) (fun ls hl => ?_)
    refine zr_aload_n (r := r_27) hx hb dX0_weighs_42 rfl (lv_at hl 0 rfl) ?_
    obtain ⟨P_64, hP_64, hw⟩ := hw
    have hJ_64 : ∀ (r_28 : Option Nat) (x_29 : Int32) (hp_30 : zHp) (nx_31 : Nat) (kc_32 : Nat) (ks_33 : Nat) (H : Heap) (locs : List Loc) (ls : Array Slot), P_64 r_28 x_29 hp_30 nx_31 kc_32 ks_33 → lv_has ls 4 [(0, va_rf (some h0)), (1, .int x1), (3, va_rf r_28)] → zHd g hp_30 H → H.size = nx_31 → va_S (zAd g) s.heap H locs → W p l e (zrm (d + 1) mc ms) s m ([.ref h0, .int x1] : List Value).toArray below meth c H locs kc_32 ks_33 (vy_MQ below (zQv g Post) (zXC g "WhatIfSheet$Refused" PostX) ([.ref h0, .int x1] : List Value).toArray s mc ms (zAd g)) (F0 m 64 ls [.int x_29]) := by
      intro r_28 x_29 hp_30 nx_31 kc_32 ks_33 H locs ls hw hl hH hz hS
      have hw := hP_64 r_28 x_29 hp_30 nx_31 kc_32 ks_33 hw
      refine lv_istore_n (i := 2) (lv' := [(2, .int x_29), (0, va_rf (some h0)), (1, .int x1), (3, va_rf r_28)]) hx hb dX0_weighs_64 rfl hl (by decide) (by first | rfl | simp [List.filter_cons, z_cat, z_catI, z_catJ, z_catF, z_catD]) (fun ls hl => ?_)
      refine zr_aload_n (r := some h0) hx hb dX0_weighs_65 rfl (lv_at hl 1 rfl) ?_
      obtain ⟨a_34, ci_35, fs_36, r_37, er, he, hc, hv, hw⟩ := zgR_e hw
      refine zw_get hk hH er he hv (fk_X0_72 hc) dX0_weighs_66 ?_
      refine lv_iload_n hx hb dX0_weighs_69 rfl (lv_at hl 2 rfl) ?_
      refine lv_bipush (v := (24 : Int32)) hx hb dX0_weighs_70 (by decide) ?_
      refine lv_isub hx hb dX0_weighs_72 ?_
      refine lv_iload_n hx hb dX0_weighs_73 rfl (lv_at hl 0 rfl) ?_
      obtain ⟨a_38, n_39, f_40, er, he, hi, hA, hw⟩ := zaI_e hw
      obtain ⟨hp_41, eh⟩ : ∃ y : zHp, y = va_up hp_30 a_38 (some (.inl (g.2.1 0, n_39, .inl (va_up f_40 (x1 - (24 : Int32)).toNatClampNeg x_29)))) := ⟨_, rfl⟩
      have hw := hw hp_41 eh
      refine zw_iast hk hH hz hS er he hi hA eh dX0_weighs_74 (fun H locs hH hz hS => ?_)
      exact hJ_75 x_29 hp_41 nx_31 kc_32 ks_33 _ _ _ hw (lv_sub hl [1, 2, 0] rfl) hH hz hS
    refine zr_ifnonnull (r := r_27) (tgt := 50) hx hb dX0_weighs_43 (by decide) (fun hc => ?_) (fun hc => ?_)
    · have hw := hw.2 hc
      refine zr_aload_n (r := some h0) hx hb dX0_weighs_50 rfl (lv_at hl 1 rfl) ?_
      obtain ⟨a_42, ci_43, fs_44, r_45, er, he, hc, hv, hw⟩ := zgR_e hw
      refine zw_get hk hH er he hv (fk_X0_65 hc) dX0_weighs_51 ?_
      refine zr_aload_n (r := r_27) hx hb dX0_weighs_54 rfl (lv_at hl 0 rfl) ?_
      obtain ⟨a_46, ci_47, fs_48, x_49, er, he, hc, hv, hw⟩ := zgI_e hw
      refine zw_get hk hH er he hv (fk_X0_269 hc) dX0_weighs_55 ?_
      obtain ⟨a_50, n_51, f_52, er, he, hi, hw⟩ := zaI_e hw
      have hw := hw _ rfl
      refine zw_iald hk hH er he hi dX0_weighs_58 ?_
      generalize f_52 x_49.toNatClampNeg = x_53 at hw ⊢
      refine zr_aload_n (r := r_27) hx hb dX0_weighs_59 rfl (lv_at hl 0 rfl) ?_
      obtain ⟨hcl, hsl, hw⟩ := hw
      obtain ⟨a_57, ci_58, fs_59, er, he, hc, hw⟩ := zo_e hw
      obtain rfl := List.mem_singleton.mp hc
      refine zr_calli (zw_runV (As := []) hk hH hz hS hl.1 er hw (cwV 0 hts (lw_V q1168 q1169 q1170 q195 q1171) rfl rfl rfl (by decide +kernel) (z_room (Nat.le_of_ble_eq_true rfl))) he rfl rfl rfl (Nat.le_of_ble_eq_true rfl) dX0_weighs_60 ⟨hcl, hsl⟩) hS (fun x_56 hp_54 nx_55 hw H locs hH hz hS => ?_)
      refine lv_imul hx hb dX0_weighs_63 ?_
      exact hJ_64 r_27 (x_53 * x_56) hp_54 nx_55 0 0 _ _ _ hw (lv_sub hl [1, 2, 0] rfl) hH hz hS
    · have hw := hw.1 hc
      refine lv_iconst (v := (0 : Int32)) hx hb dX0_weighs_46 (by decide) ?_
      refine lv_goto (tgt := 64) hx hb dX0_weighs_47 (by decide) ?_
      exact hJ_64 r_27 (0 : Int32) hp nx 0 0 _ _ _ hw (lv_sub hl [1, 2, 0] rfl) hH hz hS
  · have hw := hw.2 hc
    refine zr_aload_n (r := some h0) hx hb dX0_weighs_6 rfl (lv_at hl 0 rfl) ?_
    refine lv_iload_n hx hb dX0_weighs_7 rfl (lv_at hl 1 rfl) ?_
    obtain ⟨c_60, s_61, hcl, hsl, hw⟩ := hw
    obtain ⟨a_86, ci_87, fs_88, er, he, hc, hw⟩ := zo_e hw
    obtain rfl := List.mem_singleton.mp hc
    refine zr_callv (zw_runV (As := [.int x1]) hk hH hz hS hl.1 er hw (cwV 1 hts (lw_V q915 q917 qs10 q131 q918) rfl rfl rfl (by decide +kernel) (z_room (Nat.le_of_ble_eq_true rfl))) he rfl rfl rfl (Nat.le_of_ble_eq_true rfl) dX0_weighs_8 ⟨hcl, hsl⟩) hS (fun hp_62 nx_63 hw H locs hH hz hS => ?_)
    refine zr_aload_n (r := some h0) hx hb dX0_weighs_11 rfl (lv_at hl 0 rfl) ?_
    refine zr_aload_n (r := some h0) hx hb dX0_weighs_12 rfl (lv_at hl 0 rfl) ?_
    obtain ⟨a_64, ci_65, fs_66, r_67, er, he, hc, hv, hw⟩ := zgR_e hw
    refine zw_get hk hH er he hv (fk_X0_58 hc) dX0_weighs_13 ?_
    refine lv_iload_n hx hb dX0_weighs_16 rfl (lv_at hl 1 rfl) ?_
    obtain ⟨a_68, n_69, f_70, er, he, hi, hw⟩ := zaR_e hw
    have hw := hw _ rfl
    refine zw_aald hk hH 10 er he rfl rfl hi dX0_weighs_17 ?_
    generalize f_70 x1.toNatClampNeg = r_71 at hw ⊢
    obtain ⟨hcl, hsl, hw⟩ := hw
    obtain ⟨a_83, ci_84, fs_85, er, he, hc, hw⟩ := zo_e hw
    obtain rfl := List.mem_singleton.mp hc
    refine zr_calli (zw_runV (As := [va_rf r_71]) hk hH hz hS hl.1 er hw (cwV 1 hts (lw_V q1164 q1166 qs19 q131 q1167) rfl rfl rfl (by decide +kernel) (z_room (Nat.le_of_ble_eq_true rfl))) he rfl rfl rfl (Nat.le_of_ble_eq_true rfl) dX0_weighs_18 ⟨hcl, hsl⟩) hS (fun x_74 hp_72 nx_73 hw H locs hH hz hS => ?_)
    refine lv_istore_n (i := 2) (lv' := [(2, .int x_74), (0, va_rf (some h0)), (1, .int x1)]) hx hb dX0_weighs_21 rfl hl (by decide) (by first | rfl | simp [List.filter_cons, z_cat, z_catI, z_catJ, z_catF, z_catD]) (fun ls hl => ?_)
    refine zr_aload_n (r := some h0) hx hb dX0_weighs_22 rfl (lv_at hl 1 rfl) ?_
    obtain ⟨a_75, ci_76, fs_77, r_78, er, he, hc, hv, hw⟩ := zgR_e hw
    refine zw_get hk hH er he hv (fk_X0_65 hc) dX0_weighs_23 ?_
    refine lv_iload_n hx hb dX0_weighs_26 rfl (lv_at hl 2 rfl) ?_
    refine lv_iload_n hx hb dX0_weighs_27 rfl (lv_at hl 0 rfl) ?_
    obtain ⟨a_79, n_80, f_81, er, he, hi, hA, hw⟩ := zaI_e hw
    obtain ⟨hp_82, eh⟩ : ∃ y : zHp, y = va_up hp_72 a_79 (some (.inl (g.2.1 0, n_80, .inl (va_up f_81 x1.toNatClampNeg x_74)))) := ⟨_, rfl⟩
    have hw := hw hp_82 eh
    refine zw_iast hk hH hz hS er he hi hA eh dX0_weighs_28 (fun H locs hH hz hS => ?_)
    refine lv_goto (tgt := 75) hx hb dX0_weighs_29 (by decide) ?_
    exact hJ_75 x_74 hp_82 nx_73 (0 + c_60) (0 + s_61) _ _ _ hw (lv_sub hl [1, 2, 0] rfl) hH hz hS
theorem fk_X0_69 {ci : Nat} (h : ci ∈ [0]) : zFk "WhatIfSheet" 69 ci 14 := by
  simp only [List.mem_cons, List.not_mem_nil, or_false] at h
  rcases h with rfl
  · exact ⟨RX0, TX0, 30, rfl, by decide, q1224⟩
theorem fk_X0_354 {ci : Nat} (h : ci ∈ [30]) : zFk "WhatIfSheet" 354 ci 2 := by
  simp only [List.mem_cons, List.not_mem_nil, or_false] at h
  rcases h with rfl
  · exact ⟨RX30, TX30, 3, rfl, by decide, q1946⟩
theorem fk_X0_151 {ci : Nat} (h : ci ∈ [31]) : zFk "WhatIfSheet" 151 ci 0 := by
  simp only [List.mem_cons, List.not_mem_nil, or_false] at h
  rcases h with rfl
  · exact ⟨RX31, TX31, 4, rfl, by decide, q2368⟩
theorem fk_X0_76 {ci : Nat} (h : ci ∈ [0]) : zFk "WhatIfSheet" 76 ci 16 := by
  simp only [List.mem_cons, List.not_mem_nil, or_false] at h
  rcases h with rfl
  · exact ⟨RX0, TX0, 30, rfl, by decide, q1226⟩
theorem fk_X0_171 {ci : Nat} (h : ci ∈ [31]) : zFk "WhatIfSheet" 171 ci 2 := by
  simp only [List.mem_cons, List.not_mem_nil, or_false] at h
  rcases h with rfl
  · exact ⟨RX31, TX31, 4, rfl, by decide, q2372⟩
theorem fk_X0_175 {ci : Nat} (h : ci ∈ [32]) : zFk "WhatIfSheet" 175 ci 0 := by
  simp only [List.mem_cons, List.not_mem_nil, or_false] at h
  rcases h with rfl
  · exact ⟨RX32, TX32, 2, rfl, by decide, q2355⟩
theorem fk_X0_190 {ci : Nat} (h : ci ∈ [31]) : zFk "WhatIfSheet" 190 ci 3 := by
  simp only [List.mem_cons, List.not_mem_nil, or_false] at h
  rcases h with rfl
  · exact ⟨RX31, TX31, 4, rfl, by decide, q2374⟩
def wp_X0_reads (l : Launch) (g : zG) (d : Nat) (mc ms : Nat) (h0 : Nat) (x1 : Int32) (hp : zHp) (nx : Nat) (Post : zHp → Nat → Prop) : Prop :=
  (zgR hp (some h0) [0] 11 fun r_4 =>
  (zaR (g.2.1 10) hp r_4 fun a_5 n_6 f_7 => vp_in x1 n_6 ∧ ∀ r_8 : Option Nat, r_8 = f_7 x1.toNatClampNeg →
  (0 ≤ mc ∧ 0 ≤ ms ∧ zo hp r_8 [34] fun a_325 ci_326 fs_327 => zMt l g yJ0_clear cJ0_clear 1 none d 0 0 (.ref a_325 :: []) hp nx (zQv g fun hp_9 nx_10 =>
  (zgR hp_9 (some h0) [0] 12 fun r_14 =>
  (zaR (g.2.1 10) hp_9 r_14 fun a_15 n_16 f_17 => vp_in x1 n_16 ∧ ∀ r_18 : Option Nat, r_18 = f_17 x1.toNatClampNeg →
  (0 ≤ mc ∧ 0 ≤ ms ∧ zo hp_9 r_18 [34] fun a_322 ci_323 fs_324 => zMt l g yJ0_clear cJ0_clear 1 none d 0 0 (.ref a_322 :: []) hp_9 nx_10 (zQv g fun hp_19 nx_20 =>
  (zgR hp_19 (some h0) [0] 11 fun r_24 =>
  (zaR (g.2.1 10) hp_19 r_24 fun a_25 n_26 f_27 => vp_in x1 n_26 ∧ ∀ r_28 : Option Nat, r_28 = f_27 x1.toNatClampNeg →
  (∃ c_29 s_30 : Nat, 0 + c_29 ≤ mc ∧ 0 + s_30 ≤ ms ∧ zo hp_19 r_28 [34] fun a_319 ci_320 fs_321 => zMt l g yJ0_set cJ0_set 3 none d c_29 s_30 (.ref a_319 :: [.int x1]) hp_19 nx_20 (zQv g fun hp_31 nx_32 =>
  (zgR hp_31 (some h0) [0] 14 fun r_36 =>
  (zaI (g.2.1 0) hp_31 r_36 fun a_37 n_38 f_39 => vp_in x1 n_38 ∧ zB g ≤ a_37 ∧ ∀ hp_40 : zHp, hp_40 = va_up hp_31 a_37 (some (.inl (g.2.1 0, n_38, .inl (va_up f_39 x1.toNatClampNeg (0 : Int32))))) →
  (zgR hp_40 (some h0) [0] 0 fun r_44 =>
  (zaR (g.2.1 7) hp_40 r_44 fun a_45 n_46 f_47 => vp_in x1 n_46 ∧ ∀ r_48 : Option Nat, r_48 = f_47 x1.toNatClampNeg →
  (zgR hp_40 r_48 [2, 6, 7, 8, 9, 10] 1 fun r_52 =>
  ((r_52 = none →
  (zgR hp_40 (some h0) [0] 12 fun r_307 =>
  (zaR (g.2.1 10) hp_40 r_307 fun a_308 n_309 f_310 => vp_in x1 n_309 ∧ ∀ r_311 : Option Nat, r_311 = f_310 x1.toNatClampNeg →
  (∃ c_312 s_313 : Nat, (0 + c_29) + c_312 ≤ mc ∧ (0 + s_30) + s_313 ≤ ms ∧ zo hp_40 r_311 [34] fun a_316 ci_317 fs_318 => zMt l g yJ0_set cJ0_set 3 none d c_312 s_313 (.ref a_316 :: [.int x1]) hp_40 nx_32 (zQv g fun hp_314 nx_315 =>
  (((0 + c_29) + c_312) ≤ mc ∧ ((0 + s_30) + s_313) ≤ ms ∧ Post hp_314 nx_315)))))) ∧
  (¬ r_52 = none →
  (zgR hp_40 (some h0) [0] 14 fun r_56 =>
  (zaI (g.2.1 0) hp_40 r_56 fun a_57 n_58 f_59 => vp_in x1 n_58 ∧ zB g ≤ a_57 ∧ ∀ hp_60 : zHp, hp_60 = va_up hp_40 a_57 (some (.inl (g.2.1 0, n_58, .inl (va_up f_59 x1.toNatClampNeg (1 : Int32))))) →
  (zgR hp_60 r_52 [30] 1 fun r_64 =>
  ((0 + c_29) ≤ mc ∧ (0 + s_30) ≤ ms ∧ zo hp_60 r_64 [34] fun a_301 ci_302 fs_303 => zMt l g yJ0_nextSetBit cJ0_nextSetBit 5 (some .int) d 0 0 (.ref a_301 :: [.int (0 : Int32)]) hp_60 nx_32 (zQi g fun x_67 hp_65 nx_66 =>
  (∃ I_76 : Nat → (Option Nat) → Int32 → zHp → Nat → Nat → Nat → Prop, (∃ n_300, I_76 n_300 r_52 x_67 hp_65 nx_66 (0 + c_29) (0 + s_30)) ∧ ∀ (n_74 : Nat) (r_68 : Option Nat) (x_69 : Int32) (hp_70 : zHp) (nx_71 : Nat) (kc_72 : Nat) (ks_73 : Nat), I_76 n_74 r_68 x_69 hp_70 nx_71 kc_72 ks_73 →
  ((x_69 < 0 →
  (zgR hp_70 r_68 [30] 2 fun r_78 =>
  (∃ c_79 s_80 : Nat, kc_72 + c_79 ≤ mc ∧ ks_73 + s_80 ≤ ms ∧ zo hp_70 r_78 [36] fun a_240 ci_241 fs_242 => zMt l g yJ26_iterator cJ26_iterator 1 (some (.object "java/util/Iterator")) d c_79 s_80 (.ref a_240 :: []) hp_70 nx_71 (zQq g fun r_83 hp_81 nx_82 =>
  (∃ I_132 : Nat → (Option Nat) → (Option Nat) → zHp → Nat → Nat → Nat → Prop, (∃ n_239, I_132 n_239 r_68 r_83 hp_81 nx_82 (kc_72 + c_79) (ks_73 + s_80)) ∧ ∀ (n_90 : Nat) (r_84 : Option Nat) (r_85 : Option Nat) (hp_86 : zHp) (nx_87 : Nat) (kc_88 : Nat) (ks_89 : Nat), I_132 n_90 r_84 r_85 hp_86 nx_87 kc_88 ks_89 →
  (kc_88 ≤ mc ∧ ks_89 ≤ ms ∧ zo hp_86 r_85 [38] fun a_236 ci_237 fs_238 => zMt l g yJ21_hasNext cJ21_hasNext 1 (some .boolean) d 0 0 (.ref a_236 :: []) hp_86 nx_87 (zQi g fun x_93 hp_91 nx_92 =>
  ((x_93 = 0 →
  (kc_88 ≤ mc ∧ ks_89 ≤ ms ∧ Post hp_91 nx_92)) ∧
  (¬ x_93 = 0 →
  (zgR hp_91 (some h0) [0] 1 fun r_97 =>
  (kc_88 ≤ mc ∧ ks_89 ≤ ms ∧ zo hp_91 r_85 [38] fun a_233 ci_234 fs_235 => zMt l g yJ21_next cJ21_next 1 (some (.object "java/lang/Object")) d 0 0 (.ref a_233 :: []) hp_91 nx_92 (zQq g fun r_100 hp_98 nx_99 =>
  (zCa hp_98 r_100 [41] ∧ (kc_88 ≤ mc ∧ ks_89 ≤ ms ∧ zo hp_98 r_100 [41] fun a_230 ci_231 fs_232 => zMt l g yJ15_intValue cJ15_intValue 1 (some .int) d 0 0 (.ref a_230 :: []) hp_98 nx_99 (zQi g fun x_103 hp_101 nx_102 =>
  (zaR (g.2.1 8) hp_101 r_97 fun a_104 n_105 f_106 => vp_in x_103 n_105 ∧ ∀ r_107 : Option Nat, r_107 = f_106 x_103.toNatClampNeg →
  ((r_107 = none →
  (∃ k_229, k_229 < n_90 ∧ I_132 k_229 r_84 r_85 hp_101 nx_102 kc_88 ks_89)) ∧
  (¬ r_107 = none →
  (zgR hp_101 (some h0) [0] 14 fun r_111 =>
  (zaI (g.2.1 0) hp_101 r_111 fun a_112 n_113 f_114 => vp_in x1 n_113 ∧ ∀ x_115 : Int32, x_115 = f_114 x1.toNatClampNeg →
  (zgR hp_101 (some h0) [0] 15 fun r_119 =>
  (zgI hp_101 r_107 [31] 0 fun x_123 =>
  (zaI (g.2.1 0) hp_101 r_119 fun a_124 n_125 f_126 => vp_in x_123 n_125 ∧ ∀ x_127 : Int32, x_127 = f_126 x_123.toNatClampNeg →
  (zaI (g.2.1 0) hp_101 r_111 fun a_128 n_129 f_130 => vp_in x1 n_129 ∧ zB g ≤ a_128 ∧ ∀ hp_131 : zHp, hp_131 = va_up hp_101 a_128 (some (.inl (g.2.1 0, n_129, .inl (va_up f_130 x1.toNatClampNeg (x_115 + x_127))))) →
  (zgR hp_131 (some h0) [0] 16 fun r_135 =>
  (kc_88 ≤ mc ∧ ks_89 ≤ ms ∧ zo hp_131 r_135 [34] fun a_226 ci_227 fs_228 => zMt l g yJ0_clear cJ0_clear 1 none d 0 0 (.ref a_226 :: []) hp_131 nx_102 (zQv g fun hp_136 nx_137 =>
  (zgR hp_136 (some h0) [0] 16 fun r_141 =>
  (zgR hp_136 (some h0) [0] 12 fun r_145 =>
  (zgI hp_136 r_107 [31] 1 fun x_149 =>
  (zaR (g.2.1 10) hp_136 r_145 fun a_150 n_151 f_152 => vp_in x_149 n_151 ∧ ∀ r_153 : Option Nat, r_153 = f_152 x_149.toNatClampNeg →
  (∃ c_154 s_155 : Nat, kc_88 + c_154 ≤ mc ∧ ks_89 + s_155 ≤ ms ∧ zo hp_136 r_141 [34] fun a_223 ci_224 fs_225 => zMt l g yJ0_or cJ0_or 4 none d c_154 s_155 (.ref a_223 :: [va_rf r_153]) hp_136 nx_137 (zQv g fun hp_156 nx_157 =>
  (zgR hp_156 (some h0) [0] 16 fun r_161 =>
  (zgR hp_156 r_107 [31] 2 fun r_165 =>
  (zgI hp_156 r_165 [32] 0 fun x_169 =>
  ((kc_88 + c_154) ≤ mc ∧ (ks_89 + s_155) ≤ ms ∧ zo hp_156 r_161 [34] fun a_220 ci_221 fs_222 => zMt l g yJ0_clear_2 cJ0_clear_2 3 none d 0 0 (.ref a_220 :: [.int x_169]) hp_156 nx_157 (zQv g fun hp_170 nx_171 =>
  (zgR hp_170 r_107 [31] 3 fun r_175 =>
  (∃ P_249 : (Option Nat) → (Option Nat) → (Option Nat) → zHp → Nat → Nat → Nat → Prop, (∀ (r_176 : Option Nat) (r_177 : Option Nat) (r_178 : Option Nat) (hp_179 : zHp) (nx_180 : Nat) (kc_181 : Nat) (ks_182 : Nat), P_249 r_176 r_177 r_178 hp_179 nx_180 kc_181 ks_182 →
  (zgR hp_179 (some h0) [0] 12 fun r_186 =>
  (zaR (g.2.1 10) hp_179 r_186 fun a_187 n_188 f_189 => vp_in x1 n_188 ∧ ∀ r_190 : Option Nat, r_190 = f_189 x1.toNatClampNeg →
  (zgR hp_179 (some h0) [0] 16 fun r_194 =>
  (∃ c_195 s_196 : Nat, kc_181 + c_195 ≤ mc ∧ ks_182 + s_196 ≤ ms ∧ zo hp_179 r_190 [34] fun a_200 ci_201 fs_202 => zMt l g yJ0_or cJ0_or 4 none d c_195 s_196 (.ref a_200 :: [va_rf r_194]) hp_179 nx_180 (zQv g fun hp_197 nx_198 =>
  (∃ k_199, k_199 < n_90 ∧ I_132 k_199 r_176 r_177 hp_197 nx_198 (kc_181 + c_195) (ks_182 + s_196)))))))) ∧
  ((r_175 = none →
  P_249 r_84 r_85 r_107 hp_170 nx_171 (kc_88 + c_154) (ks_89 + s_155)) ∧
  (¬ r_175 = none →
  (zgR hp_170 (some h0) [0] 16 fun r_206 =>
  (zgR hp_170 r_107 [31] 3 fun r_210 =>
  (zgI hp_170 r_210 [32] 0 fun x_214 =>
  ((kc_88 + c_154) ≤ mc ∧ (ks_89 + s_155) ≤ ms ∧ zo hp_170 r_206 [34] fun a_217 ci_218 fs_219 => zMt l g yJ0_clear_2 cJ0_clear_2 3 none d 0 0 (.ref a_217 :: [.int x_214]) hp_170 nx_171 (zQv g fun hp_215 nx_216 =>
  P_249 r_84 r_85 r_107 hp_215 nx_216 (kc_88 + c_154) (ks_89 + s_155)))))))))))))))))))))))))))))))))))))))))))))))) ∧
  (¬ x_69 < 0 →
  (zgR hp_70 (some h0) [0] 11 fun r_246 =>
  (zaR (g.2.1 10) hp_70 r_246 fun a_247 n_248 f_249 => vp_in x1 n_248 ∧ ∀ r_250 : Option Nat, r_250 = f_249 x1.toNatClampNeg →
  (zgR hp_70 (some h0) [0] 11 fun r_254 =>
  (zaR (g.2.1 10) hp_70 r_254 fun a_255 n_256 f_257 => vp_in x_69 n_256 ∧ ∀ r_258 : Option Nat, r_258 = f_257 x_69.toNatClampNeg →
  (∃ c_259 s_260 : Nat, kc_72 + c_259 ≤ mc ∧ ks_73 + s_260 ≤ ms ∧ zo hp_70 r_250 [34] fun a_297 ci_298 fs_299 => zMt l g yJ0_or cJ0_or 4 none d c_259 s_260 (.ref a_297 :: [va_rf r_258]) hp_70 nx_71 (zQv g fun hp_261 nx_262 =>
  (zgR hp_261 (some h0) [0] 12 fun r_266 =>
  (zaR (g.2.1 10) hp_261 r_266 fun a_267 n_268 f_269 => vp_in x1 n_268 ∧ ∀ r_270 : Option Nat, r_270 = f_269 x1.toNatClampNeg →
  (zgR hp_261 (some h0) [0] 12 fun r_274 =>
  (zaR (g.2.1 10) hp_261 r_274 fun a_275 n_276 f_277 => vp_in x_69 n_276 ∧ ∀ r_278 : Option Nat, r_278 = f_277 x_69.toNatClampNeg →
  (∃ c_279 s_280 : Nat, (kc_72 + c_259) + c_279 ≤ mc ∧ (ks_73 + s_260) + s_280 ≤ ms ∧ zo hp_261 r_270 [34] fun a_294 ci_295 fs_296 => zMt l g yJ0_or cJ0_or 4 none d c_279 s_280 (.ref a_294 :: [va_rf r_278]) hp_261 nx_262 (zQv g fun hp_281 nx_282 =>
  (zgR hp_281 r_68 [30] 1 fun r_286 =>
  (((kc_72 + c_259) + c_279) ≤ mc ∧ ((ks_73 + s_260) + s_280) ≤ ms ∧ zo hp_281 r_286 [34] fun a_291 ci_292 fs_293 => zMt l g yJ0_nextSetBit cJ0_nextSetBit 5 (some .int) d 0 0 (.ref a_291 :: [.int (x_69 + (1 : Int32))]) hp_281 nx_282 (zQi g fun x_289 hp_287 nx_288 =>
  (∃ k_290, k_290 < n_74 ∧ I_76 k_290 r_68 x_289 hp_287 nx_288 ((kc_72 + c_259) + c_279) ((ks_73 + s_260) + s_280))))))))))))))))))))))))))))))))))))))))))))
set_option maxHeartbeats 40000000 in
theorem met_X0_reads {l : Launch} {g : zG} {d : Nat} {mc ms : Nat} {h0 : Nat} {x1 : Int32} {hp : zHp} {nx : Nat} {Post : zHp → Nat → Prop} (hw : wp_X0_reads l g d mc ms h0 x1 hp nx Post) : zMt l g yX0_reads cX0_reads 5 none (d + 1) mc ms [.ref h0, .int x1] hp nx (zQv g Post) := by
  refine z_start (by decide) (Nat.le_of_ble_eq_true rfl) ?_
  intro p e s m below meth c hk hr hin hH hz ls hl
  have hx := hk.1.1
  have hb := hk.1.2.1
  have hown := hk.1.2.2.2.1
  have hts := hk.1.2.2.2.2
  have hS : va_S (zAd g) s.heap s.heap [] := va_S.rf
  have hl : lv_has ls 5 [(0, va_rf (some h0)), (1, .int x1)] := hl
  unfold wp_X0_reads at hw
  refine zr_aload_n (r := some h0) hx hb dX0_reads_0 rfl (lv_at hl 0 rfl) ?_
  obtain ⟨a_1, ci_2, fs_3, r_4, er, he, hc, hv, hw⟩ := zgR_e hw
  refine zw_get hk hH er he hv (fk_X0_58 hc) dX0_reads_1 ?_
  refine lv_iload_n hx hb dX0_reads_4 rfl (lv_at hl 1 rfl) ?_
  obtain ⟨a_5, n_6, f_7, er, he, hi, hw⟩ := zaR_e hw
  have hw := hw _ rfl
  refine zw_aald hk hH 10 er he rfl rfl hi dX0_reads_5 ?_
  generalize f_7 x1.toNatClampNeg = r_8 at hw ⊢
  obtain ⟨hcl, hsl, hw⟩ := hw
  obtain ⟨a_325, ci_326, fs_327, er, he, hc, hw⟩ := zo_e hw
  obtain rfl := List.mem_singleton.mp hc
  refine zr_callv (zw_runV (As := []) hk hH hz hS hl.1 er hw (cwV 0 hts (lw_V q919 q920 q921 q133 q922) rfl rfl rfl (by decide +kernel) (z_room (Nat.le_of_ble_eq_true rfl))) he rfl rfl rfl (Nat.le_of_ble_eq_true rfl) dX0_reads_6 ⟨hcl, hsl⟩) hS (fun hp_9 nx_10 hw H locs hH hz hS => ?_)
  refine zr_aload_n (r := some h0) hx hb dX0_reads_9 rfl (lv_at hl 0 rfl) ?_
  obtain ⟨a_11, ci_12, fs_13, r_14, er, he, hc, hv, hw⟩ := zgR_e hw
  refine zw_get hk hH er he hv (fk_X0_62 hc) dX0_reads_10 ?_
  refine lv_iload_n hx hb dX0_reads_13 rfl (lv_at hl 1 rfl) ?_
  obtain ⟨a_15, n_16, f_17, er, he, hi, hw⟩ := zaR_e hw
  have hw := hw _ rfl
  refine zw_aald hk hH 10 er he rfl rfl hi dX0_reads_14 ?_
  generalize f_17 x1.toNatClampNeg = r_18 at hw ⊢
  obtain ⟨hcl, hsl, hw⟩ := hw
  obtain ⟨a_322, ci_323, fs_324, er, he, hc, hw⟩ := zo_e hw
  obtain rfl := List.mem_singleton.mp hc
  refine zr_callv (zw_runV (As := []) hk hH hz hS hl.1 er hw (cwV 0 hts (lw_V q919 q920 q921 q133 q922) rfl rfl rfl (by decide +kernel) (z_room (Nat.le_of_ble_eq_true rfl))) he rfl rfl rfl (Nat.le_of_ble_eq_true rfl) dX0_reads_15 ⟨hcl, hsl⟩) hS (fun hp_19 nx_20 hw H locs hH hz hS => ?_)
  refine zr_aload_n (r := some h0) hx hb dX0_reads_18 rfl (lv_at hl 0 rfl) ?_
  obtain ⟨a_21, ci_22, fs_23, r_24, er, he, hc, hv, hw⟩ := zgR_e hw
  refine zw_get hk hH er he hv (fk_X0_58 hc) dX0_reads_19 ?_
  refine lv_iload_n hx hb dX0_reads_22 rfl (lv_at hl 1 rfl) ?_
  obtain ⟨a_25, n_26, f_27, er, he, hi, hw⟩ := zaR_e hw
  have hw := hw _ rfl
  refine zw_aald hk hH 10 er he rfl rfl hi dX0_reads_23 ?_
  generalize f_27 x1.toNatClampNeg = r_28 at hw ⊢
  refine lv_iload_n hx hb dX0_reads_24 rfl (lv_at hl 1 rfl) ?_
  obtain ⟨c_29, s_30, hcl, hsl, hw⟩ := hw
  obtain ⟨a_319, ci_320, fs_321, er, he, hc, hw⟩ := zo_e hw
  obtain rfl := List.mem_singleton.mp hc
  refine zr_callv (zw_runV (As := [.int x1]) hk hH hz hS hl.1 er hw (cwV 1 hts (lw_V q923 q924 q925 q133 q926) rfl rfl rfl (by decide +kernel) (z_room (Nat.le_of_ble_eq_true rfl))) he rfl rfl rfl (Nat.le_of_ble_eq_true rfl) dX0_reads_25 ⟨hcl, hsl⟩) hS (fun hp_31 nx_32 hw H locs hH hz hS => ?_)
  refine zr_aload_n (r := some h0) hx hb dX0_reads_28 rfl (lv_at hl 0 rfl) ?_
  obtain ⟨a_33, ci_34, fs_35, r_36, er, he, hc, hv, hw⟩ := zgR_e hw
  refine zw_get hk hH er he hv (fk_X0_69 hc) dX0_reads_29 ?_
  refine lv_iload_n hx hb dX0_reads_32 rfl (lv_at hl 1 rfl) ?_
  refine lv_iconst (v := (0 : Int32)) hx hb dX0_reads_33 (by decide) ?_
  obtain ⟨a_37, n_38, f_39, er, he, hi, hA, hw⟩ := zaI_e hw
  obtain ⟨hp_40, eh⟩ : ∃ y : zHp, y = va_up hp_31 a_37 (some (.inl (g.2.1 0, n_38, .inl (va_up f_39 x1.toNatClampNeg (0 : Int32))))) := ⟨_, rfl⟩
  have hw := hw hp_40 eh
  refine zw_iast hk hH hz hS er he hi hA eh dX0_reads_34 (fun H locs hH hz hS => ?_)
  refine zr_aload_n (r := some h0) hx hb dX0_reads_35 rfl (lv_at hl 0 rfl) ?_
  obtain ⟨a_41, ci_42, fs_43, r_44, er, he, hc, hv, hw⟩ := zgR_e hw
  refine zw_get hk hH er he hv (fk_X0_31 hc) dX0_reads_36 ?_
  refine lv_iload_n hx hb dX0_reads_39 rfl (lv_at hl 1 rfl) ?_
  obtain ⟨a_45, n_46, f_47, er, he, hi, hw⟩ := zaR_e hw
  have hw := hw _ rfl
  refine zw_aald hk hH 7 er he rfl rfl hi dX0_reads_40 ?_
  generalize f_47 x1.toNatClampNeg = r_48 at hw ⊢
  obtain ⟨a_49, ci_50, fs_51, r_52, er, he, hc, hv, hw⟩ := zgR_e hw
  refine zw_get hk hH er he hv (fk_X0_239 hc) dX0_reads_41 ?_
  refine zr_astore_n (r := r_52) (i := 2) (lv' := [(2, va_rf r_52), (0, va_rf (some h0)), (1, .int x1)]) hx hb dX0_reads_44 rfl hl (by decide) (by first | rfl | simp [List.filter_cons, z_cat, z_catI, z_catJ, z_catF, z_catD]) (fun ls hl => ?_)
  refine zr_aload_n (r := r_52) hx hb dX0_reads_45 rfl (lv_at hl 0 rfl) ?_
  refine zr_ifnonnull (r := r_52) (tgt := 60) hx hb dX0_reads_46 (by decide) (fun hc => ?_) (fun hc => ?_)
  · have hw := hw.2 hc
    refine zr_aload_n (r := some h0) hx hb dX0_reads_60 rfl (lv_at hl 1 rfl) ?_
    obtain ⟨a_53, ci_54, fs_55, r_56, er, he, hc, hv, hw⟩ := zgR_e hw
    refine zw_get hk hH er he hv (fk_X0_69 hc) dX0_reads_61 ?_
    refine lv_iload_n hx hb dX0_reads_64 rfl (lv_at hl 2 rfl) ?_
    refine lv_iconst (v := (1 : Int32)) hx hb dX0_reads_65 (by decide) ?_
    obtain ⟨a_57, n_58, f_59, er, he, hi, hA, hw⟩ := zaI_e hw
    obtain ⟨hp_60, eh⟩ : ∃ y : zHp, y = va_up hp_40 a_57 (some (.inl (g.2.1 0, n_58, .inl (va_up f_59 x1.toNatClampNeg (1 : Int32))))) := ⟨_, rfl⟩
    have hw := hw hp_60 eh
    refine zw_iast hk hH hz hS er he hi hA eh dX0_reads_66 (fun H locs hH hz hS => ?_)
    refine zr_aload_n (r := r_52) hx hb dX0_reads_67 rfl (lv_at hl 0 rfl) ?_
    obtain ⟨a_61, ci_62, fs_63, r_64, er, he, hc, hv, hw⟩ := zgR_e hw
    refine zw_get hk hH er he hv (fk_X0_297 hc) dX0_reads_68 ?_
    refine lv_iconst (v := (0 : Int32)) hx hb dX0_reads_71 (by decide) ?_
    obtain ⟨hcl, hsl, hw⟩ := hw
    obtain ⟨a_301, ci_302, fs_303, er, he, hc, hw⟩ := zo_e hw
    obtain rfl := List.mem_singleton.mp hc
    refine zr_calli (zw_runV (As := [.int (0 : Int32)]) hk hH hz hS hl.1 er hw (cwV 1 hts (lw_V q944 q945 q946 q133 q947) rfl rfl rfl (by decide +kernel) (z_room (Nat.le_of_ble_eq_true rfl))) he rfl rfl rfl (Nat.le_of_ble_eq_true rfl) dX0_reads_72 ⟨hcl, hsl⟩) hS (fun x_67 hp_65 nx_66 hw H locs hH hz hS => ?_)
    refine lv_istore_n (i := 3) (lv' := [(3, .int x_67), (2, va_rf r_52), (0, va_rf (some h0)), (1, .int x1)]) hx hb dX0_reads_75 rfl hl (by decide) (by first | rfl | simp [List.filter_cons, z_cat, z_catI, z_catJ, z_catF, z_catD]) (fun ls hl => ?_)
    obtain ⟨I_76, ⟨n_300, hI⟩, hB_76⟩ := hw
    have hL_76 : ∀ (n_74 : Nat) (r_68 : Option Nat) (x_69 : Int32) (hp_70 : zHp) (nx_71 : Nat) (kc_72 : Nat) (ks_73 : Nat) (H : Heap) (locs : List Loc) (ls : Array Slot), I_76 n_74 r_68 x_69 hp_70 nx_71 kc_72 ks_73 → lv_has ls 5 [(0, va_rf (some h0)), (1, .int x1), (2, va_rf r_68), (3, .int x_69)] → zHd g hp_70 H → H.size = nx_71 → va_S (zAd g) s.heap H locs → W p l e (zrm (d + 1) mc ms) s m ([.ref h0, .int x1] : List Value).toArray below meth c H locs kc_72 ks_73 (MQ below (zQv g Post) ([.ref h0, .int x1] : List Value).toArray s mc ms (zAd g)) (F0 m 76 ls []) := by
      intro n_74
      induction n_74 using Nat.strongRecOn with
      | _ n_74 ih_76 =>
        intro r_68 x_69 hp_70 nx_71 kc_72 ks_73 H locs ls hw hl hH hz hS
        have hw := hB_76 n_74 r_68 x_69 hp_70 nx_71 kc_72 ks_73 hw
        refine lv_iload_n hx hb dX0_reads_76 rfl (lv_at hl 3 rfl) ?_
        refine lv_if_lt (tgt := 124) hx hb dX0_reads_77 (by decide) (fun hc => ?_) (fun hc => ?_)
        · have hw := hw.1 hc
          refine zr_aload_n (r := r_68) hx hb dX0_reads_124 rfl (lv_at hl 2 rfl) ?_
          obtain ⟨a_75, ci_76, fs_77, r_78, er, he, hc, hv, hw⟩ := zgR_e hw
          refine zw_get hk hH er he hv (fk_X0_354 hc) dX0_reads_125 ?_
          obtain ⟨c_79, s_80, hcl, hsl, hw⟩ := hw
          obtain ⟨a_240, ci_241, fs_242, er, he, hc, hw⟩ := zo_e hw
          obtain rfl := List.mem_singleton.mp hc
          refine zr_callq (zw_runU (As := []) hk hH hz hS hl.1 er hw (va_cwU 0 hts (z_U q963 q964 q966 q967 q172 q968) rfl rfl rfl rfl (by decide +kernel) (z_room (Nat.le_of_ble_eq_true rfl))) he rfl rfl rfl (Nat.le_of_ble_eq_true rfl) dX0_reads_128 ⟨hcl, hsl⟩) hS (fun r_83 hp_81 nx_82 hw H locs hH hz hS => ?_)
          refine zr_astore_n (r := r_83) (i := 3) (lv' := [(3, va_rf r_83), (0, va_rf (some h0)), (1, .int x1), (2, va_rf r_68)]) hx hb dX0_reads_131 rfl hl (by decide) (by first | rfl | simp [List.filter_cons, z_cat, z_catI, z_catJ, z_catF, z_catD]) (fun ls hl => ?_)
          obtain ⟨I_132, ⟨n_239, hI⟩, hB_132⟩ := hw
          have hL_132 : ∀ (n_90 : Nat) (r_84 : Option Nat) (r_85 : Option Nat) (hp_86 : zHp) (nx_87 : Nat) (kc_88 : Nat) (ks_89 : Nat) (H : Heap) (locs : List Loc) (ls : Array Slot), I_132 n_90 r_84 r_85 hp_86 nx_87 kc_88 ks_89 → lv_has ls 5 [(0, va_rf (some h0)), (1, .int x1), (2, va_rf r_84), (3, va_rf r_85)] → zHd g hp_86 H → H.size = nx_87 → va_S (zAd g) s.heap H locs → W p l e (zrm (d + 1) mc ms) s m ([.ref h0, .int x1] : List Value).toArray below meth c H locs kc_88 ks_89 (MQ below (zQv g Post) ([.ref h0, .int x1] : List Value).toArray s mc ms (zAd g)) (F0 m 132 ls []) := by
            intro n_90
            induction n_90 using Nat.strongRecOn with
            | _ n_90 ih_132 =>
              intro r_84 r_85 hp_86 nx_87 kc_88 ks_89 H locs ls hw hl hH hz hS
              have hw := hB_132 n_90 r_84 r_85 hp_86 nx_87 kc_88 ks_89 hw
              refine zr_aload_n (r := r_85) hx hb dX0_reads_132 rfl (lv_at hl 3 rfl) ?_
              obtain ⟨hcl, hsl, hw⟩ := hw
              obtain ⟨a_236, ci_237, fs_238, er, he, hc, hw⟩ := zo_e hw
              obtain rfl := List.mem_singleton.mp hc
              refine zr_callFi (zw_runF (As := []) hk hH hz hS hl.1 er hw (va_cwF 0 hts (z_F q1031 q1047 q1049 q159 q1051) rfl rfl rfl (hk.2.2.1.2.2.2.2.1 _ (List.mem_cons_self ..)) (by decide +kernel) (z_room (Nat.le_of_ble_eq_true rfl))) he rfl rfl rfl (Nat.le_of_ble_eq_true rfl) dX0_reads_133 ⟨hcl, hsl⟩) hS (fun x_93 hp_91 nx_92 hw H locs hH hz hS => ?_)
              refine lv_if_eq (tgt := 265) hx hb dX0_reads_138 (by decide) (fun hc => ?_) (fun hc => ?_)
              · have hw := hw.1 hc
                obtain ⟨hkc, hks, hw⟩ := hw
                exact zr_vret hk hr hH hz hS hw hkc hks dX0_reads_265
              · have hw := hw.2 hc
                refine zr_aload_n (r := some h0) hx hb dX0_reads_141 rfl (lv_at hl 0 rfl) ?_
                obtain ⟨a_94, ci_95, fs_96, r_97, er, he, hc, hv, hw⟩ := zgR_e hw
                refine zw_get hk hH er he hv (fk_X0_37 hc) dX0_reads_142 ?_
                refine zr_aload_n (r := r_85) hx hb dX0_reads_145 rfl (lv_at hl 3 rfl) ?_
                obtain ⟨hcl, hsl, hw⟩ := hw
                obtain ⟨a_233, ci_234, fs_235, er, he, hc, hw⟩ := zo_e hw
                obtain rfl := List.mem_singleton.mp hc
                refine zr_callFq (zw_runF (As := []) hk hH hz hS hl.1 er hw (va_cwF 0 hts (z_F q1053 q1146 q1148 q159 q1150) rfl rfl rfl (hk.2.2.1.2.2.2.2.1 _ (List.mem_cons_of_mem _ (List.mem_cons_self ..))) (by decide +kernel) (z_room (Nat.le_of_ble_eq_true rfl))) he rfl rfl rfl (by simp only [List.map_cons, List.map_nil, z_cat]; exact Nat.le_of_ble_eq_true rfl) dX0_reads_146 ⟨hcl, hsl⟩) hS (fun r_100 hp_98 nx_99 hw H locs hH hz hS => ?_)
                obtain ⟨hca, hw⟩ := hw
                refine zw_cast (r := r_100) hk hH q909 hca cw_java_lang_Integer dX0_reads_151 ?_
                obtain ⟨hcl, hsl, hw⟩ := hw
                obtain ⟨a_230, ci_231, fs_232, er, he, hc, hw⟩ := zo_e hw
                obtain rfl := List.mem_singleton.mp hc
                refine zr_calli (zw_runV (As := []) hk hH hz hS hl.1 er hw (cwV 0 hts (lw_V q910 q806 q807 q149 q808) rfl rfl rfl (by decide +kernel) (z_room (Nat.le_of_ble_eq_true rfl))) he rfl rfl rfl (by simp only [List.map_cons, List.map_nil, z_cat]; exact Nat.le_of_ble_eq_true rfl) dX0_reads_154 ⟨hcl, hsl⟩) hS (fun x_103 hp_101 nx_102 hw H locs hH hz hS => ?_)
                obtain ⟨a_104, n_105, f_106, er, he, hi, hw⟩ := zaR_e hw
                have hw := hw _ rfl
                refine zw_aald hk hH 8 er he rfl rfl hi dX0_reads_157 ?_
                generalize f_106 x_103.toNatClampNeg = r_107 at hw ⊢
                refine zr_astore (r := r_107) (lv' := [(4, va_rf r_107), (0, va_rf (some h0)), (1, .int x1), (2, va_rf r_84), (3, va_rf r_85)]) hx hb dX0_reads_158 hl (by decide) (by first | rfl | simp [List.filter_cons, z_cat, z_catI, z_catJ, z_catF, z_catD]) (fun ls hl => ?_)
                refine zr_aload (r := r_107) hx hb dX0_reads_160 (lv_at hl 0 rfl) ?_
                refine zr_ifnonnull (r := r_107) (tgt := 168) hx hb dX0_reads_162 (by decide) (fun hc => ?_) (fun hc => ?_)
                · have hw := hw.2 hc
                  refine zr_aload_n (r := some h0) hx hb dX0_reads_168 rfl (lv_at hl 1 rfl) ?_
                  obtain ⟨a_108, ci_109, fs_110, r_111, er, he, hc, hv, hw⟩ := zgR_e hw
                  refine zw_get hk hH er he hv (fk_X0_69 hc) dX0_reads_169 ?_
                  refine lv_iload_n hx hb dX0_reads_172 rfl (lv_at hl 2 rfl) ?_
                  refine lv_dup2_11 hx hb dX0_reads_173 rfl (z_cat _) ?_
                  obtain ⟨a_112, n_113, f_114, er, he, hi, hw⟩ := zaI_e hw
                  have hw := hw _ rfl
                  refine zw_iald hk hH er he hi dX0_reads_174 ?_
                  generalize f_114 x1.toNatClampNeg = x_115 at hw ⊢
                  refine zr_aload_n (r := some h0) hx hb dX0_reads_175 rfl (lv_at hl 1 rfl) ?_
                  obtain ⟨a_116, ci_117, fs_118, r_119, er, he, hc, hv, hw⟩ := zgR_e hw
                  refine zw_get hk hH er he hv (fk_X0_72 hc) dX0_reads_176 ?_
                  refine zr_aload (r := r_107) hx hb dX0_reads_179 (lv_at hl 0 rfl) ?_
                  obtain ⟨a_120, ci_121, fs_122, x_123, er, he, hc, hv, hw⟩ := zgI_e hw
                  refine zw_get hk hH er he hv (fk_X0_151 hc) dX0_reads_181 ?_
                  obtain ⟨a_124, n_125, f_126, er, he, hi, hw⟩ := zaI_e hw
                  have hw := hw _ rfl
                  refine zw_iald hk hH er he hi dX0_reads_184 ?_
                  generalize f_126 x_123.toNatClampNeg = x_127 at hw ⊢
                  refine lv_iadd hx hb dX0_reads_185 ?_
                  obtain ⟨a_128, n_129, f_130, er, he, hi, hA, hw⟩ := zaI_e hw
                  obtain ⟨hp_131, eh⟩ : ∃ y : zHp, y = va_up hp_101 a_128 (some (.inl (g.2.1 0, n_129, .inl (va_up f_130 x1.toNatClampNeg (x_115 + x_127))))) := ⟨_, rfl⟩
                  have hw := hw hp_131 eh
                  refine zw_iast hk hH hz hS er he hi hA eh dX0_reads_186 (fun H locs hH hz hS => ?_)
                  refine zr_aload_n (r := some h0) hx hb dX0_reads_187 rfl (lv_at hl 1 rfl) ?_
                  obtain ⟨a_132, ci_133, fs_134, r_135, er, he, hc, hv, hw⟩ := zgR_e hw
                  refine zw_get hk hH er he hv (fk_X0_76 hc) dX0_reads_188 ?_
                  obtain ⟨hcl, hsl, hw⟩ := hw
                  obtain ⟨a_226, ci_227, fs_228, er, he, hc, hw⟩ := zo_e hw
                  obtain rfl := List.mem_singleton.mp hc
                  refine zr_callv (zw_runV (As := []) hk hH hz hS hl.1 er hw (cwV 0 hts (lw_V q919 q920 q921 q133 q922) rfl rfl rfl (by decide +kernel) (z_room (Nat.le_of_ble_eq_true rfl))) he rfl rfl rfl (Nat.le_of_ble_eq_true rfl) dX0_reads_191 ⟨hcl, hsl⟩) hS (fun hp_136 nx_137 hw H locs hH hz hS => ?_)
                  refine zr_aload_n (r := some h0) hx hb dX0_reads_194 rfl (lv_at hl 1 rfl) ?_
                  obtain ⟨a_138, ci_139, fs_140, r_141, er, he, hc, hv, hw⟩ := zgR_e hw
                  refine zw_get hk hH er he hv (fk_X0_76 hc) dX0_reads_195 ?_
                  refine zr_aload_n (r := some h0) hx hb dX0_reads_198 rfl (lv_at hl 1 rfl) ?_
                  obtain ⟨a_142, ci_143, fs_144, r_145, er, he, hc, hv, hw⟩ := zgR_e hw
                  refine zw_get hk hH er he hv (fk_X0_62 hc) dX0_reads_199 ?_
                  refine zr_aload (r := r_107) hx hb dX0_reads_202 (lv_at hl 0 rfl) ?_
                  obtain ⟨a_146, ci_147, fs_148, x_149, er, he, hc, hv, hw⟩ := zgI_e hw
                  refine zw_get hk hH er he hv (fk_X0_269 hc) dX0_reads_204 ?_
                  obtain ⟨a_150, n_151, f_152, er, he, hi, hw⟩ := zaR_e hw
                  have hw := hw _ rfl
                  refine zw_aald hk hH 10 er he rfl rfl hi dX0_reads_207 ?_
                  generalize f_152 x_149.toNatClampNeg = r_153 at hw ⊢
                  obtain ⟨c_154, s_155, hcl, hsl, hw⟩ := hw
                  obtain ⟨a_223, ci_224, fs_225, er, he, hc, hw⟩ := zo_e hw
                  obtain rfl := List.mem_singleton.mp hc
                  refine zr_callv (zw_runV (As := [va_rf r_153]) hk hH hz hS hl.1 er hw (cwV 1 hts (lw_V q957 q958 q959 q133 q960) rfl rfl rfl (by decide +kernel) (z_room (Nat.le_of_ble_eq_true rfl))) he rfl rfl rfl (Nat.le_of_ble_eq_true rfl) dX0_reads_208 ⟨hcl, hsl⟩) hS (fun hp_156 nx_157 hw H locs hH hz hS => ?_)
                  refine zr_aload_n (r := some h0) hx hb dX0_reads_211 rfl (lv_at hl 1 rfl) ?_
                  obtain ⟨a_158, ci_159, fs_160, r_161, er, he, hc, hv, hw⟩ := zgR_e hw
                  refine zw_get hk hH er he hv (fk_X0_76 hc) dX0_reads_212 ?_
                  refine zr_aload (r := r_107) hx hb dX0_reads_215 (lv_at hl 0 rfl) ?_
                  obtain ⟨a_162, ci_163, fs_164, r_165, er, he, hc, hv, hw⟩ := zgR_e hw
                  refine zw_get hk hH er he hv (fk_X0_171 hc) dX0_reads_217 ?_
                  obtain ⟨a_166, ci_167, fs_168, x_169, er, he, hc, hv, hw⟩ := zgI_e hw
                  refine zw_get hk hH er he hv (fk_X0_175 hc) dX0_reads_220 ?_
                  obtain ⟨hcl, hsl, hw⟩ := hw
                  obtain ⟨a_220, ci_221, fs_222, er, he, hc, hw⟩ := zo_e hw
                  obtain rfl := List.mem_singleton.mp hc
                  refine zr_callv (zw_runV (As := [.int x_169]) hk hH hz hS hl.1 er hw (cwV 1 hts (lw_V q1156 q1157 q1158 q133 q1159) rfl rfl rfl (by decide +kernel) (z_room (Nat.le_of_ble_eq_true rfl))) he rfl rfl rfl (Nat.le_of_ble_eq_true rfl) dX0_reads_223 ⟨hcl, hsl⟩) hS (fun hp_170 nx_171 hw H locs hH hz hS => ?_)
                  refine zr_aload (r := r_107) hx hb dX0_reads_226 (lv_at hl 0 rfl) ?_
                  obtain ⟨a_172, ci_173, fs_174, r_175, er, he, hc, hv, hw⟩ := zgR_e hw
                  refine zw_get hk hH er he hv (fk_X0_190 hc) dX0_reads_228 ?_
                  obtain ⟨P_249, hP_249, hw⟩ := hw
                  have hJ_249 : ∀ (r_176 : Option Nat) (r_177 : Option Nat) (r_178 : Option Nat) (hp_179 : zHp) (nx_180 : Nat) (kc_181 : Nat) (ks_182 : Nat) (H : Heap) (locs : List Loc) (ls : Array Slot), P_249 r_176 r_177 r_178 hp_179 nx_180 kc_181 ks_182 → lv_has ls 5 [(0, va_rf (some h0)), (1, .int x1), (2, va_rf r_176), (3, va_rf r_177), (4, va_rf r_178)] → zHd g hp_179 H → H.size = nx_180 → va_S (zAd g) s.heap H locs → W p l e (zrm (d + 1) mc ms) s m ([.ref h0, .int x1] : List Value).toArray below meth c H locs kc_181 ks_182 (MQ below (zQv g Post) ([.ref h0, .int x1] : List Value).toArray s mc ms (zAd g)) (F0 m 249 ls []) := by
                    intro r_176 r_177 r_178 hp_179 nx_180 kc_181 ks_182 H locs ls hw hl hH hz hS
                    have hw := hP_249 r_176 r_177 r_178 hp_179 nx_180 kc_181 ks_182 hw
                    refine zr_aload_n (r := some h0) hx hb dX0_reads_249 rfl (lv_at hl 0 rfl) ?_
                    obtain ⟨a_183, ci_184, fs_185, r_186, er, he, hc, hv, hw⟩ := zgR_e hw
                    refine zw_get hk hH er he hv (fk_X0_62 hc) dX0_reads_250 ?_
                    refine lv_iload_n hx hb dX0_reads_253 rfl (lv_at hl 1 rfl) ?_
                    obtain ⟨a_187, n_188, f_189, er, he, hi, hw⟩ := zaR_e hw
                    have hw := hw _ rfl
                    refine zw_aald hk hH 10 er he rfl rfl hi dX0_reads_254 ?_
                    generalize f_189 x1.toNatClampNeg = r_190 at hw ⊢
                    refine zr_aload_n (r := some h0) hx hb dX0_reads_255 rfl (lv_at hl 0 rfl) ?_
                    obtain ⟨a_191, ci_192, fs_193, r_194, er, he, hc, hv, hw⟩ := zgR_e hw
                    refine zw_get hk hH er he hv (fk_X0_76 hc) dX0_reads_256 ?_
                    obtain ⟨c_195, s_196, hcl, hsl, hw⟩ := hw
                    obtain ⟨a_200, ci_201, fs_202, er, he, hc, hw⟩ := zo_e hw
                    obtain rfl := List.mem_singleton.mp hc
                    refine zr_callv (zw_runV (As := [va_rf r_194]) hk hH hz hS hl.1 er hw (cwV 1 hts (lw_V q957 q958 q959 q133 q960) rfl rfl rfl (by decide +kernel) (z_room (Nat.le_of_ble_eq_true rfl))) he rfl rfl rfl (Nat.le_of_ble_eq_true rfl) dX0_reads_259 ⟨hcl, hsl⟩) hS (fun hp_197 nx_198 hw H locs hH hz hS => ?_)
                    refine lv_goto (tgt := 132) hx hb dX0_reads_262 (by decide) ?_
                    obtain ⟨k_199, hlt, hw⟩ := hw
                    exact ih_132 k_199 hlt r_176 r_177 hp_197 nx_198 (kc_181 + c_195) (ks_182 + s_196) _ _ _ hw (lv_sub hl [0, 1, 2, 3] rfl) hH hz hS
                  refine zr_ifnull (r := r_175) (tgt := 249) hx hb dX0_reads_231 (by decide) (fun hc => ?_) (fun hc => ?_)
                  · have hw := hw.1 hc
                    exact hJ_249 r_84 r_85 r_107 hp_170 nx_171 (kc_88 + c_154) (ks_89 + s_155) _ _ _ hw (lv_sub hl [1, 2, 3, 4, 0] rfl) hH hz hS
                  · have hw := hw.2 hc
                    refine zr_aload_n (r := some h0) hx hb dX0_reads_234 rfl (lv_at hl 1 rfl) ?_
                    obtain ⟨a_203, ci_204, fs_205, r_206, er, he, hc, hv, hw⟩ := zgR_e hw
                    refine zw_get hk hH er he hv (fk_X0_76 hc) dX0_reads_235 ?_
                    refine zr_aload (r := r_107) hx hb dX0_reads_238 (lv_at hl 0 rfl) ?_
                    obtain ⟨a_207, ci_208, fs_209, r_210, er, he, hc, hv, hw⟩ := zgR_e hw
                    refine zw_get hk hH er he hv (fk_X0_190 hc) dX0_reads_240 ?_
                    obtain ⟨a_211, ci_212, fs_213, x_214, er, he, hc, hv, hw⟩ := zgI_e hw
                    refine zw_get hk hH er he hv (fk_X0_175 hc) dX0_reads_243 ?_
                    obtain ⟨hcl, hsl, hw⟩ := hw
                    obtain ⟨a_217, ci_218, fs_219, er, he, hc, hw⟩ := zo_e hw
                    obtain rfl := List.mem_singleton.mp hc
                    refine zr_callv (zw_runV (As := [.int x_214]) hk hH hz hS hl.1 er hw (cwV 1 hts (lw_V q1156 q1157 q1158 q133 q1159) rfl rfl rfl (by decide +kernel) (z_room (Nat.le_of_ble_eq_true rfl))) he rfl rfl rfl (Nat.le_of_ble_eq_true rfl) dX0_reads_246 ⟨hcl, hsl⟩) hS (fun hp_215 nx_216 hw H locs hH hz hS => ?_)
                    exact hJ_249 r_84 r_85 r_107 hp_215 nx_216 (kc_88 + c_154) (ks_89 + s_155) _ _ _ hw (lv_sub hl [1, 2, 3, 4, 0] rfl) hH hz hS
                · have hw := hw.1 hc
                  refine lv_goto (tgt := 132) hx hb dX0_reads_165 (by decide) ?_
                  obtain ⟨k_229, hlt, hw⟩ := hw
                  exact ih_132 k_229 hlt r_84 r_85 hp_101 nx_102 kc_88 ks_89 _ _ _ hw (lv_sub hl [1, 2, 3, 4] rfl) hH hz hS
          exact hL_132 n_239 r_68 r_83 hp_81 nx_82 (kc_72 + c_79) (ks_73 + s_80) _ _ _ hI (lv_sub hl [1, 2, 3, 0] rfl) hH hz hS
        · have hw := hw.2 hc
          refine zr_aload_n (r := some h0) hx hb dX0_reads_80 rfl (lv_at hl 0 rfl) ?_
          obtain ⟨a_243, ci_244, fs_245, r_246, er, he, hc, hv, hw⟩ := zgR_e hw
          refine zw_get hk hH er he hv (fk_X0_58 hc) dX0_reads_81 ?_
          refine lv_iload_n hx hb dX0_reads_84 rfl (lv_at hl 1 rfl) ?_
          obtain ⟨a_247, n_248, f_249, er, he, hi, hw⟩ := zaR_e hw
          have hw := hw _ rfl
          refine zw_aald hk hH 10 er he rfl rfl hi dX0_reads_85 ?_
          generalize f_249 x1.toNatClampNeg = r_250 at hw ⊢
          refine zr_aload_n (r := some h0) hx hb dX0_reads_86 rfl (lv_at hl 0 rfl) ?_
          obtain ⟨a_251, ci_252, fs_253, r_254, er, he, hc, hv, hw⟩ := zgR_e hw
          refine zw_get hk hH er he hv (fk_X0_58 hc) dX0_reads_87 ?_
          refine lv_iload_n hx hb dX0_reads_90 rfl (lv_at hl 3 rfl) ?_
          obtain ⟨a_255, n_256, f_257, er, he, hi, hw⟩ := zaR_e hw
          have hw := hw _ rfl
          refine zw_aald hk hH 10 er he rfl rfl hi dX0_reads_91 ?_
          generalize f_257 x_69.toNatClampNeg = r_258 at hw ⊢
          obtain ⟨c_259, s_260, hcl, hsl, hw⟩ := hw
          obtain ⟨a_297, ci_298, fs_299, er, he, hc, hw⟩ := zo_e hw
          obtain rfl := List.mem_singleton.mp hc
          refine zr_callv (zw_runV (As := [va_rf r_258]) hk hH hz hS hl.1 er hw (cwV 1 hts (lw_V q957 q958 q959 q133 q960) rfl rfl rfl (by decide +kernel) (z_room (Nat.le_of_ble_eq_true rfl))) he rfl rfl rfl (Nat.le_of_ble_eq_true rfl) dX0_reads_92 ⟨hcl, hsl⟩) hS (fun hp_261 nx_262 hw H locs hH hz hS => ?_)
          refine zr_aload_n (r := some h0) hx hb dX0_reads_95 rfl (lv_at hl 0 rfl) ?_
          obtain ⟨a_263, ci_264, fs_265, r_266, er, he, hc, hv, hw⟩ := zgR_e hw
          refine zw_get hk hH er he hv (fk_X0_62 hc) dX0_reads_96 ?_
          refine lv_iload_n hx hb dX0_reads_99 rfl (lv_at hl 1 rfl) ?_
          obtain ⟨a_267, n_268, f_269, er, he, hi, hw⟩ := zaR_e hw
          have hw := hw _ rfl
          refine zw_aald hk hH 10 er he rfl rfl hi dX0_reads_100 ?_
          generalize f_269 x1.toNatClampNeg = r_270 at hw ⊢
          refine zr_aload_n (r := some h0) hx hb dX0_reads_101 rfl (lv_at hl 0 rfl) ?_
          obtain ⟨a_271, ci_272, fs_273, r_274, er, he, hc, hv, hw⟩ := zgR_e hw
          refine zw_get hk hH er he hv (fk_X0_62 hc) dX0_reads_102 ?_
          refine lv_iload_n hx hb dX0_reads_105 rfl (lv_at hl 3 rfl) ?_
          obtain ⟨a_275, n_276, f_277, er, he, hi, hw⟩ := zaR_e hw
          have hw := hw _ rfl
          refine zw_aald hk hH 10 er he rfl rfl hi dX0_reads_106 ?_
          generalize f_277 x_69.toNatClampNeg = r_278 at hw ⊢
          obtain ⟨c_279, s_280, hcl, hsl, hw⟩ := hw
          obtain ⟨a_294, ci_295, fs_296, er, he, hc, hw⟩ := zo_e hw
          obtain rfl := List.mem_singleton.mp hc
          refine zr_callv (zw_runV (As := [va_rf r_278]) hk hH hz hS hl.1 er hw (cwV 1 hts (lw_V q957 q958 q959 q133 q960) rfl rfl rfl (by decide +kernel) (z_room (Nat.le_of_ble_eq_true rfl))) he rfl rfl rfl (Nat.le_of_ble_eq_true rfl) dX0_reads_107 ⟨hcl, hsl⟩) hS (fun hp_281 nx_282 hw H locs hH hz hS => ?_)
          refine zr_aload_n (r := r_68) hx hb dX0_reads_110 rfl (lv_at hl 2 rfl) ?_
          obtain ⟨a_283, ci_284, fs_285, r_286, er, he, hc, hv, hw⟩ := zgR_e hw
          refine zw_get hk hH er he hv (fk_X0_297 hc) dX0_reads_111 ?_
          refine lv_iload_n hx hb dX0_reads_114 rfl (lv_at hl 3 rfl) ?_
          refine lv_iconst (v := (1 : Int32)) hx hb dX0_reads_115 (by decide) ?_
          refine lv_iadd hx hb dX0_reads_116 ?_
          obtain ⟨hcl, hsl, hw⟩ := hw
          obtain ⟨a_291, ci_292, fs_293, er, he, hc, hw⟩ := zo_e hw
          obtain rfl := List.mem_singleton.mp hc
          refine zr_calli (zw_runV (As := [.int (x_69 + (1 : Int32))]) hk hH hz hS hl.1 er hw (cwV 1 hts (lw_V q944 q945 q946 q133 q947) rfl rfl rfl (by decide +kernel) (z_room (Nat.le_of_ble_eq_true rfl))) he rfl rfl rfl (Nat.le_of_ble_eq_true rfl) dX0_reads_117 ⟨hcl, hsl⟩) hS (fun x_289 hp_287 nx_288 hw H locs hH hz hS => ?_)
          refine lv_istore_n (i := 3) (lv' := [(3, .int x_289), (0, va_rf (some h0)), (1, .int x1), (2, va_rf r_68)]) hx hb dX0_reads_120 rfl hl (by decide) (by first | rfl | simp [List.filter_cons, z_cat, z_catI, z_catJ, z_catF, z_catD]) (fun ls hl => ?_)
          refine lv_goto (tgt := 76) hx hb dX0_reads_121 (by decide) ?_
          obtain ⟨k_290, hlt, hw⟩ := hw
          exact ih_76 k_290 hlt r_68 x_289 hp_287 nx_288 ((kc_72 + c_259) + c_279) ((ks_73 + s_260) + s_280) _ _ _ hw (lv_sub hl [1, 2, 3, 0] rfl) hH hz hS
    exact hL_76 n_300 r_52 x_67 hp_65 nx_66 (0 + c_29) (0 + s_30) _ _ _ hI (lv_sub hl [2, 3, 1, 0] rfl) hH hz hS
  · have hw := hw.1 hc
    refine zr_aload_n (r := some h0) hx hb dX0_reads_49 rfl (lv_at hl 1 rfl) ?_
    obtain ⟨a_304, ci_305, fs_306, r_307, er, he, hc, hv, hw⟩ := zgR_e hw
    refine zw_get hk hH er he hv (fk_X0_62 hc) dX0_reads_50 ?_
    refine lv_iload_n hx hb dX0_reads_53 rfl (lv_at hl 2 rfl) ?_
    obtain ⟨a_308, n_309, f_310, er, he, hi, hw⟩ := zaR_e hw
    have hw := hw _ rfl
    refine zw_aald hk hH 10 er he rfl rfl hi dX0_reads_54 ?_
    generalize f_310 x1.toNatClampNeg = r_311 at hw ⊢
    refine lv_iload_n hx hb dX0_reads_55 rfl (lv_at hl 2 rfl) ?_
    obtain ⟨c_312, s_313, hcl, hsl, hw⟩ := hw
    obtain ⟨a_316, ci_317, fs_318, er, he, hc, hw⟩ := zo_e hw
    obtain rfl := List.mem_singleton.mp hc
    refine zr_callv (zw_runV (As := [.int x1]) hk hH hz hS hl.1 er hw (cwV 1 hts (lw_V q923 q924 q925 q133 q926) rfl rfl rfl (by decide +kernel) (z_room (Nat.le_of_ble_eq_true rfl))) he rfl rfl rfl (Nat.le_of_ble_eq_true rfl) dX0_reads_56 ⟨hcl, hsl⟩) hS (fun hp_314 nx_315 hw H locs hH hz hS => ?_)
    obtain ⟨hkc, hks, hw⟩ := hw
    exact zr_vret hk hr hH hz hS hw hkc hks dX0_reads_59
def wp_X0_burdenOf (l : Launch) (g : zG) (d : Nat) (h0 : Nat) (r1 : Option Nat) (hp : zHp) (nx : Nat) (Post : Int32 → zHp → Nat → Prop) : Prop :=
  (zo hp r1 [34] fun a_26 ci_27 fs_28 => zMt l g yJ0_nextSetBit cJ0_nextSetBit 5 (some .int) d 0 0 (.ref a_26 :: [.int (0 : Int32)]) hp nx (zQi g fun x_3 hp_1 nx_2 =>
  (∃ I_8 : Nat → Int32 → Int32 → zHp → Nat → Prop, (∃ n_25, I_8 n_25 (0 : Int32) x_3 hp_1 nx_2) ∧ ∀ (n_8 : Nat) (x_4 : Int32) (x_5 : Int32) (hp_6 : zHp) (nx_7 : Nat), I_8 n_8 x_4 x_5 hp_6 nx_7 →
  ((x_5 < 0 →
  (Post x_4 hp_6 nx_7)) ∧
  (¬ x_5 < 0 →
  (zgR hp_6 (some h0) [0] 14 fun r_12 =>
  (zaI (g.2.1 0) hp_6 r_12 fun a_13 n_14 f_15 => vp_in x_5 n_14 ∧ ∀ x_16 : Int32, x_16 = f_15 x_5.toNatClampNeg →
  (∀ x_17 : Int32, x_17 = x_4 + x_16 →
  (zo hp_6 r1 [34] fun a_22 ci_23 fs_24 => zMt l g yJ0_nextSetBit cJ0_nextSetBit 5 (some .int) d 0 0 (.ref a_22 :: [.int (x_5 + (1 : Int32))]) hp_6 nx_7 (zQi g fun x_20 hp_18 nx_19 =>
  (∃ k_21, k_21 < n_8 ∧ I_8 k_21 x_17 x_20 hp_18 nx_19)))))))))))
set_option maxHeartbeats 40000000 in
theorem met_X0_burdenOf {l : Launch} {g : zG} {d : Nat} {h0 : Nat} {r1 : Option Nat} {hp : zHp} {nx : Nat} {Post : Int32 → zHp → Nat → Prop} (hw : wp_X0_burdenOf l g d h0 r1 hp nx Post) : zMt l g yX0_burdenOf cX0_burdenOf 4 (some .int) (d + 1) 0 0 [.ref h0, va_rf r1] hp nx (zQi g Post) := by
  refine z_start (by decide) (by cases r1 <;> exact Nat.le_of_ble_eq_true rfl) ?_
  intro p e s m below meth c hk hr hin hH hz ls hl
  have hx := hk.1.1
  have hb := hk.1.2.1
  have hown := hk.1.2.2.2.1
  have hts := hk.1.2.2.2.2
  have hS : va_S (zAd g) s.heap s.heap [] := va_S.rf
  have hl : lv_has ls 4 [(0, va_rf (some h0)), (1, va_rf r1)] := by cases r1 <;> exact hl
  unfold wp_X0_burdenOf at hw
  refine lv_iconst (v := (0 : Int32)) hx hb dX0_burdenOf_0 (by decide) ?_
  refine lv_istore_n (i := 2) (lv' := [(2, .int (0 : Int32)), (0, va_rf (some h0)), (1, va_rf r1)]) hx hb dX0_burdenOf_1 rfl hl (by decide) (by first | rfl | simp [List.filter_cons, z_cat, z_catI, z_catJ, z_catF, z_catD]) (fun ls hl => ?_)
  refine zr_aload_n (r := r1) hx hb dX0_burdenOf_2 rfl (lv_at hl 2 rfl) ?_
  refine lv_iconst (v := (0 : Int32)) hx hb dX0_burdenOf_3 (by decide) ?_
  obtain ⟨a_26, ci_27, fs_28, er, he, hc, hw⟩ := zo_e hw
  obtain rfl := List.mem_singleton.mp hc
  refine zr_calli (zw_runV (As := [.int (0 : Int32)]) hk hH hz hS hl.1 er hw (cwV 1 hts (lw_V q944 q945 q946 q133 q947) rfl rfl rfl (by decide +kernel) (z_room (Nat.le_of_ble_eq_true rfl))) he rfl rfl rfl (Nat.le_of_ble_eq_true rfl) dX0_burdenOf_4 ⟨Nat.le_of_ble_eq_true rfl, Nat.le_of_ble_eq_true rfl⟩) hS (fun x_3 hp_1 nx_2 hw H locs hH hz hS => ?_)
  refine lv_istore_n (i := 3) (lv' := [(3, .int x_3), (2, .int (0 : Int32)), (0, va_rf (some h0)), (1, va_rf r1)]) hx hb dX0_burdenOf_7 rfl hl (by decide) (by first | rfl | simp [List.filter_cons, z_cat, z_catI, z_catJ, z_catF, z_catD]) (fun ls hl => ?_)
  obtain ⟨I_8, ⟨n_25, hI⟩, hB_8⟩ := hw
  have hL_8 : ∀ (n_8 : Nat) (x_4 : Int32) (x_5 : Int32) (hp_6 : zHp) (nx_7 : Nat) (H : Heap) (locs : List Loc) (ls : Array Slot), I_8 n_8 x_4 x_5 hp_6 nx_7 → lv_has ls 4 [(0, va_rf (some h0)), (1, va_rf r1), (2, .int x_4), (3, .int x_5)] → zHd g hp_6 H → H.size = nx_7 → va_S (zAd g) s.heap H locs → W p l e (zrm (d + 1) 0 0) s m ([.ref h0, va_rf r1] : List Value).toArray below meth c H locs 0 0 (MQ below (zQi g Post) ([.ref h0, va_rf r1] : List Value).toArray s 0 0 (zAd g)) (F0 m 8 ls []) := by
    intro n_8
    induction n_8 using Nat.strongRecOn with
    | _ n_8 ih_8 =>
      intro x_4 x_5 hp_6 nx_7 H locs ls hw hl hH hz hS
      have hw := hB_8 n_8 x_4 x_5 hp_6 nx_7 hw
      refine lv_iload_n hx hb dX0_burdenOf_8 rfl (lv_at hl 3 rfl) ?_
      refine lv_if_lt (tgt := 32) hx hb dX0_burdenOf_9 (by decide) (fun hc => ?_) (fun hc => ?_)
      · have hw := hw.1 hc
        refine lv_iload_n hx hb dX0_burdenOf_32 rfl (lv_at hl 2 rfl) ?_
        exact zr_iret hk hr hH hz hS hw (Nat.le_of_ble_eq_true rfl) (Nat.le_of_ble_eq_true rfl) dX0_burdenOf_33
      · have hw := hw.2 hc
        refine lv_iload_n hx hb dX0_burdenOf_12 rfl (lv_at hl 2 rfl) ?_
        refine zr_aload_n (r := some h0) hx hb dX0_burdenOf_13 rfl (lv_at hl 0 rfl) ?_
        obtain ⟨a_9, ci_10, fs_11, r_12, er, he, hc, hv, hw⟩ := zgR_e hw
        refine zw_get hk hH er he hv (fk_X0_69 hc) dX0_burdenOf_14 ?_
        refine lv_iload_n hx hb dX0_burdenOf_17 rfl (lv_at hl 3 rfl) ?_
        obtain ⟨a_13, n_14, f_15, er, he, hi, hw⟩ := zaI_e hw
        have hw := hw _ rfl
        refine zw_iald hk hH er he hi dX0_burdenOf_18 ?_
        generalize f_15 x_5.toNatClampNeg = x_16 at hw ⊢
        refine lv_iadd hx hb dX0_burdenOf_19 ?_
        refine lv_topi (fun x_17 ex_17 => ?_)
        have hw := hw x_17 ex_17
        refine lv_istore_n (i := 2) (lv' := [(2, .int x_17), (0, va_rf (some h0)), (1, va_rf r1), (3, .int x_5)]) hx hb dX0_burdenOf_20 rfl hl (by decide) (by first | rfl | simp [List.filter_cons, z_cat, z_catI, z_catJ, z_catF, z_catD]) (fun ls hl => ?_)
        refine zr_aload_n (r := r1) hx hb dX0_burdenOf_21 rfl (lv_at hl 2 rfl) ?_
        refine lv_iload_n hx hb dX0_burdenOf_22 rfl (lv_at hl 3 rfl) ?_
        refine lv_iconst (v := (1 : Int32)) hx hb dX0_burdenOf_23 (by decide) ?_
        refine lv_iadd hx hb dX0_burdenOf_24 ?_
        obtain ⟨a_22, ci_23, fs_24, er, he, hc, hw⟩ := zo_e hw
        obtain rfl := List.mem_singleton.mp hc
        refine zr_calli (zw_runV (As := [.int (x_5 + (1 : Int32))]) hk hH hz hS hl.1 er hw (cwV 1 hts (lw_V q944 q945 q946 q133 q947) rfl rfl rfl (by decide +kernel) (z_room (Nat.le_of_ble_eq_true rfl))) he rfl rfl rfl (Nat.le_of_ble_eq_true rfl) dX0_burdenOf_25 ⟨Nat.le_of_ble_eq_true rfl, Nat.le_of_ble_eq_true rfl⟩) hS (fun x_20 hp_18 nx_19 hw H locs hH hz hS => ?_)
        refine lv_istore_n (i := 3) (lv' := [(3, .int x_20), (2, .int x_17), (0, va_rf (some h0)), (1, va_rf r1)]) hx hb dX0_burdenOf_28 rfl hl (by decide) (by first | rfl | simp [List.filter_cons, z_cat, z_catI, z_catJ, z_catF, z_catD]) (fun ls hl => ?_)
        refine lv_goto (tgt := 8) hx hb dX0_burdenOf_29 (by decide) ?_
        obtain ⟨k_21, hlt, hw⟩ := hw
        exact ih_8 k_21 hlt x_17 x_20 hp_18 nx_19 _ _ _ hw (lv_sub hl [2, 3, 1, 0] rfl) hH hz hS
  exact hL_8 n_25 (0 : Int32) x_3 hp_1 nx_2 _ _ _ hI (lv_sub hl [2, 3, 1, 0] rfl) hH hz hS
theorem fk_X0_383 {ci : Nat} (h : ci ∈ [0]) : zFk "WhatIfSheet" 383 ci 20 := by
  simp only [List.mem_cons, List.not_mem_nil, or_false] at h
  rcases h with rfl
  · exact ⟨RX0, TX0, 30, rfl, by decide, q1232⟩
theorem fk_X0_90 {ci : Nat} (h : ci ∈ [0]) : zFk "WhatIfSheet" 90 ci 19 := by
  simp only [List.mem_cons, List.not_mem_nil, or_false] at h
  rcases h with rfl
  · exact ⟨RX0, TX0, 30, rfl, by decide, q1230⟩
theorem fp_X0_383 {ci : Nat} (h : ci ∈ [0]) : zFp "WhatIfSheet" 383 ci 20 .int := by
  simp only [List.mem_cons, List.not_mem_nil, or_false] at h
  rcases h with rfl
  · exact ⟨RX0, TX0, 30, rfl, by decide, q1232, rfl, by decide +kernel⟩
def wp_X0_feed (l : Launch) (g : zG) (d : Nat) (h0 : Nat) (x1 : Int32) (x2 : Int32) (x3 : Int32) (x4 : Int32) (x5 : Int32) (x6 : Int32) (hp : zHp) (nx : Nat) (Post : Int32 → zHp → Nat → Prop) : Prop :=
  (zMt l g yX0_in cX0_in 6 (some .boolean) d 0 0 [.long x1.toInt64, .long (1 : Int64), .long (5 : Int64)] hp nx (zQi g fun x_3 hp_1 nx_2 =>
  (∃ P_75 : zHp → Nat → Prop, (∀ (hp_4 : zHp) (nx_5 : Nat), P_75 hp_4 nx_5 →
  (Post (-2 : Int32) hp_4 nx_5)) ∧
  ((x_3 = 0 →
  P_75 hp_1 nx_2) ∧
  (¬ x_3 = 0 →
  (zMt l g yX0_in cX0_in 6 (some .boolean) d 0 0 [.long x2.toInt64, .long (0 : Int64), .long (255 : Int64)] hp_1 nx_2 (zQi g fun x_8 hp_6 nx_7 =>
  ((x_8 = 0 →
  P_75 hp_6 nx_7) ∧
  (¬ x_8 = 0 →
  (zMt l g yX0_in cX0_in 6 (some .boolean) d 0 0 [.long x3.toInt64, .long (0 : Int64), .long (255 : Int64)] hp_6 nx_7 (zQi g fun x_11 hp_9 nx_10 =>
  ((x_11 = 0 →
  P_75 hp_9 nx_10) ∧
  (¬ x_11 = 0 →
  (zMt l g yX0_in cX0_in 6 (some .boolean) d 0 0 [.long x4.toInt64, .long (0 : Int64), .long (255 : Int64)] hp_9 nx_10 (zQi g fun x_14 hp_12 nx_13 =>
  ((x_14 = 0 →
  P_75 hp_12 nx_13) ∧
  (¬ x_14 = 0 →
  (zMt l g yX0_in cX0_in 6 (some .boolean) d 0 0 [.long x5.toInt64, .long (0 : Int64), .long (255 : Int64)] hp_12 nx_13 (zQi g fun x_17 hp_15 nx_16 =>
  ((x_17 = 0 →
  P_75 hp_15 nx_16) ∧
  (¬ x_17 = 0 →
  (zMt l g yX0_in cX0_in 6 (some .boolean) d 0 0 [.long x6.toInt64, .long (0 : Int64), .long (255 : Int64)] hp_15 nx_16 (zQi g fun x_20 hp_18 nx_19 =>
  ((x_20 = 0 →
  P_75 hp_18 nx_19) ∧
  (¬ x_20 = 0 →
  (zgI hp_18 (some h0) [0] 20 fun x_24 =>
  (((x_24 + x1) ≤ (96 : Int32) →
  (∃ I_95 : Nat → Int32 → zHp → Nat → Prop, (∃ n_61, I_95 n_61 (0 : Int32) hp_18 nx_19) ∧ ∀ (n_28 : Nat) (x_25 : Int32) (hp_26 : zHp) (nx_27 : Nat), I_95 n_28 x_25 hp_26 nx_27 →
  ((x1 ≤ x_25 →
  (zgI hp_26 (some h0) [0] 20 fun x_32 =>
  (Post x_32 hp_26 nx_27))) ∧
  (¬ x1 ≤ x_25 →
  (zgR hp_26 (some h0) [0] 19 fun r_36 =>
  (zgI hp_26 (some h0) [0] 20 fun x_40 =>
  (∃ P_152 : Int32 → (Option Nat) → Int32 → Int32 → zHp → Nat → Prop, (∀ (x_41 : Int32) (r_42 : Option Nat) (x_43 : Int32) (x_44 : Int32) (hp_45 : zHp) (nx_46 : Nat), P_152 x_41 r_42 x_43 x_44 hp_45 nx_46 →
  (zaI (g.2.1 2) hp_45 r_42 fun a_47 n_48 f_49 => vp_in x_43 n_48 ∧ zB g ≤ a_47 ∧ ∀ hp_50 : zHp, hp_50 = va_up hp_45 a_47 (some (.inl (g.2.1 2, n_48, .inl (va_up f_49 x_43.toNatClampNeg (vp_nar .byte x_44.toInt8.toInt32))))) →
  (zgI hp_50 (some h0) [0] 20 fun x_54 =>
  (zpt g hp_50 (some h0) [0] 20 (.int (x_54 + (1 : Int32))) fun hp_58 =>
  (∀ x_59 : Int32, x_59 = x_41 + (1 : Int32) →
  (∃ k_60, k_60 < n_28 ∧ I_95 k_60 x_59 hp_58 nx_46)))))) ∧
  ((x_25 = 0 →
  P_152 x_25 r_36 x_40 x2 hp_26 nx_27) ∧
  (¬ x_25 = 0 →
  ((x_25 = (1 : Int32) →
  P_152 x_25 r_36 x_40 x3 hp_26 nx_27) ∧
  (¬ x_25 = (1 : Int32) →
  ((x_25 = (2 : Int32) →
  P_152 x_25 r_36 x_40 x4 hp_26 nx_27) ∧
  (¬ x_25 = (2 : Int32) →
  ((x_25 = (3 : Int32) →
  P_152 x_25 r_36 x_40 x5 hp_26 nx_27) ∧
  (¬ x_25 = (3 : Int32) →
  P_152 x_25 r_36 x_40 x6 hp_26 nx_27))))))))))))))) ∧
  (¬ (x_24 + x1) ≤ (96 : Int32) →
  (Post (-4 : Int32) hp_18 nx_19)))))))))))))))))))))))))))))
set_option maxHeartbeats 40000000 in
theorem met_X0_feed {l : Launch} {g : zG} {d : Nat} {h0 : Nat} {x1 : Int32} {x2 : Int32} {x3 : Int32} {x4 : Int32} {x5 : Int32} {x6 : Int32} {hp : zHp} {nx : Nat} {Post : Int32 → zHp → Nat → Prop} (hw : wp_X0_feed l g d h0 x1 x2 x3 x4 x5 x6 hp nx Post) : zMt l g yX0_feed cX0_feed 8 (some .int) (d + 1) 0 0 [.ref h0, .int x1, .int x2, .int x3, .int x4, .int x5, .int x6] hp nx (zQi g Post) := by
  refine z_start (by decide) (Nat.le_of_ble_eq_true rfl) ?_
  intro p e s m below meth c hk hr hin hH hz ls hl
  have hx := hk.1.1
  have hb := hk.1.2.1
  have hown := hk.1.2.2.2.1
  have hts := hk.1.2.2.2.2
  have hS : va_S (zAd g) s.heap s.heap [] := va_S.rf
  have hl : lv_has ls 8 [(0, va_rf (some h0)), (1, .int x1), (2, .int x2), (3, .int x3), (4, .int x4), (5, .int x5), (6, .int x6)] := hl
  unfold wp_X0_feed at hw
  refine lv_iload_n hx hb dX0_feed_0 rfl (lv_at hl 1 rfl) ?_
  refine lv_i2l hx hb dX0_feed_1 rfl ?_
  refine lv_lconst (v := (1 : Int64)) hx hb dX0_feed_2 (by decide) ?_
  refine lv_ldc2 hx hb hown (hts _ q1307) dX0_feed_3 ?_
  refine zr_calli (zr_runS (As := [.long x1.toInt64, .long (1 : Int64), .long (5 : Int64)]) hk hH hz hS hl.1 hw (va_cwS 3 hts (lw_S q1308 q1309 q131 q1310) rfl rfl rfl (by decide +kernel) (z_room (Nat.le_of_ble_eq_true rfl))) rfl rfl (Nat.le_of_ble_eq_true rfl) dX0_feed_6 ⟨Nat.le_of_ble_eq_true rfl, Nat.le_of_ble_eq_true rfl⟩) hS (fun x_3 hp_1 nx_2 hw H locs hH hz hS => ?_)
  obtain ⟨P_75, hP_75, hw⟩ := hw
  have hJ_75 : ∀ (hp_4 : zHp) (nx_5 : Nat) (H : Heap) (locs : List Loc) (ls : Array Slot), P_75 hp_4 nx_5 → lv_has ls 8 [(0, va_rf (some h0)), (1, .int x1), (2, .int x2), (3, .int x3), (4, .int x4), (5, .int x5), (6, .int x6)] → zHd g hp_4 H → H.size = nx_5 → va_S (zAd g) s.heap H locs → W p l e (zrm (d + 1) 0 0) s m ([.ref h0, .int x1, .int x2, .int x3, .int x4, .int x5, .int x6] : List Value).toArray below meth c H locs 0 0 (MQ below (zQi g Post) ([.ref h0, .int x1, .int x2, .int x3, .int x4, .int x5, .int x6] : List Value).toArray s 0 0 (zAd g)) (F0 m 75 ls []) := by
    intro hp_4 nx_5 H locs ls hw hl hH hz hS
    have hw := hP_75 hp_4 nx_5 hw
    refine lv_bipush (v := (-2 : Int32)) hx hb dX0_feed_75 (by decide) ?_
    exact zr_iret hk hr hH hz hS hw (Nat.le_of_ble_eq_true rfl) (Nat.le_of_ble_eq_true rfl) dX0_feed_77
  refine lv_if_eq (tgt := 75) hx hb dX0_feed_9 (by decide) (fun hc => ?_) (fun hc => ?_)
  · have hw := hw.1 hc
    exact hJ_75 hp_1 nx_2 _ _ _ hw hl hH hz hS
  · have hw := hw.2 hc
    refine lv_iload_n hx hb dX0_feed_12 rfl (lv_at hl 2 rfl) ?_
    refine lv_i2l hx hb dX0_feed_13 rfl ?_
    refine lv_lconst (v := (0 : Int64)) hx hb dX0_feed_14 (by decide) ?_
    refine lv_ldc2 hx hb hown (hts _ q1311) dX0_feed_15 ?_
    refine zr_calli (zr_runS (As := [.long x2.toInt64, .long (0 : Int64), .long (255 : Int64)]) hk hH hz hS hl.1 hw (va_cwS 3 hts (lw_S q1308 q1309 q131 q1310) rfl rfl rfl (by decide +kernel) (z_room (Nat.le_of_ble_eq_true rfl))) rfl rfl (Nat.le_of_ble_eq_true rfl) dX0_feed_18 ⟨Nat.le_of_ble_eq_true rfl, Nat.le_of_ble_eq_true rfl⟩) hS (fun x_8 hp_6 nx_7 hw H locs hH hz hS => ?_)
    refine lv_if_eq (tgt := 75) hx hb dX0_feed_21 (by decide) (fun hc => ?_) (fun hc => ?_)
    · have hw := hw.1 hc
      exact hJ_75 hp_6 nx_7 _ _ _ hw hl hH hz hS
    · have hw := hw.2 hc
      refine lv_iload_n hx hb dX0_feed_24 rfl (lv_at hl 3 rfl) ?_
      refine lv_i2l hx hb dX0_feed_25 rfl ?_
      refine lv_lconst (v := (0 : Int64)) hx hb dX0_feed_26 (by decide) ?_
      refine lv_ldc2 hx hb hown (hts _ q1311) dX0_feed_27 ?_
      refine zr_calli (zr_runS (As := [.long x3.toInt64, .long (0 : Int64), .long (255 : Int64)]) hk hH hz hS hl.1 hw (va_cwS 3 hts (lw_S q1308 q1309 q131 q1310) rfl rfl rfl (by decide +kernel) (z_room (Nat.le_of_ble_eq_true rfl))) rfl rfl (Nat.le_of_ble_eq_true rfl) dX0_feed_30 ⟨Nat.le_of_ble_eq_true rfl, Nat.le_of_ble_eq_true rfl⟩) hS (fun x_11 hp_9 nx_10 hw H locs hH hz hS => ?_)
      refine lv_if_eq (tgt := 75) hx hb dX0_feed_33 (by decide) (fun hc => ?_) (fun hc => ?_)
      · have hw := hw.1 hc
        exact hJ_75 hp_9 nx_10 _ _ _ hw hl hH hz hS
      · have hw := hw.2 hc
        refine lv_iload hx hb dX0_feed_36 (lv_at hl 4 rfl) ?_
        refine lv_i2l hx hb dX0_feed_38 rfl ?_
        refine lv_lconst (v := (0 : Int64)) hx hb dX0_feed_39 (by decide) ?_
        refine lv_ldc2 hx hb hown (hts _ q1311) dX0_feed_40 ?_
        refine zr_calli (zr_runS (As := [.long x4.toInt64, .long (0 : Int64), .long (255 : Int64)]) hk hH hz hS hl.1 hw (va_cwS 3 hts (lw_S q1308 q1309 q131 q1310) rfl rfl rfl (by decide +kernel) (z_room (Nat.le_of_ble_eq_true rfl))) rfl rfl (Nat.le_of_ble_eq_true rfl) dX0_feed_43 ⟨Nat.le_of_ble_eq_true rfl, Nat.le_of_ble_eq_true rfl⟩) hS (fun x_14 hp_12 nx_13 hw H locs hH hz hS => ?_)
        refine lv_if_eq (tgt := 75) hx hb dX0_feed_46 (by decide) (fun hc => ?_) (fun hc => ?_)
        · have hw := hw.1 hc
          exact hJ_75 hp_12 nx_13 _ _ _ hw hl hH hz hS
        · have hw := hw.2 hc
          refine lv_iload hx hb dX0_feed_49 (lv_at hl 5 rfl) ?_
          refine lv_i2l hx hb dX0_feed_51 rfl ?_
          refine lv_lconst (v := (0 : Int64)) hx hb dX0_feed_52 (by decide) ?_
          refine lv_ldc2 hx hb hown (hts _ q1311) dX0_feed_53 ?_
          refine zr_calli (zr_runS (As := [.long x5.toInt64, .long (0 : Int64), .long (255 : Int64)]) hk hH hz hS hl.1 hw (va_cwS 3 hts (lw_S q1308 q1309 q131 q1310) rfl rfl rfl (by decide +kernel) (z_room (Nat.le_of_ble_eq_true rfl))) rfl rfl (Nat.le_of_ble_eq_true rfl) dX0_feed_56 ⟨Nat.le_of_ble_eq_true rfl, Nat.le_of_ble_eq_true rfl⟩) hS (fun x_17 hp_15 nx_16 hw H locs hH hz hS => ?_)
          refine lv_if_eq (tgt := 75) hx hb dX0_feed_59 (by decide) (fun hc => ?_) (fun hc => ?_)
          · have hw := hw.1 hc
            exact hJ_75 hp_15 nx_16 _ _ _ hw hl hH hz hS
          · have hw := hw.2 hc
            refine lv_iload hx hb dX0_feed_62 (lv_at hl 6 rfl) ?_
            refine lv_i2l hx hb dX0_feed_64 rfl ?_
            refine lv_lconst (v := (0 : Int64)) hx hb dX0_feed_65 (by decide) ?_
            refine lv_ldc2 hx hb hown (hts _ q1311) dX0_feed_66 ?_
            refine zr_calli (zr_runS (As := [.long x6.toInt64, .long (0 : Int64), .long (255 : Int64)]) hk hH hz hS hl.1 hw (va_cwS 3 hts (lw_S q1308 q1309 q131 q1310) rfl rfl rfl (by decide +kernel) (z_room (Nat.le_of_ble_eq_true rfl))) rfl rfl (Nat.le_of_ble_eq_true rfl) dX0_feed_69 ⟨Nat.le_of_ble_eq_true rfl, Nat.le_of_ble_eq_true rfl⟩) hS (fun x_20 hp_18 nx_19 hw H locs hH hz hS => ?_)
            refine lv_if_ne (tgt := 78) hx hb dX0_feed_72 (by decide) (fun hc => ?_) (fun hc => ?_)
            · have hw := hw.2 hc
              refine zr_aload_n (r := some h0) hx hb dX0_feed_78 rfl (lv_at hl 0 rfl) ?_
              obtain ⟨a_21, ci_22, fs_23, x_24, er, he, hc, hv, hw⟩ := zgI_e hw
              refine zw_get hk hH er he hv (fk_X0_383 hc) dX0_feed_79 ?_
              refine lv_iload_n hx hb dX0_feed_82 rfl (lv_at hl 1 rfl) ?_
              refine lv_iadd hx hb dX0_feed_83 ?_
              refine lv_bipush (v := (96 : Int32)) hx hb dX0_feed_84 (by decide) ?_
              refine lv_icmp_le (tgt := 92) hx hb dX0_feed_86 (by decide) (fun hc => ?_) (fun hc => ?_)
              · have hw := hw.1 hc
                refine lv_iconst (v := (0 : Int32)) hx hb dX0_feed_92 (by decide) ?_
                refine lv_istore (lv' := [(7, .int (0 : Int32)), (0, va_rf (some h0)), (1, .int x1), (2, .int x2), (3, .int x3), (4, .int x4), (5, .int x5), (6, .int x6)]) hx hb dX0_feed_93 hl (by decide) (by first | rfl | simp [List.filter_cons, z_cat, z_catI, z_catJ, z_catF, z_catD]) (fun ls hl => ?_)
                obtain ⟨I_95, ⟨n_61, hI⟩, hB_95⟩ := hw
                have hL_95 : ∀ (n_28 : Nat) (x_25 : Int32) (hp_26 : zHp) (nx_27 : Nat) (H : Heap) (locs : List Loc) (ls : Array Slot), I_95 n_28 x_25 hp_26 nx_27 → lv_has ls 8 [(0, va_rf (some h0)), (1, .int x1), (2, .int x2), (3, .int x3), (4, .int x4), (5, .int x5), (6, .int x6), (7, .int x_25)] → zHd g hp_26 H → H.size = nx_27 → va_S (zAd g) s.heap H locs → W p l e (zrm (d + 1) 0 0) s m ([.ref h0, .int x1, .int x2, .int x3, .int x4, .int x5, .int x6] : List Value).toArray below meth c H locs 0 0 (MQ below (zQi g Post) ([.ref h0, .int x1, .int x2, .int x3, .int x4, .int x5, .int x6] : List Value).toArray s 0 0 (zAd g)) (F0 m 95 ls []) := by
                  intro n_28
                  induction n_28 using Nat.strongRecOn with
                  | _ n_28 ih_95 =>
                    intro x_25 hp_26 nx_27 H locs ls hw hl hH hz hS
                    have hw := hB_95 n_28 x_25 hp_26 nx_27 hw
                    refine lv_iload hx hb dX0_feed_95 (lv_at hl 7 rfl) ?_
                    refine lv_iload_n hx hb dX0_feed_97 rfl (lv_at hl 1 rfl) ?_
                    refine lv_icmp_ge (tgt := 170) hx hb dX0_feed_98 (by decide) (fun hc => ?_) (fun hc => ?_)
                    · have hw := hw.1 hc
                      refine zr_aload_n (r := some h0) hx hb dX0_feed_170 rfl (lv_at hl 0 rfl) ?_
                      obtain ⟨a_29, ci_30, fs_31, x_32, er, he, hc, hv, hw⟩ := zgI_e hw
                      refine zw_get hk hH er he hv (fk_X0_383 hc) dX0_feed_171 ?_
                      exact zr_iret hk hr hH hz hS hw (Nat.le_of_ble_eq_true rfl) (Nat.le_of_ble_eq_true rfl) dX0_feed_174
                    · have hw := hw.2 hc
                      refine zr_aload_n (r := some h0) hx hb dX0_feed_101 rfl (lv_at hl 0 rfl) ?_
                      obtain ⟨a_33, ci_34, fs_35, r_36, er, he, hc, hv, hw⟩ := zgR_e hw
                      refine zw_get hk hH er he hv (fk_X0_90 hc) dX0_feed_102 ?_
                      refine zr_aload_n (r := some h0) hx hb dX0_feed_105 rfl (lv_at hl 0 rfl) ?_
                      obtain ⟨a_37, ci_38, fs_39, x_40, er, he, hc, hv, hw⟩ := zgI_e hw
                      refine zw_get hk hH er he hv (fk_X0_383 hc) dX0_feed_106 ?_
                      refine lv_iload hx hb dX0_feed_109 (lv_at hl 7 rfl) ?_
                      obtain ⟨P_152, hP_152, hw⟩ := hw
                      have hJ_152 : ∀ (x_41 : Int32) (r_42 : Option Nat) (x_43 : Int32) (x_44 : Int32) (hp_45 : zHp) (nx_46 : Nat) (H : Heap) (locs : List Loc) (ls : Array Slot), P_152 x_41 r_42 x_43 x_44 hp_45 nx_46 → lv_has ls 8 [(0, va_rf (some h0)), (1, .int x1), (2, .int x2), (3, .int x3), (4, .int x4), (5, .int x5), (6, .int x6), (7, .int x_41)] → zHd g hp_45 H → H.size = nx_46 → va_S (zAd g) s.heap H locs → W p l e (zrm (d + 1) 0 0) s m ([.ref h0, .int x1, .int x2, .int x3, .int x4, .int x5, .int x6] : List Value).toArray below meth c H locs 0 0 (MQ below (zQi g Post) ([.ref h0, .int x1, .int x2, .int x3, .int x4, .int x5, .int x6] : List Value).toArray s 0 0 (zAd g)) (F0 m 152 ls [.int x_44, .int x_43, va_rf r_42]) := by
                        intro x_41 r_42 x_43 x_44 hp_45 nx_46 H locs ls hw hl hH hz hS
                        have hw := hP_152 x_41 r_42 x_43 x_44 hp_45 nx_46 hw
                        refine lv_i2b hx hb dX0_feed_152 rfl ?_
                        obtain ⟨a_47, n_48, f_49, er, he, hi, hA, hw⟩ := zaI_e hw
                        obtain ⟨hp_50, eh⟩ : ∃ y : zHp, y = va_up hp_45 a_47 (some (.inl (g.2.1 2, n_48, .inl (va_up f_49 x_43.toNatClampNeg (vp_nar .byte x_44.toInt8.toInt32))))) := ⟨_, rfl⟩
                        have hw := hw hp_50 eh
                        refine zw_bast hk hH hz hS er he hi hA eh dX0_feed_153 (fun H locs hH hz hS => ?_)
                        refine zr_aload_n (r := some h0) hx hb dX0_feed_154 rfl (lv_at hl 0 rfl) ?_
                        refine lv_dup hx hb dX0_feed_155 (z_cat _) ?_
                        obtain ⟨a_51, ci_52, fs_53, x_54, er, he, hc, hv, hw⟩ := zgI_e hw
                        refine zw_get hk hH er he hv (fk_X0_383 hc) dX0_feed_156 ?_
                        refine lv_iconst (v := (1 : Int32)) hx hb dX0_feed_159 (by decide) ?_
                        refine lv_iadd hx hb dX0_feed_160 ?_
                        obtain ⟨a_55, ci_56, fs_57, hp_58, er, he, hc, hA, hkl, eh, hw⟩ := zpt_e hw
                        refine zw_put hk hH hz hS er he hA hkl eh (fp_X0_383 hc) rfl rfl dX0_feed_161 (fun H locs hH hz hS => ?_)
                        obtain ⟨x_59, ex_59⟩ : ∃ y : Int32, y = x_41 + (1 : Int32) := ⟨_, rfl⟩
                        have hw := hw x_59 ex_59
                        refine lv_iinc (v := x_59) (lv' := [(7, .int x_59), (0, va_rf (some h0)), (1, .int x1), (2, .int x2), (3, .int x3), (4, .int x4), (5, .int x5), (6, .int x6)]) hx hb dX0_feed_164 hl (k := 7) rfl (by rw [ex_59]; rfl) (by decide) (by first | rfl | simp [List.filter_cons, z_cat, z_catI, z_catJ, z_catF, z_catD]) (fun ls hl => ?_)
                        refine lv_goto (tgt := 95) hx hb dX0_feed_167 (by decide) ?_
                        obtain ⟨k_60, hlt, hw⟩ := hw
                        exact ih_95 k_60 hlt x_59 hp_58 nx_46 _ _ _ hw (lv_sub hl [1, 2, 3, 4, 5, 6, 7, 0] rfl) hH hz hS
                      refine lv_if_ne (tgt := 118) hx hb dX0_feed_111 (by decide) (fun hc => ?_) (fun hc => ?_)
                      · have hw := hw.2 hc
                        refine lv_iload hx hb dX0_feed_118 (lv_at hl 7 rfl) ?_
                        refine lv_iconst (v := (1 : Int32)) hx hb dX0_feed_120 (by decide) ?_
                        refine lv_icmp_ne (tgt := 128) hx hb dX0_feed_121 (by decide) (fun hc => ?_) (fun hc => ?_)
                        · have hw := hw.2 hc
                          refine lv_iload hx hb dX0_feed_128 (lv_at hl 7 rfl) ?_
                          refine lv_iconst (v := (2 : Int32)) hx hb dX0_feed_130 (by decide) ?_
                          refine lv_icmp_ne (tgt := 139) hx hb dX0_feed_131 (by decide) (fun hc => ?_) (fun hc => ?_)
                          · have hw := hw.2 hc
                            refine lv_iload hx hb dX0_feed_139 (lv_at hl 7 rfl) ?_
                            refine lv_iconst (v := (3 : Int32)) hx hb dX0_feed_141 (by decide) ?_
                            refine lv_icmp_ne (tgt := 150) hx hb dX0_feed_142 (by decide) (fun hc => ?_) (fun hc => ?_)
                            · have hw := hw.2 hc
                              refine lv_iload hx hb dX0_feed_150 (lv_at hl 6 rfl) ?_
                              exact hJ_152 x_25 r_36 x_40 x6 hp_26 nx_27 _ _ _ hw hl hH hz hS
                            · have hw := hw.1 hc
                              refine lv_iload hx hb dX0_feed_145 (lv_at hl 5 rfl) ?_
                              refine lv_goto (tgt := 152) hx hb dX0_feed_147 (by decide) ?_
                              exact hJ_152 x_25 r_36 x_40 x5 hp_26 nx_27 _ _ _ hw hl hH hz hS
                          · have hw := hw.1 hc
                            refine lv_iload hx hb dX0_feed_134 (lv_at hl 4 rfl) ?_
                            refine lv_goto (tgt := 152) hx hb dX0_feed_136 (by decide) ?_
                            exact hJ_152 x_25 r_36 x_40 x4 hp_26 nx_27 _ _ _ hw hl hH hz hS
                        · have hw := hw.1 hc
                          refine lv_iload_n hx hb dX0_feed_124 rfl (lv_at hl 3 rfl) ?_
                          refine lv_goto (tgt := 152) hx hb dX0_feed_125 (by decide) ?_
                          exact hJ_152 x_25 r_36 x_40 x3 hp_26 nx_27 _ _ _ hw hl hH hz hS
                      · have hw := hw.1 hc
                        refine lv_iload_n hx hb dX0_feed_114 rfl (lv_at hl 2 rfl) ?_
                        refine lv_goto (tgt := 152) hx hb dX0_feed_115 (by decide) ?_
                        exact hJ_152 x_25 r_36 x_40 x2 hp_26 nx_27 _ _ _ hw hl hH hz hS
                exact hL_95 n_61 (0 : Int32) hp_18 nx_19 _ _ _ hI (lv_sub hl [1, 2, 3, 4, 5, 6, 7, 0] rfl) hH hz hS
              · have hw := hw.2 hc
                refine lv_bipush (v := (-4 : Int32)) hx hb dX0_feed_89 (by decide) ?_
                exact zr_iret hk hr hH hz hS hw (Nat.le_of_ble_eq_true rfl) (Nat.le_of_ble_eq_true rfl) dX0_feed_91
            · have hw := hw.1 hc
              exact hJ_75 hp_18 nx_19 _ _ _ hw hl hH hz hS
def wp_X0_in (l : Launch) (g : zG) (d : Nat) (x0 : Int64) (x2 : Int64) (x4 : Int64) (hp : zHp) (nx : Nat) (Post : Int32 → zHp → Nat → Prop) : Prop :=
  (∃ P_18 : Int32 → Prop, (∀ (x_1 : Int32), P_18 x_1 →
  (((x_1 = 0 ∨ x_1 = 1) ∧ Post x_1 hp nx))) ∧
  (∃ P_17 : Prop, (P_17 →
  P_18 (0 : Int32)) ∧
  (((lg_cmp x0 x2) < 0 →
  P_17) ∧
  (¬ (lg_cmp x0 x2) < 0 →
  ((0 < (lg_cmp x0 x4) →
  P_17) ∧
  (¬ 0 < (lg_cmp x0 x4) →
  P_18 (1 : Int32)))))))
set_option maxHeartbeats 40000000 in
theorem met_X0_in {l : Launch} {g : zG} {d : Nat} {x0 : Int64} {x2 : Int64} {x4 : Int64} {hp : zHp} {nx : Nat} {Post : Int32 → zHp → Nat → Prop} (hw : wp_X0_in l g d x0 x2 x4 hp nx Post) : zMt l g yX0_in cX0_in 6 (some .boolean) (d + 1) 0 0 [.long x0, .long x2, .long x4] hp nx (zQi g Post) := by
  refine z_start (by decide) (Nat.le_of_ble_eq_true rfl) ?_
  intro p e s m below meth c hk hr hin hH hz ls hl
  have hx := hk.1.1
  have hb := hk.1.2.1
  have hown := hk.1.2.2.2.1
  have hts := hk.1.2.2.2.2
  have hS : va_S (zAd g) s.heap s.heap [] := va_S.rf
  have hl : lv_has ls 6 [(0, .long x0), (2, .long x2), (4, .long x4)] := hl
  unfold wp_X0_in at hw
  refine lv_lload_n hx hb dX0_in_0 rfl (lv_at hl 0 rfl) ?_
  refine lv_lload_n hx hb dX0_in_1 rfl (lv_at hl 1 rfl) ?_
  refine W.lcmp hx hb dX0_in_2 ?_
  obtain ⟨P_18, hP_18, hw⟩ := hw
  have hJ_18 : ∀ (x_1 : Int32) (H : Heap) (locs : List Loc) (ls : Array Slot), P_18 x_1 → lv_has ls 6 [(0, .long x0), (2, .long x2), (4, .long x4)] → zHd g hp H → H.size = nx → va_S (zAd g) s.heap H locs → W p l e (zrm (d + 1) 0 0) s m ([.long x0, .long x2, .long x4] : List Value).toArray below meth c H locs 0 0 (MQ below (zQi g Post) ([.long x0, .long x2, .long x4] : List Value).toArray s 0 0 (zAd g)) (F0 m 18 ls [.int x_1]) := by
    intro x_1 H locs ls hw hl hH hz hS
    have hw := hP_18 x_1 hw
    exact zr_zret hk hr hH hz hS hw.1 hw.2 (Nat.le_of_ble_eq_true rfl) (Nat.le_of_ble_eq_true rfl) dX0_in_18
  obtain ⟨P_17, hP_17, hw⟩ := hw
  have hJ_17 : ∀  (H : Heap) (locs : List Loc) (ls : Array Slot), P_17  → lv_has ls 6 [(0, .long x0), (2, .long x2), (4, .long x4)] → zHd g hp H → H.size = nx → va_S (zAd g) s.heap H locs → W p l e (zrm (d + 1) 0 0) s m ([.long x0, .long x2, .long x4] : List Value).toArray below meth c H locs 0 0 (MQ below (zQi g Post) ([.long x0, .long x2, .long x4] : List Value).toArray s 0 0 (zAd g)) (F0 m 17 ls []) := by
    intro  H locs ls hw hl hH hz hS
    have hw := hP_17  hw
    refine lv_iconst (v := (0 : Int32)) hx hb dX0_in_17 (by decide) ?_
    exact hJ_18 (0 : Int32) _ _ _ hw hl hH hz hS
  refine lv_if_lt (tgt := 17) hx hb dX0_in_3 (by decide) (fun hc => ?_) (fun hc => ?_)
  · have hw := hw.1 hc
    exact hJ_17  _ _ _ hw hl hH hz hS
  · have hw := hw.2 hc
    refine lv_lload_n hx hb dX0_in_6 rfl (lv_at hl 0 rfl) ?_
    refine lv_lload hx hb dX0_in_7 (lv_at hl 2 rfl) ?_
    refine W.lcmp hx hb dX0_in_9 ?_
    refine lv_if_gt (tgt := 17) hx hb dX0_in_10 (by decide) (fun hc => ?_) (fun hc => ?_)
    · have hw := hw.1 hc
      exact hJ_17  _ _ _ hw hl hH hz hS
    · have hw := hw.2 hc
      refine lv_iconst (v := (1 : Int32)) hx hb dX0_in_13 (by decide) ?_
      refine lv_goto (tgt := 18) hx hb dX0_in_14 (by decide) ?_
      exact hJ_18 (1 : Int32) _ _ _ hw hl hH hz hS
theorem no_X0_392 : zNo "WhatIfSheet" 392 11 := ⟨RX11, TX11, 10, rfl, q1321, q1322, q170⟩
theorem fk_X0_209 {ci : Nat} (h : ci ∈ [2, 6, 7, 8, 9, 10]) : zFk "WhatIfSheet" 209 ci 2 := by
  simp only [List.mem_cons, List.not_mem_nil, or_false] at h
  rcases h with rfl | rfl | rfl | rfl | rfl | rfl
  · exact ⟨RX2, TX2, 3, rfl, by decide, q662⟩
  · exact ⟨RX6, TX6, 3, rfl, by decide, q662⟩
  · exact ⟨RX7, TX7, 3, rfl, by decide, q662⟩
  · exact ⟨RX8, TX8, 3, rfl, by decide, q662⟩
  · exact ⟨RX9, TX9, 3, rfl, by decide, q662⟩
  · exact ⟨RX10, TX10, 3, rfl, by decide, q662⟩
theorem fp_X0_239 {ci : Nat} (h : ci ∈ [2, 6, 7, 8, 9, 10]) : zFp "WhatIfSheet" 239 ci 1 (.object "WhatIfSheet$Formula") := by
  simp only [List.mem_cons, List.not_mem_nil, or_false] at h
  rcases h with rfl | rfl | rfl | rfl | rfl | rfl
  · exact ⟨RX2, TX2, 3, rfl, by decide, q659, rfl, by decide +kernel⟩
  · exact ⟨RX6, TX6, 3, rfl, by decide, q659, rfl, by decide +kernel⟩
  · exact ⟨RX7, TX7, 3, rfl, by decide, q659, rfl, by decide +kernel⟩
  · exact ⟨RX8, TX8, 3, rfl, by decide, q659, rfl, by decide +kernel⟩
  · exact ⟨RX9, TX9, 3, rfl, by decide, q659, rfl, by decide +kernel⟩
  · exact ⟨RX10, TX10, 3, rfl, by decide, q659, rfl, by decide +kernel⟩
theorem fp_X0_209 {ci : Nat} (h : ci ∈ [2, 6, 7, 8, 9, 10]) : zFp "WhatIfSheet" 209 ci 2 .double := by
  simp only [List.mem_cons, List.not_mem_nil, or_false] at h
  rcases h with rfl | rfl | rfl | rfl | rfl | rfl
  · exact ⟨RX2, TX2, 3, rfl, by decide, q662, rfl, by decide +kernel⟩
  · exact ⟨RX6, TX6, 3, rfl, by decide, q662, rfl, by decide +kernel⟩
  · exact ⟨RX7, TX7, 3, rfl, by decide, q662, rfl, by decide +kernel⟩
  · exact ⟨RX8, TX8, 3, rfl, by decide, q662, rfl, by decide +kernel⟩
  · exact ⟨RX9, TX9, 3, rfl, by decide, q662, rfl, by decide +kernel⟩
  · exact ⟨RX10, TX10, 3, rfl, by decide, q662, rfl, by decide +kernel⟩
theorem fk_X0_403 {ci : Nat} (h : ci ∈ [12]) : zFk "WhatIfSheet" 403 ci 6 := by
  simp only [List.mem_cons, List.not_mem_nil, or_false] at h
  rcases h with rfl
  · exact ⟨RX12, TX12, 7, rfl, by decide, q1467⟩
def wp_X0_formula (l : Launch) (g : zG) (d : Nat) (mc ms : Nat) (h0 : Nat) (x1 : Int32) (hp : zHp) (nx : Nat) (Post : Int32 → zHp → Nat → Prop) : Prop :=
  (0 ≤ mc ∧ 0 ≤ ms ∧ zMt l g yX0_isCell cX0_isCell 1 (some .boolean) d 0 0 [.int x1] hp nx (zQi g fun x_3 hp_1 nx_2 =>
  ((x_3 = 0 →
  (0 ≤ mc ∧ 0 ≤ ms ∧ Post (-2 : Int32) hp_1 nx_2)) ∧
  (¬ x_3 = 0 →
  (znw g mc ms hp_1 nx_2 0 0 11 fun hp_4 =>
  ∀ nx_5 kc_6 ks_7 : Nat, nx_5 = (nx_2 + 1) → kc_6 = (0 + 1) → ks_7 = (0 + zNn 11) →
  (∃ c_8 s_9 : Nat, kc_6 + c_8 ≤ mc ∧ ks_7 + s_9 ≤ ms ∧ zMt l g yX11_init cX11_init 2 none d c_8 s_9 (.ref nx_2 :: [va_rf (some h0)]) hp_4 nx_5 (zQv g fun hp_10 nx_11 =>
  (∃ c_12 s_13 : Nat, (kc_6 + c_8) + c_12 ≤ mc ∧ (ks_7 + s_9) + s_13 ≤ ms ∧ zo hp_10 (some nx_2) [11] fun a_97 ci_98 fs_99 => zMx l g yX11_whole cX11_whole 2 (some (.object "WhatIfSheet$Formula")) d c_12 s_13 (.ref a_97 :: []) hp_10 nx_11 (zQq g fun r_16 hp_14 nx_15 =>
  (zpt g hp_14 (some h0) [0] 20 (.int (0 : Int32)) fun hp_20 =>
  (((kc_6 + c_8) + c_12) ≤ mc ∧ ((ks_7 + s_9) + s_13) ≤ ms ∧ zo hp_20 (some h0) [0] fun a_82 ci_83 fs_84 => zMt l g yX0_isVaried cX0_isVaried 6 (some .boolean) d 0 0 (.ref a_82 :: [.int x1]) hp_20 nx_15 (zQi g fun x_23 hp_21 nx_22 =>
  ((x_23 = 0 →
  (zgR hp_21 (some h0) [0] 0 fun r_27 =>
  (zaR (g.2.1 7) hp_21 r_27 fun a_28 n_29 f_30 => vp_in x1 n_29 ∧ ∀ r_31 : Option Nat, r_31 = f_30 x1.toNatClampNeg →
  (zgR hp_21 r_31 [2, 6, 7, 8, 9, 10] 1 fun r_35 =>
  (zgD hp_21 r_31 [2, 6, 7, 8, 9, 10] 2 fun x_39 =>
  (zpt g hp_21 r_31 [2, 6, 7, 8, 9, 10] 1 (va_rf r_16) fun hp_43 =>
  (zpt g hp_43 r_31 [2, 6, 7, 8, 9, 10] 2 (.double (9221120237041090560 : UInt64)) fun hp_47 =>
  (∃ c_48 s_49 : Nat, ((kc_6 + c_8) + c_12) + c_48 ≤ mc ∧ ((ks_7 + s_9) + s_13) + s_49 ≤ ms ∧ zo hp_47 (some h0) [0] fun a_79 ci_80 fs_81 => zMtW l g yX0_orders cX0_orders 2 (some .int) [(0, 11, 12, 333)] d c_48 s_49 (.ref a_79 :: []) hp_47 nx_22 (zQi g fun x_52 hp_50 nx_51 =>
  (∃ P_136 : (Option Nat) → (Option Nat) → (Option Nat) → UInt64 → Int32 → Int32 → zHp → Nat → Nat → Nat → Prop, (∀ (r_53 : Option Nat) (r_54 : Option Nat) (r_55 : Option Nat) (x_56 : UInt64) (x_57 : Int32) (x_58 : Int32) (hp_59 : zHp) (nx_60 : Nat) (kc_61 : Nat) (ks_62 : Nat), P_136 r_53 r_54 r_55 x_56 x_57 x_58 hp_59 nx_60 kc_61 ks_62 →
  (kc_61 ≤ mc ∧ ks_62 ≤ ms ∧ Post x_58 hp_59 nx_60)) ∧
  ((x_52 = (1 : Int32) →
  P_136 r_16 r_31 r_35 x_39 x_52 x_52 hp_50 nx_51 (((kc_6 + c_8) + c_12) + c_48) (((ks_7 + s_9) + s_13) + s_49)) ∧
  (¬ x_52 = (1 : Int32) →
  (zpt g hp_50 r_31 [2, 6, 7, 8, 9, 10] 1 (va_rf r_35) fun hp_66 =>
  (zpt g hp_66 r_31 [2, 6, 7, 8, 9, 10] 2 (.double x_39) fun hp_70 =>
  (∃ c_71 s_72 : Nat, (((kc_6 + c_8) + c_12) + c_48) + c_71 ≤ mc ∧ (((ks_7 + s_9) + s_13) + s_49) + s_72 ≤ ms ∧ zo hp_70 (some h0) [0] fun a_76 ci_77 fs_78 => zMtW l g yX0_orders cX0_orders 2 (some .int) [(0, 11, 12, 333)] d c_71 s_72 (.ref a_76 :: []) hp_70 nx_51 (zQi g fun x_75 hp_73 nx_74 =>
  P_136 r_16 r_31 r_35 x_39 x_52 x_52 hp_73 nx_74 ((((kc_6 + c_8) + c_12) + c_48) + c_71) ((((ks_7 + s_9) + s_13) + s_49) + s_72))))))))))))))))) ∧
  (¬ x_23 = 0 →
  (((kc_6 + c_8) + c_12) ≤ mc ∧ ((ks_7 + s_9) + s_13) ≤ ms ∧ Post (-3 : Int32) hp_21 nx_22))))))) "WhatIfSheet$Fault" (fun q_85 hp_86 nx_87 => zo hp_86 (some q_85) [12] fun _ _ _ =>
  (zgI hp_86 (some q_85) [12] 6 fun x_91 =>
  (∀ x_92 : Int32, x_92 = (-100 : Int32) - x_91 →
  (zpt g hp_86 (some h0) [0] 20 (.int (0 : Int32)) fun hp_96 =>
  (((kc_6 + c_8) + c_12) ≤ mc ∧ ((ks_7 + s_9) + s_13) ≤ ms ∧ Post x_92 hp_96 nx_87)))))))))))))
set_option maxHeartbeats 40000000 in
theorem met_X0_formula {l : Launch} {g : zG} {d : Nat} {mc ms : Nat} {h0 : Nat} {x1 : Int32} {hp : zHp} {nx : Nat} {Post : Int32 → zHp → Nat → Prop} (hw : wp_X0_formula l g d mc ms h0 x1 hp nx Post) : zMtW l g yX0_formula cX0_formula 10 (some .int) [(10, 22, 30, 401), (10, 22, 48, 0), (30, 40, 48, 0), (48, 50, 48, 0), (91, 113, 139, 0), (139, 141, 139, 0)] (d + 1) mc ms [.ref h0, .int x1] hp nx (zQi g Post) := by
  refine z_startT (by decide) (Nat.le_of_ble_eq_true rfl) ?_
  intro p e s m below meth c hk hr hin htb hH hz ls hl
  have hx := hk.1.1
  have hb := hk.1.2.1
  have hown := hk.1.2.2.2.1
  have hts := hk.1.2.2.2.2
  have hS : va_S (zAd g) s.heap s.heap [] := va_S.rf
  have hl : lv_has ls 10 [(0, va_rf (some h0)), (1, .int x1)] := hl
  unfold wp_X0_formula at hw
  refine lv_iload_n hx hb dX0_formula_0 rfl (lv_at hl 1 rfl) ?_
  obtain ⟨hcl, hsl, hw⟩ := hw
  refine zr_calli (zr_runS (As := [.int x1]) hk hH hz hS hl.1 hw (va_cwS 1 hts (lw_S q1317 q1318 q131 q1319) rfl rfl rfl (by decide +kernel) (z_room (Nat.le_of_ble_eq_true rfl))) rfl rfl (Nat.le_of_ble_eq_true rfl) dX0_formula_1 ⟨hcl, hsl⟩) hS (fun x_3 hp_1 nx_2 hw H locs hH hz hS => ?_)
  refine lv_if_ne (tgt := 10) hx hb dX0_formula_4 (by decide) (fun hc => ?_) (fun hc => ?_)
  · have hw := hw.2 hc
    obtain ⟨hcl, hsl, hw⟩ := hw
    refine zx_new hk hH hz hS (ci := 11) no_X0_392 hcl hsl dX0_formula_10 (fun H hH hz hS hlt hnb => ?_)
    have hw := hw hlt hnb
    generalize va_up hp_1 nx_2 _ = hp_4 at hH hw
    obtain ⟨kc_6, ekc⟩ : ∃ k, k = (0 + 1) := ⟨_, rfl⟩
    obtain ⟨ks_7, eks⟩ : ∃ k, k = (0 + zNn 11) := ⟨_, rfl⟩
    have hw := hw _ _ _ rfl ekc eks
    refine W.widen (Nat.le_of_eq ekc.symm) (Nat.le_of_eq eks.symm) ?_
    clear ekc eks
    generalize (nx_2 + 1) = nx_5 at hz hw
    refine lv_dup hx hb dX0_formula_13 (z_cat _) ?_
    refine zr_aload_n (r := some h0) hx hb dX0_formula_14 rfl (lv_at hl 0 rfl) ?_
    obtain ⟨c_8, s_9, hcl, hsl, hw⟩ := hw
    refine zr_callv (zw_runIN (As := [va_rf (some h0)]) (r := some nx_2) hk hH hz hS hl.1 rfl hw ⟨va_cnB 1 hts (lw_meth q1325) rfl rfl rfl (hk.2.2.1.1 _ q1323 rfl) (hts _ q170) (by decide +kernel) (z_room (Nat.le_of_ble_eq_true rfl)), rfl, hts _ q1324⟩ rfl rfl (by simp only [List.map_cons, List.map_nil, z_cat]; exact Nat.le_of_ble_eq_true rfl) dX0_formula_15 ⟨hcl, hsl⟩) hS (fun hp_10 nx_11 hw H locs hH hz hS => ?_)
    obtain ⟨c_12, s_13, hcl, hsl, hw⟩ := hw
    obtain ⟨a_97, ci_98, fs_99, er, he, hc, hw⟩ := zo_e hw
    obtain rfl := List.mem_singleton.mp hc
    refine zy_callq (zy_runV (As := []) hk hH hz hS hl.1 er hw (cwV 0 hts (lw_V q1389 q1390 q1391 q170 q1392) rfl rfl rfl (by decide +kernel) (z_room (Nat.le_of_ble_eq_true rfl))) he rfl rfl rfl (Nat.le_of_ble_eq_true rfl) dX0_formula_18 ⟨hcl, hsl⟩) hS ?_ (fun r_16 hp_14 nx_15 hw H locs hH hz hS => ?_)
    · intro q_85 hp_86 nx_87 hw H locs hH hz hS hq
      obtain ⟨_, _, _, _, _, _, hw⟩ := zo_e hw
      refine zy_catch hk hq (name := "WhatIfSheet$Fault") (tableOf []) ⟨10, 22, 30, 401⟩ (tableOf [(10, 22, 48, 0), (30, 40, 48, 0), (48, 50, 48, 0), (91, 113, 139, 0), (139, 141, 139, 0)]) htb (by simp [tableOf, covers]) (by decide) (by decide) q1316 q1452 ?_
      refine zr_astore_n (r := some q_85) (i := 3) (lv' := [(3, va_rf (some q_85)), (0, va_rf (some h0)), (1, .int x1)]) hx hb dX0_formula_30 rfl hl (by decide) (by first | rfl | simp [List.filter_cons, z_cat, z_catI, z_catJ, z_catF, z_catD]) (fun ls hl => ?_)
      refine lv_bipush (v := (-100 : Int32)) hx hb dX0_formula_31 (by decide) ?_
      refine zr_aload_n (r := some q_85) hx hb dX0_formula_33 rfl (lv_at hl 0 rfl) ?_
      obtain ⟨a_88, ci_89, fs_90, x_91, er, he, hc, hv, hw⟩ := zgI_e hw
      refine zw_get hk hH er he hv (fk_X0_403 hc) dX0_formula_34 ?_
      refine lv_isub hx hb dX0_formula_37 ?_
      refine lv_topi (fun x_92 ex_92 => ?_)
      have hw := hw x_92 ex_92
      refine lv_istore (lv' := [(4, .int x_92), (3, va_rf (some q_85)), (0, va_rf (some h0)), (1, .int x1)]) hx hb dX0_formula_38 hl (by decide) (by first | rfl | simp [List.filter_cons, z_cat, z_catI, z_catJ, z_catF, z_catD]) (fun ls hl => ?_)
      refine zr_aload_n (r := some h0) hx hb dX0_formula_40 rfl (lv_at hl 2 rfl) ?_
      refine lv_iconst (v := (0 : Int32)) hx hb dX0_formula_41 (by decide) ?_
      obtain ⟨a_93, ci_94, fs_95, hp_96, er, he, hc, hA, hkl, eh, hw⟩ := zpt_e hw
      refine zw_put hk hH hz hS er he hA hkl eh (fp_X0_383 hc) rfl rfl dX0_formula_42 (fun H locs hH hz hS => ?_)
      refine lv_iload hx hb dX0_formula_45 (lv_at hl 0 rfl) ?_
      obtain ⟨hkc, hks, hw⟩ := hw
      exact zr_iret hk hr hH hz hS hw hkc hks dX0_formula_47
    · refine zr_astore_n (r := r_16) (i := 2) (lv' := [(2, va_rf r_16), (0, va_rf (some h0)), (1, .int x1)]) hx hb dX0_formula_21 rfl hl (by decide) (by first | rfl | simp [List.filter_cons, z_cat, z_catI, z_catJ, z_catF, z_catD]) (fun ls hl => ?_)
      refine zr_aload_n (r := some h0) hx hb dX0_formula_22 rfl (lv_at hl 1 rfl) ?_
      refine lv_iconst (v := (0 : Int32)) hx hb dX0_formula_23 (by decide) ?_
      obtain ⟨a_17, ci_18, fs_19, hp_20, er, he, hc, hA, hkl, eh, hw⟩ := zpt_e hw
      refine zw_put hk hH hz hS er he hA hkl eh (fp_X0_383 hc) rfl rfl dX0_formula_24 (fun H locs hH hz hS => ?_)
      refine lv_goto (tgt := 58) hx hb dX0_formula_27 (by decide) ?_
      refine zr_aload_n (r := some h0) hx hb dX0_formula_58 rfl (lv_at hl 1 rfl) ?_
      refine lv_iload_n hx hb dX0_formula_59 rfl (lv_at hl 2 rfl) ?_
      obtain ⟨hcl, hsl, hw⟩ := hw
      obtain ⟨a_82, ci_83, fs_84, er, he, hc, hw⟩ := zo_e hw
      obtain rfl := List.mem_singleton.mp hc
      refine zr_calli (zw_runV (As := [.int x1]) hk hH hz hS hl.1 er hw (cwV 1 hts (lw_V q1954 q1956 qs39 q131 q1957) rfl rfl rfl (by decide +kernel) (z_room (Nat.le_of_ble_eq_true rfl))) he rfl rfl rfl (Nat.le_of_ble_eq_true rfl) dX0_formula_60 ⟨hcl, hsl⟩) hS (fun x_23 hp_21 nx_22 hw H locs hH hz hS => ?_)
      refine lv_if_eq (tgt := 69) hx hb dX0_formula_63 (by decide) (fun hc => ?_) (fun hc => ?_)
      · have hw := hw.1 hc
        refine zr_aload_n (r := some h0) hx hb dX0_formula_69 rfl (lv_at hl 1 rfl) ?_
        obtain ⟨a_24, ci_25, fs_26, r_27, er, he, hc, hv, hw⟩ := zgR_e hw
        refine zw_get hk hH er he hv (fk_X0_31 hc) dX0_formula_70 ?_
        refine lv_iload_n hx hb dX0_formula_73 rfl (lv_at hl 2 rfl) ?_
        obtain ⟨a_28, n_29, f_30, er, he, hi, hw⟩ := zaR_e hw
        have hw := hw _ rfl
        refine zw_aald hk hH 7 er he rfl rfl hi dX0_formula_74 ?_
        generalize f_30 x1.toNatClampNeg = r_31 at hw ⊢
        refine zr_astore_n (r := r_31) (i := 3) (lv' := [(3, va_rf r_31), (2, va_rf r_16), (0, va_rf (some h0)), (1, .int x1)]) hx hb dX0_formula_75 rfl hl (by decide) (by first | rfl | simp [List.filter_cons, z_cat, z_catI, z_catJ, z_catF, z_catD]) (fun ls hl => ?_)
        refine zr_aload_n (r := r_31) hx hb dX0_formula_76 rfl (lv_at hl 0 rfl) ?_
        obtain ⟨a_32, ci_33, fs_34, r_35, er, he, hc, hv, hw⟩ := zgR_e hw
        refine zw_get hk hH er he hv (fk_X0_239 hc) dX0_formula_77 ?_
        refine zr_astore (r := r_35) (lv' := [(4, va_rf r_35), (3, va_rf r_31), (2, va_rf r_16), (0, va_rf (some h0)), (1, .int x1)]) hx hb dX0_formula_80 hl (by decide) (by first | rfl | simp [List.filter_cons, z_cat, z_catI, z_catJ, z_catF, z_catD]) (fun ls hl => ?_)
        refine zr_aload_n (r := r_31) hx hb dX0_formula_82 rfl (lv_at hl 1 rfl) ?_
        obtain ⟨a_36, ci_37, fs_38, x_39, er, he, hc, hv, hw⟩ := zgD_e hw
        refine zw_get hk hH er he hv (fk_X0_209 hc) dX0_formula_83 ?_
        refine lv_dstore (lv' := [(5, .double x_39), (4, va_rf r_35), (3, va_rf r_31), (2, va_rf r_16), (0, va_rf (some h0)), (1, .int x1)]) hx hb dX0_formula_86 hl (by decide) (by first | rfl | simp [List.filter_cons, z_cat, z_catI, z_catJ, z_catF, z_catD]) (fun ls hl => ?_)
        refine lv_iconst (v := (-1 : Int32)) hx hb dX0_formula_88 (by decide) ?_
        refine lv_istore (lv' := [(7, .int (-1 : Int32)), (5, .double x_39), (4, va_rf r_35), (3, va_rf r_31), (2, va_rf r_16), (0, va_rf (some h0)), (1, .int x1)]) hx hb dX0_formula_89 hl (by decide) (by first | rfl | simp [List.filter_cons, z_cat, z_catI, z_catJ, z_catF, z_catD]) (fun ls hl => ?_)
        refine zr_aload_n (r := r_31) hx hb dX0_formula_91 rfl (lv_at hl 3 rfl) ?_
        refine zr_aload_n (r := r_16) hx hb dX0_formula_92 rfl (lv_at hl 4 rfl) ?_
        obtain ⟨a_40, ci_41, fs_42, hp_43, er, he, hc, hA, hkl, eh, hw⟩ := zpt_e hw
        refine zw_put hk hH hz hS er he hA hkl eh (fp_X0_239 hc) (z_narR _ _) (z_fitR _ _) dX0_formula_93 (fun H locs hH hz hS => ?_)
        refine zr_aload_n (r := r_31) hx hb dX0_formula_96 rfl (lv_at hl 3 rfl) ?_
        refine lv_ldc2d hx hb hown (hts _ q1962) dX0_formula_97 ?_
        obtain ⟨a_44, ci_45, fs_46, hp_47, er, he, hc, hA, hkl, eh, hw⟩ := zpt_e hw
        refine zw_put hk hH hz hS er he hA hkl eh (fp_X0_209 hc) rfl rfl dX0_formula_100 (fun H locs hH hz hS => ?_)
        refine zr_aload_n (r := some h0) hx hb dX0_formula_103 rfl (lv_at hl 5 rfl) ?_
        obtain ⟨c_48, s_49, hcl, hsl, hw⟩ := hw
        obtain ⟨a_79, ci_80, fs_81, er, he, hc, hw⟩ := zo_e hw
        obtain rfl := List.mem_singleton.mp hc
        refine zr_calli (zw_runVW (As := []) hk hH hz hS hl.1 er hw (vx_cwVW 0 hts (lw_VW q680 q682 qs2 q131 q683) rfl rfl rfl (by decide +kernel) (z_room (Nat.le_of_ble_eq_true rfl))) he rfl rfl rfl (Nat.le_of_ble_eq_true rfl) dX0_formula_104 ⟨hcl, hsl⟩) hS (fun x_52 hp_50 nx_51 hw H locs hH hz hS => ?_)
        refine lv_istore (lv' := [(7, .int x_52), (5, .double x_39), (4, va_rf r_35), (3, va_rf r_31), (2, va_rf r_16), (0, va_rf (some h0)), (1, .int x1)]) hx hb dX0_formula_107 hl (by decide) (by first | rfl | simp [List.filter_cons, z_cat, z_catI, z_catJ, z_catF, z_catD]) (fun ls hl => ?_)
        refine lv_iload hx hb dX0_formula_109 (lv_at hl 0 rfl) ?_
        refine lv_istore (lv' := [(8, .int x_52), (7, .int x_52), (5, .double x_39), (4, va_rf r_35), (3, va_rf r_31), (2, va_rf r_16), (0, va_rf (some h0)), (1, .int x1)]) hx hb dX0_formula_111 hl (by decide) (by first | rfl | simp [List.filter_cons, z_cat, z_catI, z_catJ, z_catF, z_catD]) (fun ls hl => ?_)
        refine lv_iload hx hb dX0_formula_113 (lv_at hl 1 rfl) ?_
        refine lv_iconst (v := (1 : Int32)) hx hb dX0_formula_115 (by decide) ?_
        obtain ⟨P_136, hP_136, hw⟩ := hw
        have hJ_136 : ∀ (r_53 : Option Nat) (r_54 : Option Nat) (r_55 : Option Nat) (x_56 : UInt64) (x_57 : Int32) (x_58 : Int32) (hp_59 : zHp) (nx_60 : Nat) (kc_61 : Nat) (ks_62 : Nat) (H : Heap) (locs : List Loc) (ls : Array Slot), P_136 r_53 r_54 r_55 x_56 x_57 x_58 hp_59 nx_60 kc_61 ks_62 → lv_has ls 10 [(0, va_rf (some h0)), (1, .int x1), (2, va_rf r_53), (3, va_rf r_54), (4, va_rf r_55), (5, .double x_56), (7, .int x_57), (8, .int x_58)] → zHd g hp_59 H → H.size = nx_60 → va_S (zAd g) s.heap H locs → W p l e (zrm (d + 1) mc ms) s m ([.ref h0, .int x1] : List Value).toArray below meth c H locs kc_61 ks_62 (MQ below (zQi g Post) ([.ref h0, .int x1] : List Value).toArray s mc ms (zAd g)) (F0 m 136 ls []) := by
          intro r_53 r_54 r_55 x_56 x_57 x_58 hp_59 nx_60 kc_61 ks_62 H locs ls hw hl hH hz hS
          have hw := hP_136 r_53 r_54 r_55 x_56 x_57 x_58 hp_59 nx_60 kc_61 ks_62 hw
          refine lv_iload hx hb dX0_formula_136 (lv_at hl 7 rfl) ?_
          obtain ⟨hkc, hks, hw⟩ := hw
          exact zr_iret hk hr hH hz hS hw hkc hks dX0_formula_138
        refine lv_icmp_eq (tgt := 136) hx hb dX0_formula_116 (by decide) (fun hc => ?_) (fun hc => ?_)
        · have hw := hw.1 hc
          exact hJ_136 r_16 r_31 r_35 x_39 x_52 x_52 hp_50 nx_51 (((kc_6 + c_8) + c_12) + c_48) (((ks_7 + s_9) + s_13) + s_49) _ _ _ hw (lv_sub hl [6, 7, 5, 4, 3, 2, 1, 0] rfl) hH hz hS
        · have hw := hw.2 hc
          refine zr_aload_n (r := r_31) hx hb dX0_formula_119 rfl (lv_at hl 4 rfl) ?_
          refine zr_aload (r := r_35) hx hb dX0_formula_120 (lv_at hl 3 rfl) ?_
          obtain ⟨a_63, ci_64, fs_65, hp_66, er, he, hc, hA, hkl, eh, hw⟩ := zpt_e hw
          refine zw_put hk hH hz hS er he hA hkl eh (fp_X0_239 hc) (z_narR _ _) (z_fitR _ _) dX0_formula_122 (fun H locs hH hz hS => ?_)
          refine zr_aload_n (r := r_31) hx hb dX0_formula_125 rfl (lv_at hl 4 rfl) ?_
          refine lv_dload hx hb dX0_formula_126 (lv_at hl 2 rfl) ?_
          obtain ⟨a_67, ci_68, fs_69, hp_70, er, he, hc, hA, hkl, eh, hw⟩ := zpt_e hw
          refine zw_put hk hH hz hS er he hA hkl eh (fp_X0_209 hc) rfl rfl dX0_formula_128 (fun H locs hH hz hS => ?_)
          refine zr_aload_n (r := some h0) hx hb dX0_formula_131 rfl (lv_at hl 6 rfl) ?_
          obtain ⟨c_71, s_72, hcl, hsl, hw⟩ := hw
          obtain ⟨a_76, ci_77, fs_78, er, he, hc, hw⟩ := zo_e hw
          obtain rfl := List.mem_singleton.mp hc
          refine zr_calli (zw_runVW (As := []) hk hH hz hS hl.1 er hw (vx_cwVW 0 hts (lw_VW q680 q682 qs2 q131 q683) rfl rfl rfl (by decide +kernel) (z_room (Nat.le_of_ble_eq_true rfl))) he rfl rfl rfl (Nat.le_of_ble_eq_true rfl) dX0_formula_132 ⟨hcl, hsl⟩) hS (fun x_75 hp_73 nx_74 hw H locs hH hz hS => ?_)
          refine lv_pop hx hb dX0_formula_135 rfl ?_
          exact hJ_136 r_16 r_31 r_35 x_39 x_52 x_52 hp_73 nx_74 ((((kc_6 + c_8) + c_12) + c_48) + c_71) ((((ks_7 + s_9) + s_13) + s_49) + s_72) _ _ _ hw (lv_sub hl [6, 7, 5, 4, 3, 2, 1, 0] rfl) hH hz hS
      · have hw := hw.2 hc
        refine lv_bipush (v := (-3 : Int32)) hx hb dX0_formula_66 (by decide) ?_
        obtain ⟨hkc, hks, hw⟩ := hw
        exact zr_iret hk hr hH hz hS hw hkc hks dX0_formula_68
  · have hw := hw.1 hc
    refine lv_bipush (v := (-2 : Int32)) hx hb dX0_formula_7 (by decide) ?_
    obtain ⟨hkc, hks, hw⟩ := hw
    exact zr_iret hk hr hH hz hS hw hkc hks dX0_formula_9
def wp_X0_isCell (l : Launch) (g : zG) (d : Nat) (x0 : Int32) (hp : zHp) (nx : Nat) (Post : Int32 → zHp → Nat → Prop) : Prop :=
  (zMt l g yX0_in cX0_in 6 (some .boolean) d 0 0 [.long x0.toInt64, .long (0 : Int64), .long (23 : Int64)] hp nx (zQi g fun x_3 hp_1 nx_2 =>
  (((x_3 = 0 ∨ x_3 = 1) ∧ Post x_3 hp_1 nx_2))))
set_option maxHeartbeats 40000000 in
theorem met_X0_isCell {l : Launch} {g : zG} {d : Nat} {x0 : Int32} {hp : zHp} {nx : Nat} {Post : Int32 → zHp → Nat → Prop} (hw : wp_X0_isCell l g d x0 hp nx Post) : zMt l g yX0_isCell cX0_isCell 1 (some .boolean) (d + 1) 0 0 [.int x0] hp nx (zQi g Post) := by
  refine z_start (by decide) (Nat.le_of_ble_eq_true rfl) ?_
  intro p e s m below meth c hk hr hin hH hz ls hl
  have hx := hk.1.1
  have hb := hk.1.2.1
  have hown := hk.1.2.2.2.1
  have hts := hk.1.2.2.2.2
  have hS : va_S (zAd g) s.heap s.heap [] := va_S.rf
  have hl : lv_has ls 1 [(0, .int x0)] := hl
  unfold wp_X0_isCell at hw
  refine lv_iload_n hx hb dX0_isCell_0 rfl (lv_at hl 0 rfl) ?_
  refine lv_i2l hx hb dX0_isCell_1 rfl ?_
  refine lv_lconst (v := (0 : Int64)) hx hb dX0_isCell_2 (by decide) ?_
  refine lv_ldc2 hx hb hown (hts _ q1320) dX0_isCell_3 ?_
  refine zr_calli (zr_runS (As := [.long x0.toInt64, .long (0 : Int64), .long (23 : Int64)]) hk hH hz hS hl.1 hw (va_cwS 3 hts (lw_S q1308 q1309 q131 q1310) rfl rfl rfl (by decide +kernel) (z_room (Nat.le_of_ble_eq_true rfl))) rfl rfl (Nat.le_of_ble_eq_true rfl) dX0_isCell_6 ⟨Nat.le_of_ble_eq_true rfl, Nat.le_of_ble_eq_true rfl⟩) hS (fun x_3 hp_1 nx_2 hw H locs hH hz hS => ?_)
  exact zr_zret hk hr hH hz hS hw.1 hw.2 (Nat.le_of_ble_eq_true rfl) (Nat.le_of_ble_eq_true rfl) dX0_isCell_9
def wp_X0_isVaried (l : Launch) (g : zG) (d : Nat) (h0 : Nat) (x1 : Int32) (hp : zHp) (nx : Nat) (Post : Int32 → zHp → Nat → Prop) : Prop :=
  (zgR hp (some h0) [0] 1 fun r_4 =>
  (zln (g.2.1 8) hp r_4 fun x_7 =>
  (∃ I_11 : Nat → (Option Nat) → Int32 → Int32 → zHp → Nat → Prop, (∃ n_32, I_11 n_32 r_4 x_7 (0 : Int32) hp nx) ∧ ∀ (n_13 : Nat) (r_8 : Option Nat) (x_9 : Int32) (x_10 : Int32) (hp_11 : zHp) (nx_12 : Nat), I_11 n_13 r_8 x_9 x_10 hp_11 nx_12 →
  ((x_9 ≤ x_10 →
  (Post (0 : Int32) hp_11 nx_12)) ∧
  (¬ x_9 ≤ x_10 →
  (zaR (g.2.1 8) hp_11 r_8 fun a_14 n_15 f_16 => vp_in x_10 n_15 ∧ ∀ r_17 : Option Nat, r_17 = f_16 x_10.toNatClampNeg →
  (∃ P_39 : (Option Nat) → Int32 → Int32 → (Option Nat) → zHp → Nat → Prop, (∀ (r_18 : Option Nat) (x_19 : Int32) (x_20 : Int32) (r_21 : Option Nat) (hp_22 : zHp) (nx_23 : Nat), P_39 r_18 x_19 x_20 r_21 hp_22 nx_23 →
  (∀ x_24 : Int32, x_24 = x_20 + (1 : Int32) →
  (∃ k_25, k_25 < n_13 ∧ I_11 k_25 r_18 x_19 x_24 hp_22 nx_23))) ∧
  ((r_17 = none →
  P_39 r_8 x_9 x_10 r_17 hp_11 nx_12) ∧
  (¬ r_17 = none →
  (zo hp_11 r_17 [31] fun a_29 ci_30 fs_31 => zMt l g yX31_varies cX31_varies 2 (some .boolean) d 0 0 (.ref a_29 :: [.int x1]) hp_11 nx_12 (zQi g fun x_28 hp_26 nx_27 =>
  ((x_28 = 0 →
  P_39 r_8 x_9 x_10 r_17 hp_26 nx_27) ∧
  (¬ x_28 = 0 →
  (Post (1 : Int32) hp_26 nx_27))))))))))))))
set_option maxHeartbeats 40000000 in
theorem met_X0_isVaried {l : Launch} {g : zG} {d : Nat} {h0 : Nat} {x1 : Int32} {hp : zHp} {nx : Nat} {Post : Int32 → zHp → Nat → Prop} (hw : wp_X0_isVaried l g d h0 x1 hp nx Post) : zMt l g yX0_isVaried cX0_isVaried 6 (some .boolean) (d + 1) 0 0 [.ref h0, .int x1] hp nx (zQi g Post) := by
  refine z_start (by decide) (Nat.le_of_ble_eq_true rfl) ?_
  intro p e s m below meth c hk hr hin hH hz ls hl
  have hx := hk.1.1
  have hb := hk.1.2.1
  have hown := hk.1.2.2.2.1
  have hts := hk.1.2.2.2.2
  have hS : va_S (zAd g) s.heap s.heap [] := va_S.rf
  have hl : lv_has ls 6 [(0, va_rf (some h0)), (1, .int x1)] := hl
  unfold wp_X0_isVaried at hw
  refine zr_aload_n (r := some h0) hx hb dX0_isVaried_0 rfl (lv_at hl 0 rfl) ?_
  obtain ⟨a_1, ci_2, fs_3, r_4, er, he, hc, hv, hw⟩ := zgR_e hw
  refine zw_get hk hH er he hv (fk_X0_37 hc) dX0_isVaried_1 ?_
  refine zr_astore_n (r := r_4) (i := 2) (lv' := [(2, va_rf r_4), (0, va_rf (some h0)), (1, .int x1)]) hx hb dX0_isVaried_4 rfl hl (by decide) (by first | rfl | simp [List.filter_cons, z_cat, z_catI, z_catJ, z_catF, z_catD]) (fun ls hl => ?_)
  refine zr_aload_n (r := r_4) hx hb dX0_isVaried_5 rfl (lv_at hl 0 rfl) ?_
  obtain ⟨a_5, v_6, er, he, hw⟩ := zln_e hw
  refine zw_alen hk hH 8 er he rfl dX0_isVaried_6 ?_
  generalize Int32.ofNat v_6.1 = x_7 at hw ⊢
  refine lv_istore_n (i := 3) (lv' := [(3, .int x_7), (2, va_rf r_4), (0, va_rf (some h0)), (1, .int x1)]) hx hb dX0_isVaried_7 rfl hl (by decide) (by first | rfl | simp [List.filter_cons, z_cat, z_catI, z_catJ, z_catF, z_catD]) (fun ls hl => ?_)
  refine lv_iconst (v := (0 : Int32)) hx hb dX0_isVaried_8 (by decide) ?_
  refine lv_istore (lv' := [(4, .int (0 : Int32)), (3, .int x_7), (2, va_rf r_4), (0, va_rf (some h0)), (1, .int x1)]) hx hb dX0_isVaried_9 hl (by decide) (by first | rfl | simp [List.filter_cons, z_cat, z_catI, z_catJ, z_catF, z_catD]) (fun ls hl => ?_)
  obtain ⟨I_11, ⟨n_32, hI⟩, hB_11⟩ := hw
  have hL_11 : ∀ (n_13 : Nat) (r_8 : Option Nat) (x_9 : Int32) (x_10 : Int32) (hp_11 : zHp) (nx_12 : Nat) (H : Heap) (locs : List Loc) (ls : Array Slot), I_11 n_13 r_8 x_9 x_10 hp_11 nx_12 → lv_has ls 6 [(0, va_rf (some h0)), (1, .int x1), (2, va_rf r_8), (3, .int x_9), (4, .int x_10)] → zHd g hp_11 H → H.size = nx_12 → va_S (zAd g) s.heap H locs → W p l e (zrm (d + 1) 0 0) s m ([.ref h0, .int x1] : List Value).toArray below meth c H locs 0 0 (MQ below (zQi g Post) ([.ref h0, .int x1] : List Value).toArray s 0 0 (zAd g)) (F0 m 11 ls []) := by
    intro n_13
    induction n_13 using Nat.strongRecOn with
    | _ n_13 ih_11 =>
      intro r_8 x_9 x_10 hp_11 nx_12 H locs ls hw hl hH hz hS
      have hw := hB_11 n_13 r_8 x_9 x_10 hp_11 nx_12 hw
      refine lv_iload hx hb dX0_isVaried_11 (lv_at hl 4 rfl) ?_
      refine lv_iload_n hx hb dX0_isVaried_13 rfl (lv_at hl 3 rfl) ?_
      refine lv_icmp_ge (tgt := 45) hx hb dX0_isVaried_14 (by decide) (fun hc => ?_) (fun hc => ?_)
      · have hw := hw.1 hc
        refine lv_iconst (v := (0 : Int32)) hx hb dX0_isVaried_45 (by decide) ?_
        exact zr_zret hk hr hH hz hS (Or.inl rfl) hw (Nat.le_of_ble_eq_true rfl) (Nat.le_of_ble_eq_true rfl) dX0_isVaried_46
      · have hw := hw.2 hc
        refine zr_aload_n (r := r_8) hx hb dX0_isVaried_17 rfl (lv_at hl 2 rfl) ?_
        refine lv_iload hx hb dX0_isVaried_18 (lv_at hl 4 rfl) ?_
        obtain ⟨a_14, n_15, f_16, er, he, hi, hw⟩ := zaR_e hw
        have hw := hw _ rfl
        refine zw_aald hk hH 8 er he rfl rfl hi dX0_isVaried_20 ?_
        generalize f_16 x_10.toNatClampNeg = r_17 at hw ⊢
        refine zr_astore (r := r_17) (lv' := [(5, va_rf r_17), (0, va_rf (some h0)), (1, .int x1), (2, va_rf r_8), (3, .int x_9), (4, .int x_10)]) hx hb dX0_isVaried_21 hl (by decide) (by first | rfl | simp [List.filter_cons, z_cat, z_catI, z_catJ, z_catF, z_catD]) (fun ls hl => ?_)
        refine zr_aload (r := r_17) hx hb dX0_isVaried_23 (lv_at hl 0 rfl) ?_
        obtain ⟨P_39, hP_39, hw⟩ := hw
        have hJ_39 : ∀ (r_18 : Option Nat) (x_19 : Int32) (x_20 : Int32) (r_21 : Option Nat) (hp_22 : zHp) (nx_23 : Nat) (H : Heap) (locs : List Loc) (ls : Array Slot), P_39 r_18 x_19 x_20 r_21 hp_22 nx_23 → lv_has ls 6 [(0, va_rf (some h0)), (1, .int x1), (2, va_rf r_18), (3, .int x_19), (4, .int x_20), (5, va_rf r_21)] → zHd g hp_22 H → H.size = nx_23 → va_S (zAd g) s.heap H locs → W p l e (zrm (d + 1) 0 0) s m ([.ref h0, .int x1] : List Value).toArray below meth c H locs 0 0 (MQ below (zQi g Post) ([.ref h0, .int x1] : List Value).toArray s 0 0 (zAd g)) (F0 m 39 ls []) := by
          intro r_18 x_19 x_20 r_21 hp_22 nx_23 H locs ls hw hl hH hz hS
          have hw := hP_39 r_18 x_19 x_20 r_21 hp_22 nx_23 hw
          obtain ⟨x_24, ex_24⟩ : ∃ y : Int32, y = x_20 + (1 : Int32) := ⟨_, rfl⟩
          have hw := hw x_24 ex_24
          refine lv_iinc (v := x_24) (lv' := [(4, .int x_24), (0, va_rf (some h0)), (1, .int x1), (2, va_rf r_18), (3, .int x_19), (5, va_rf r_21)]) hx hb dX0_isVaried_39 hl (k := 4) rfl (by rw [ex_24]; rfl) (by decide) (by first | rfl | simp [List.filter_cons, z_cat, z_catI, z_catJ, z_catF, z_catD]) (fun ls hl => ?_)
          refine lv_goto (tgt := 11) hx hb dX0_isVaried_42 (by decide) ?_
          obtain ⟨k_25, hlt, hw⟩ := hw
          exact ih_11 k_25 hlt r_18 x_19 x_24 hp_22 nx_23 _ _ _ hw (lv_sub hl [1, 2, 3, 4, 0] rfl) hH hz hS
        refine zr_ifnull (r := r_17) (tgt := 39) hx hb dX0_isVaried_25 (by decide) (fun hc => ?_) (fun hc => ?_)
        · have hw := hw.1 hc
          exact hJ_39 r_8 x_9 x_10 r_17 hp_11 nx_12 _ _ _ hw (lv_sub hl [1, 2, 3, 4, 5, 0] rfl) hH hz hS
        · have hw := hw.2 hc
          refine zr_aload (r := r_17) hx hb dX0_isVaried_28 (lv_at hl 0 rfl) ?_
          refine lv_iload_n hx hb dX0_isVaried_30 rfl (lv_at hl 2 rfl) ?_
          obtain ⟨a_29, ci_30, fs_31, er, he, hc, hw⟩ := zo_e hw
          obtain rfl := List.mem_singleton.mp hc
          refine zr_calli (zw_runV (As := [.int x1]) hk hH hz hS hl.1 er hw (cwV 1 hts (lw_V q1958 q1959 q1960 q195 q1961) rfl rfl rfl (by decide +kernel) (z_room (Nat.le_of_ble_eq_true rfl))) he rfl rfl rfl (Nat.le_of_ble_eq_true rfl) dX0_isVaried_31 ⟨Nat.le_of_ble_eq_true rfl, Nat.le_of_ble_eq_true rfl⟩) hS (fun x_28 hp_26 nx_27 hw H locs hH hz hS => ?_)
          refine lv_if_eq (tgt := 39) hx hb dX0_isVaried_34 (by decide) (fun hc => ?_) (fun hc => ?_)
          · have hw := hw.1 hc
            exact hJ_39 r_8 x_9 x_10 r_17 hp_26 nx_27 _ _ _ hw (lv_sub hl [1, 2, 3, 4, 5, 0] rfl) hH hz hS
          · have hw := hw.2 hc
            refine lv_iconst (v := (1 : Int32)) hx hb dX0_isVaried_37 (by decide) ?_
            exact zr_zret hk hr hH hz hS (Or.inr rfl) hw (Nat.le_of_ble_eq_true rfl) (Nat.le_of_ble_eq_true rfl) dX0_isVaried_38
  exact hL_11 n_32 r_4 x_7 (0 : Int32) hp nx _ _ _ hI (lv_sub hl [3, 4, 2, 1, 0] rfl) hH hz hS
def wp_X0_set (l : Launch) (g : zG) (d : Nat) (h0 : Nat) (x1 : Int32) (x2 : Int32) (hp : zHp) (nx : Nat) (Post : Int32 → zHp → Nat → Prop) : Prop :=
  (zMt l g yX0_isCell cX0_isCell 1 (some .boolean) d 0 0 [.int x1] hp nx (zQi g fun x_3 hp_1 nx_2 =>
  (∃ P_21 : zHp → Nat → Prop, (∀ (hp_4 : zHp) (nx_5 : Nat), P_21 hp_4 nx_5 →
  (Post (-2 : Int32) hp_4 nx_5)) ∧
  ((x_3 = 0 →
  P_21 hp_1 nx_2) ∧
  (¬ x_3 = 0 →
  (zMt l g yX0_in cX0_in 6 (some .boolean) d 0 0 [.long x2.toInt64, .long (-8000000 : Int64), .long (8000000 : Int64)] hp_1 nx_2 (zQi g fun x_8 hp_6 nx_7 =>
  ((x_8 = 0 →
  P_21 hp_6 nx_7) ∧
  (¬ x_8 = 0 →
  (zgR hp_6 (some h0) [0] 0 fun r_12 =>
  (zaR (g.2.1 7) hp_6 r_12 fun a_13 n_14 f_15 => vp_in x1 n_14 ∧ ∀ r_16 : Option Nat, r_16 = f_15 x1.toNatClampNeg →
  (zo hp_6 r_16 [2, 6, 7, 8, 9, 10] fun a_47 ci_48 fs_49 => ∃ PP_50 : Int32 → zHp → Nat → Prop, (∀ (x_19 : Int32) (hp_17 : zHp) (nx_18 : Nat), PP_50 x_19 hp_17 nx_18 →
  ((x_19 = 0 →
  (Post (-3 : Int32) hp_17 nx_18)) ∧
  (¬ x_19 = 0 →
  (zgR hp_17 (some h0) [0] 0 fun r_23 =>
  (zaR (g.2.1 7) hp_17 r_23 fun a_24 n_25 f_26 => vp_in x1 n_25 ∧ ∀ r_27 : Option Nat, r_27 = f_26 x1.toNatClampNeg →
  (zgR hp_17 (some h0) [0] 0 fun r_31 =>
  (zaR (g.2.1 7) hp_17 r_31 fun a_32 n_33 f_34 => vp_in x1 n_33 ∧ ∀ r_35 : Option Nat, r_35 = f_34 x1.toNatClampNeg →
  (vf_n64 (FP.ddiv (FP.i2d x2) (4620693217682128896 : UInt64)) ∧ (zo hp_17 r_35 [2, 6, 7, 8, 9, 10] fun a_43 ci_44 fs_45 => ∃ PP_46 : UInt64 → zHp → Nat → Prop, (∀ (x_38 : UInt64) (hp_36 : zHp) (nx_37 : Nat), PP_46 x_38 hp_36 nx_37 →
  (zpt g hp_36 r_27 [2, 6, 7, 8, 9, 10] 2 (.double x_38) fun hp_42 =>
  (Post (1 : Int32) hp_42 nx_37))) ∧ zMt l g yX2_kept cX2_kept 5 (some .double) d 0 0 (.ref a_43 :: [.double (FP.ddiv (FP.i2d x2) (4620693217682128896 : UInt64))]) hp_17 nx_18 (zQd g PP_46)))))))))) ∧ zMt l g yX2_isInput cX2_isInput 1 (some .boolean) d 0 0 (.ref a_47 :: []) hp_6 nx_7 (zQi g PP_50)))))))))))))
set_option maxHeartbeats 40000000 in
theorem met_X0_set {l : Launch} {g : zG} {d : Nat} {h0 : Nat} {x1 : Int32} {x2 : Int32} {hp : zHp} {nx : Nat} {Post : Int32 → zHp → Nat → Prop} (hw : wp_X0_set l g d h0 x1 x2 hp nx Post) : zMt l g yX0_set cX0_set 3 (some .int) (d + 1) 0 0 [.ref h0, .int x1, .int x2] hp nx (zQi g Post) := by
  refine z_start (by decide) (Nat.le_of_ble_eq_true rfl) ?_
  intro p e s m below meth c hk hr hin hH hz ls hl
  have hx := hk.1.1
  have hb := hk.1.2.1
  have hown := hk.1.2.2.2.1
  have hts := hk.1.2.2.2.2
  have hS : va_S (zAd g) s.heap s.heap [] := va_S.rf
  have hl : lv_has ls 3 [(0, va_rf (some h0)), (1, .int x1), (2, .int x2)] := hl
  unfold wp_X0_set at hw
  refine lv_iload_n hx hb dX0_set_0 rfl (lv_at hl 1 rfl) ?_
  refine zr_calli (zr_runS (As := [.int x1]) hk hH hz hS hl.1 hw (va_cwS 1 hts (lw_S q1317 q1318 q131 q1319) rfl rfl rfl (by decide +kernel) (z_room (Nat.le_of_ble_eq_true rfl))) rfl rfl (Nat.le_of_ble_eq_true rfl) dX0_set_1 ⟨Nat.le_of_ble_eq_true rfl, Nat.le_of_ble_eq_true rfl⟩) hS (fun x_3 hp_1 nx_2 hw H locs hH hz hS => ?_)
  obtain ⟨P_21, hP_21, hw⟩ := hw
  have hJ_21 : ∀ (hp_4 : zHp) (nx_5 : Nat) (H : Heap) (locs : List Loc) (ls : Array Slot), P_21 hp_4 nx_5 → lv_has ls 3 [(0, va_rf (some h0)), (1, .int x1), (2, .int x2)] → zHd g hp_4 H → H.size = nx_5 → va_S (zAd g) s.heap H locs → W p l e (zrm (d + 1) 0 0) s m ([.ref h0, .int x1, .int x2] : List Value).toArray below meth c H locs 0 0 (MQ below (zQi g Post) ([.ref h0, .int x1, .int x2] : List Value).toArray s 0 0 (zAd g)) (F0 m 21 ls []) := by
    intro hp_4 nx_5 H locs ls hw hl hH hz hS
    have hw := hP_21 hp_4 nx_5 hw
    refine lv_bipush (v := (-2 : Int32)) hx hb dX0_set_21 (by decide) ?_
    exact zr_iret hk hr hH hz hS hw (Nat.le_of_ble_eq_true rfl) (Nat.le_of_ble_eq_true rfl) dX0_set_23
  refine lv_if_eq (tgt := 21) hx hb dX0_set_4 (by decide) (fun hc => ?_) (fun hc => ?_)
  · have hw := hw.1 hc
    exact hJ_21 hp_1 nx_2 _ _ _ hw hl hH hz hS
  · have hw := hw.2 hc
    refine lv_iload_n hx hb dX0_set_7 rfl (lv_at hl 2 rfl) ?_
    refine lv_i2l hx hb dX0_set_8 rfl ?_
    refine lv_ldc2 hx hb hown (hts _ q1967) dX0_set_9 ?_
    refine lv_ldc2 hx hb hown (hts _ q1968) dX0_set_12 ?_
    refine zr_calli (zr_runS (As := [.long x2.toInt64, .long (-8000000 : Int64), .long (8000000 : Int64)]) hk hH hz hS hl.1 hw (va_cwS 3 hts (lw_S q1308 q1309 q131 q1310) rfl rfl rfl (by decide +kernel) (z_room (Nat.le_of_ble_eq_true rfl))) rfl rfl (Nat.le_of_ble_eq_true rfl) dX0_set_15 ⟨Nat.le_of_ble_eq_true rfl, Nat.le_of_ble_eq_true rfl⟩) hS (fun x_8 hp_6 nx_7 hw H locs hH hz hS => ?_)
    refine lv_if_ne (tgt := 24) hx hb dX0_set_18 (by decide) (fun hc => ?_) (fun hc => ?_)
    · have hw := hw.2 hc
      refine zr_aload_n (r := some h0) hx hb dX0_set_24 rfl (lv_at hl 0 rfl) ?_
      obtain ⟨a_9, ci_10, fs_11, r_12, er, he, hc, hv, hw⟩ := zgR_e hw
      refine zw_get hk hH er he hv (fk_X0_31 hc) dX0_set_25 ?_
      refine lv_iload_n hx hb dX0_set_28 rfl (lv_at hl 1 rfl) ?_
      obtain ⟨a_13, n_14, f_15, er, he, hi, hw⟩ := zaR_e hw
      have hw := hw _ rfl
      refine zw_aald hk hH 7 er he rfl rfl hi dX0_set_29 ?_
      generalize f_15 x1.toNatClampNeg = r_16 at hw ⊢
      obtain ⟨a_47, ci_48, fs_49, er, he, hc, PP_50, hPP, hw⟩ := zo_e hw
      have hC : ∀ (x_19 : Int32) (hp_17 : zHp) (nx_18 : Nat), PP_50 x_19 hp_17 nx_18 → ∀ (H : Heap) (locs : List Loc), zHd g hp_17 H → H.size = nx_18 → va_S (zAd g) s.heap H locs → W p l e (zrm (d + 1) 0 0) s m ([.ref h0, .int x1, .int x2] : List Value).toArray below meth c H locs (0 + 0) (0 + 0) (MQ below (zQi g Post) ([.ref h0, .int x1, .int x2] : List Value).toArray s 0 0 (zAd g)) (F0 m 33 ls [.int x_19]) := by
        intro x_19 hp_17 nx_18 hw H locs hH hz hS
        have hw := hPP x_19 hp_17 nx_18 hw
        refine lv_if_ne (tgt := 39) hx hb dX0_set_33 (by decide) (fun hc => ?_) (fun hc => ?_)
        · have hw := hw.2 hc
          refine zr_aload_n (r := some h0) hx hb dX0_set_39 rfl (lv_at hl 0 rfl) ?_
          obtain ⟨a_20, ci_21, fs_22, r_23, er, he, hc, hv, hw⟩ := zgR_e hw
          refine zw_get hk hH er he hv (fk_X0_31 hc) dX0_set_40 ?_
          refine lv_iload_n hx hb dX0_set_43 rfl (lv_at hl 1 rfl) ?_
          obtain ⟨a_24, n_25, f_26, er, he, hi, hw⟩ := zaR_e hw
          have hw := hw _ rfl
          refine zw_aald hk hH 7 er he rfl rfl hi dX0_set_44 ?_
          generalize f_26 x1.toNatClampNeg = r_27 at hw ⊢
          refine zr_aload_n (r := some h0) hx hb dX0_set_45 rfl (lv_at hl 0 rfl) ?_
          obtain ⟨a_28, ci_29, fs_30, r_31, er, he, hc, hv, hw⟩ := zgR_e hw
          refine zw_get hk hH er he hv (fk_X0_31 hc) dX0_set_46 ?_
          refine lv_iload_n hx hb dX0_set_49 rfl (lv_at hl 1 rfl) ?_
          obtain ⟨a_32, n_33, f_34, er, he, hi, hw⟩ := zaR_e hw
          have hw := hw _ rfl
          refine zw_aald hk hH 7 er he rfl rfl hi dX0_set_50 ?_
          generalize f_34 x1.toNatClampNeg = r_35 at hw ⊢
          refine lv_iload_n hx hb dX0_set_51 rfl (lv_at hl 2 rfl) ?_
          refine lv_i2d hx hb dX0_set_52 ?_
          refine lv_ldc2d hx hb hown (hts _ q1979) dX0_set_53 ?_
          obtain ⟨hne, hw⟩ := hw
          refine lv_ddiv hx hb dX0_set_56 hne ?_
          obtain ⟨a_43, ci_44, fs_45, er, he, hc, PP_46, hPP, hw⟩ := zo_e hw
          have hC : ∀ (x_38 : UInt64) (hp_36 : zHp) (nx_37 : Nat), PP_46 x_38 hp_36 nx_37 → ∀ (H : Heap) (locs : List Loc), zHd g hp_36 H → H.size = nx_37 → va_S (zAd g) s.heap H locs → W p l e (zrm (d + 1) 0 0) s m ([.ref h0, .int x1, .int x2] : List Value).toArray below meth c H locs (0 + 0) (0 + 0) (MQ below (zQi g Post) ([.ref h0, .int x1, .int x2] : List Value).toArray s 0 0 (zAd g)) (F0 m 60 ls [.double x_38, va_rf r_27]) := by
            intro x_38 hp_36 nx_37 hw H locs hH hz hS
            have hw := hPP x_38 hp_36 nx_37 hw
            obtain ⟨a_39, ci_40, fs_41, hp_42, er, he, hc, hA, hkl, eh, hw⟩ := zpt_e hw
            refine zw_put hk hH hz hS er he hA hkl eh (fp_X0_209 hc) rfl rfl dX0_set_60 (fun H locs hH hz hS => ?_)
            refine lv_iconst (v := (1 : Int32)) hx hb dX0_set_63 (by decide) ?_
            exact zr_iret hk hr hH hz hS hw (Nat.le_of_ble_eq_true rfl) (Nat.le_of_ble_eq_true rfl) dX0_set_64
          simp only [List.mem_cons, List.not_mem_nil, or_false] at hc
          rcases hc with rfl | rfl | rfl | rfl | rfl | rfl
          · exact zr_calld (zw_runV (As := [.double (FP.ddiv (FP.i2d x2) (4620693217682128896 : UInt64))]) hk hH hz hS hl.1 er (hw) (cwV 1 hts (lw_V q1980 q1981 q1982 q152 q1989) rfl rfl rfl (by decide +kernel) (z_room (Nat.le_of_ble_eq_true rfl))) he rfl rfl rfl (by simp only [List.map_cons, List.map_nil, z_cat]; exact Nat.le_of_ble_eq_true rfl) dX0_set_57 ⟨Nat.le_of_ble_eq_true rfl, Nat.le_of_ble_eq_true rfl⟩) hS hC
          · exact zr_calld (zw_runU (As := [.double (FP.ddiv (FP.i2d x2) (4620693217682128896 : UInt64))]) hk hH hz hS hl.1 er (hw) (va_cwU 1 hts (z_U q1980 q1983 q1988 q1981 q152 q1989) rfl rfl rfl rfl (by decide +kernel) (z_room (Nat.le_of_ble_eq_true rfl))) he rfl rfl rfl (by simp only [List.map_cons, List.map_nil, z_cat]; exact Nat.le_of_ble_eq_true rfl) dX0_set_57 ⟨Nat.le_of_ble_eq_true rfl, Nat.le_of_ble_eq_true rfl⟩) hS hC
          · exact zr_calld (zw_runU (As := [.double (FP.ddiv (FP.i2d x2) (4620693217682128896 : UInt64))]) hk hH hz hS hl.1 er (hw) (va_cwU 1 hts (z_U q1980 q1983 q1985 q1981 q152 q1989) rfl rfl rfl rfl (by decide +kernel) (z_room (Nat.le_of_ble_eq_true rfl))) he rfl rfl rfl (by simp only [List.map_cons, List.map_nil, z_cat]; exact Nat.le_of_ble_eq_true rfl) dX0_set_57 ⟨Nat.le_of_ble_eq_true rfl, Nat.le_of_ble_eq_true rfl⟩) hS hC
          · exact zr_calld (zw_runU (As := [.double (FP.ddiv (FP.i2d x2) (4620693217682128896 : UInt64))]) hk hH hz hS hl.1 er (hw) (va_cwU 1 hts (z_U q1980 q1983 q1986 q1981 q152 q1989) rfl rfl rfl rfl (by decide +kernel) (z_room (Nat.le_of_ble_eq_true rfl))) he rfl rfl rfl (by simp only [List.map_cons, List.map_nil, z_cat]; exact Nat.le_of_ble_eq_true rfl) dX0_set_57 ⟨Nat.le_of_ble_eq_true rfl, Nat.le_of_ble_eq_true rfl⟩) hS hC
          · exact zr_calld (zw_runU (As := [.double (FP.ddiv (FP.i2d x2) (4620693217682128896 : UInt64))]) hk hH hz hS hl.1 er (hw) (va_cwU 1 hts (z_U q1980 q1983 q1987 q1981 q152 q1989) rfl rfl rfl rfl (by decide +kernel) (z_room (Nat.le_of_ble_eq_true rfl))) he rfl rfl rfl (by simp only [List.map_cons, List.map_nil, z_cat]; exact Nat.le_of_ble_eq_true rfl) dX0_set_57 ⟨Nat.le_of_ble_eq_true rfl, Nat.le_of_ble_eq_true rfl⟩) hS hC
          · exact zr_calld (zw_runU (As := [.double (FP.ddiv (FP.i2d x2) (4620693217682128896 : UInt64))]) hk hH hz hS hl.1 er (hw) (va_cwU 1 hts (z_U q1980 q1983 q1984 q1981 q152 q1989) rfl rfl rfl rfl (by decide +kernel) (z_room (Nat.le_of_ble_eq_true rfl))) he rfl rfl rfl (by simp only [List.map_cons, List.map_nil, z_cat]; exact Nat.le_of_ble_eq_true rfl) dX0_set_57 ⟨Nat.le_of_ble_eq_true rfl, Nat.le_of_ble_eq_true rfl⟩) hS hC
        · have hw := hw.1 hc
          refine lv_bipush (v := (-3 : Int32)) hx hb dX0_set_36 (by decide) ?_
          exact zr_iret hk hr hH hz hS hw (Nat.le_of_ble_eq_true rfl) (Nat.le_of_ble_eq_true rfl) dX0_set_38
      simp only [List.mem_cons, List.not_mem_nil, or_false] at hc
      rcases hc with rfl | rfl | rfl | rfl | rfl | rfl
      · exact zr_calli (zw_runV (As := []) hk hH hz hS hl.1 er (hw) (cwV 0 hts (lw_V q1969 q1970 q1971 q152 q1978) rfl rfl rfl (by decide +kernel) (z_room (Nat.le_of_ble_eq_true rfl))) he rfl rfl rfl (Nat.le_of_ble_eq_true rfl) dX0_set_30 ⟨Nat.le_of_ble_eq_true rfl, Nat.le_of_ble_eq_true rfl⟩) hS hC
      · exact zr_calli (zw_runU (As := []) hk hH hz hS hl.1 er (hw) (va_cwU 0 hts (z_U q1969 q1972 q1977 q1970 q152 q1978) rfl rfl rfl rfl (by decide +kernel) (z_room (Nat.le_of_ble_eq_true rfl))) he rfl rfl rfl (Nat.le_of_ble_eq_true rfl) dX0_set_30 ⟨Nat.le_of_ble_eq_true rfl, Nat.le_of_ble_eq_true rfl⟩) hS hC
      · exact zr_calli (zw_runU (As := []) hk hH hz hS hl.1 er (hw) (va_cwU 0 hts (z_U q1969 q1972 q1974 q1970 q152 q1978) rfl rfl rfl rfl (by decide +kernel) (z_room (Nat.le_of_ble_eq_true rfl))) he rfl rfl rfl (Nat.le_of_ble_eq_true rfl) dX0_set_30 ⟨Nat.le_of_ble_eq_true rfl, Nat.le_of_ble_eq_true rfl⟩) hS hC
      · exact zr_calli (zw_runU (As := []) hk hH hz hS hl.1 er (hw) (va_cwU 0 hts (z_U q1969 q1972 q1975 q1970 q152 q1978) rfl rfl rfl rfl (by decide +kernel) (z_room (Nat.le_of_ble_eq_true rfl))) he rfl rfl rfl (Nat.le_of_ble_eq_true rfl) dX0_set_30 ⟨Nat.le_of_ble_eq_true rfl, Nat.le_of_ble_eq_true rfl⟩) hS hC
      · exact zr_calli (zw_runU (As := []) hk hH hz hS hl.1 er (hw) (va_cwU 0 hts (z_U q1969 q1972 q1976 q1970 q152 q1978) rfl rfl rfl rfl (by decide +kernel) (z_room (Nat.le_of_ble_eq_true rfl))) he rfl rfl rfl (Nat.le_of_ble_eq_true rfl) dX0_set_30 ⟨Nat.le_of_ble_eq_true rfl, Nat.le_of_ble_eq_true rfl⟩) hS hC
      · exact zr_calli (zw_runU (As := []) hk hH hz hS hl.1 er (hw) (va_cwU 0 hts (z_U q1969 q1972 q1973 q1970 q152 q1978) rfl rfl rfl rfl (by decide +kernel) (z_room (Nat.le_of_ble_eq_true rfl))) he rfl rfl rfl (Nat.le_of_ble_eq_true rfl) dX0_set_30 ⟨Nat.le_of_ble_eq_true rfl, Nat.le_of_ble_eq_true rfl⟩) hS hC
    · have hw := hw.1 hc
      exact hJ_21 hp_6 nx_7 _ _ _ hw hl hH hz hS
def wp_X0_clear (l : Launch) (g : zG) (d : Nat) (mc ms : Nat) (h0 : Nat) (x1 : Int32) (hp : zHp) (nx : Nat) (Post : Int32 → zHp → Nat → Prop) : Prop :=
  (0 ≤ mc ∧ 0 ≤ ms ∧ zMt l g yX0_isCell cX0_isCell 1 (some .boolean) d 0 0 [.int x1] hp nx (zQi g fun x_3 hp_1 nx_2 =>
  ((x_3 = 0 →
  (0 ≤ mc ∧ 0 ≤ ms ∧ Post (-2 : Int32) hp_1 nx_2)) ∧
  (¬ x_3 = 0 →
  (zgR hp_1 (some h0) [0] 0 fun r_7 =>
  (zaR (g.2.1 7) hp_1 r_7 fun a_8 n_9 f_10 => vp_in x1 n_9 ∧ ∀ r_11 : Option Nat, r_11 = f_10 x1.toNatClampNeg →
  (zpt g hp_1 r_11 [2, 6, 7, 8, 9, 10] 1 (va_rf none) fun hp_15 =>
  (zgR hp_15 (some h0) [0] 0 fun r_19 =>
  (zaR (g.2.1 7) hp_15 r_19 fun a_20 n_21 f_22 => vp_in x1 n_21 ∧ ∀ r_23 : Option Nat, r_23 = f_22 x1.toNatClampNeg →
  (zpt g hp_15 r_23 [2, 6, 7, 8, 9, 10] 2 (.double (9221120237041090560 : UInt64)) fun hp_27 =>
  (∃ c_28 s_29 : Nat, 0 + c_28 ≤ mc ∧ 0 + s_29 ≤ ms ∧ zo hp_27 (some h0) [0] fun a_33 ci_34 fs_35 => zMtW l g yX0_orders cX0_orders 2 (some .int) [(0, 11, 12, 333)] d c_28 s_29 (.ref a_33 :: []) hp_27 nx_2 (zQi g fun x_32 hp_30 nx_31 =>
  ((0 + c_28) ≤ mc ∧ (0 + s_29) ≤ ms ∧ Post x_32 hp_30 nx_31)))))))))))))
set_option maxHeartbeats 40000000 in
theorem met_X0_clear {l : Launch} {g : zG} {d : Nat} {mc ms : Nat} {h0 : Nat} {x1 : Int32} {hp : zHp} {nx : Nat} {Post : Int32 → zHp → Nat → Prop} (hw : wp_X0_clear l g d mc ms h0 x1 hp nx Post) : zMt l g yX0_clear cX0_clear 2 (some .int) (d + 1) mc ms [.ref h0, .int x1] hp nx (zQi g Post) := by
  refine z_start (by decide) (Nat.le_of_ble_eq_true rfl) ?_
  intro p e s m below meth c hk hr hin hH hz ls hl
  have hx := hk.1.1
  have hb := hk.1.2.1
  have hown := hk.1.2.2.2.1
  have hts := hk.1.2.2.2.2
  have hS : va_S (zAd g) s.heap s.heap [] := va_S.rf
  have hl : lv_has ls 2 [(0, va_rf (some h0)), (1, .int x1)] := hl
  unfold wp_X0_clear at hw
  refine lv_iload_n hx hb dX0_clear_0 rfl (lv_at hl 1 rfl) ?_
  obtain ⟨hcl, hsl, hw⟩ := hw
  refine zr_calli (zr_runS (As := [.int x1]) hk hH hz hS hl.1 hw (va_cwS 1 hts (lw_S q1317 q1318 q131 q1319) rfl rfl rfl (by decide +kernel) (z_room (Nat.le_of_ble_eq_true rfl))) rfl rfl (Nat.le_of_ble_eq_true rfl) dX0_clear_1 ⟨hcl, hsl⟩) hS (fun x_3 hp_1 nx_2 hw H locs hH hz hS => ?_)
  refine lv_if_ne (tgt := 10) hx hb dX0_clear_4 (by decide) (fun hc => ?_) (fun hc => ?_)
  · have hw := hw.2 hc
    refine zr_aload_n (r := some h0) hx hb dX0_clear_10 rfl (lv_at hl 0 rfl) ?_
    obtain ⟨a_4, ci_5, fs_6, r_7, er, he, hc, hv, hw⟩ := zgR_e hw
    refine zw_get hk hH er he hv (fk_X0_31 hc) dX0_clear_11 ?_
    refine lv_iload_n hx hb dX0_clear_14 rfl (lv_at hl 1 rfl) ?_
    obtain ⟨a_8, n_9, f_10, er, he, hi, hw⟩ := zaR_e hw
    have hw := hw _ rfl
    refine zw_aald hk hH 7 er he rfl rfl hi dX0_clear_15 ?_
    generalize f_10 x1.toNatClampNeg = r_11 at hw ⊢
    refine zx_null hx hb dX0_clear_16 ?_
    obtain ⟨a_12, ci_13, fs_14, hp_15, er, he, hc, hA, hkl, eh, hw⟩ := zpt_e hw
    refine zw_put hk hH hz hS er he hA hkl eh (fp_X0_239 hc) (z_narR _ _) (z_fitR _ _) dX0_clear_17 (fun H locs hH hz hS => ?_)
    refine zr_aload_n (r := some h0) hx hb dX0_clear_20 rfl (lv_at hl 0 rfl) ?_
    obtain ⟨a_16, ci_17, fs_18, r_19, er, he, hc, hv, hw⟩ := zgR_e hw
    refine zw_get hk hH er he hv (fk_X0_31 hc) dX0_clear_21 ?_
    refine lv_iload_n hx hb dX0_clear_24 rfl (lv_at hl 1 rfl) ?_
    obtain ⟨a_20, n_21, f_22, er, he, hi, hw⟩ := zaR_e hw
    have hw := hw _ rfl
    refine zw_aald hk hH 7 er he rfl rfl hi dX0_clear_25 ?_
    generalize f_22 x1.toNatClampNeg = r_23 at hw ⊢
    refine lv_ldc2d hx hb hown (hts _ q1962) dX0_clear_26 ?_
    obtain ⟨a_24, ci_25, fs_26, hp_27, er, he, hc, hA, hkl, eh, hw⟩ := zpt_e hw
    refine zw_put hk hH hz hS er he hA hkl eh (fp_X0_209 hc) rfl rfl dX0_clear_29 (fun H locs hH hz hS => ?_)
    refine zr_aload_n (r := some h0) hx hb dX0_clear_32 rfl (lv_at hl 0 rfl) ?_
    obtain ⟨c_28, s_29, hcl, hsl, hw⟩ := hw
    obtain ⟨a_33, ci_34, fs_35, er, he, hc, hw⟩ := zo_e hw
    obtain rfl := List.mem_singleton.mp hc
    refine zr_calli (zw_runVW (As := []) hk hH hz hS hl.1 er hw (vx_cwVW 0 hts (lw_VW q680 q682 qs2 q131 q683) rfl rfl rfl (by decide +kernel) (z_room (Nat.le_of_ble_eq_true rfl))) he rfl rfl rfl (Nat.le_of_ble_eq_true rfl) dX0_clear_33 ⟨hcl, hsl⟩) hS (fun x_32 hp_30 nx_31 hw H locs hH hz hS => ?_)
    obtain ⟨hkc, hks, hw⟩ := hw
    exact zr_iret hk hr hH hz hS hw hkc hks dX0_clear_36
  · have hw := hw.1 hc
    refine lv_bipush (v := (-2 : Int32)) hx hb dX0_clear_7 (by decide) ?_
    obtain ⟨hkc, hks, hw⟩ := hw
    exact zr_iret hk hr hH hz hS hw hkc hks dX0_clear_9
def wp_X0_kind (l : Launch) (g : zG) (d : Nat) (mc ms : Nat) (h0 : Nat) (x1 : Int32) (x2 : Int32) (hp : zHp) (nx : Nat) (Post : Int32 → zHp → Nat → Prop) : Prop :=
  (0 ≤ mc ∧ 0 ≤ ms ∧ zMt l g yX0_isCell cX0_isCell 1 (some .boolean) d 0 0 [.int x1] hp nx (zQi g fun x_3 hp_1 nx_2 =>
  (∃ P_19 : zHp → Nat → Nat → Nat → Prop, (∀ (hp_4 : zHp) (nx_5 : Nat) (kc_6 : Nat) (ks_7 : Nat), P_19 hp_4 nx_5 kc_6 ks_7 →
  (kc_6 ≤ mc ∧ ks_7 ≤ ms ∧ Post (-2 : Int32) hp_4 nx_5)) ∧
  ((x_3 = 0 →
  P_19 hp_1 nx_2 0 0) ∧
  (¬ x_3 = 0 →
  (0 ≤ mc ∧ 0 ≤ ms ∧ zMt l g yX0_in cX0_in 6 (some .boolean) d 0 0 [.long x2.toInt64, .long (0 : Int64), .long (5 : Int64)] hp_1 nx_2 (zQi g fun x_10 hp_8 nx_9 =>
  ((x_10 = 0 →
  P_19 hp_8 nx_9 0 0) ∧
  (¬ x_10 = 0 →
  (zgR hp_8 (some h0) [0] 0 fun r_14 =>
  (zaR (g.2.1 7) hp_8 r_14 fun a_15 n_16 f_17 => vp_in x1 n_16 ∧ ∀ r_18 : Option Nat, r_18 = f_17 x1.toNatClampNeg →
  (0 ≤ mc ∧ 0 ≤ ms ∧ zo hp_8 r_18 [2, 6, 7, 8, 9, 10] fun a_50 ci_51 fs_52 => ∃ PP_53 : Int32 → zHp → Nat → Prop, (∀ (x_21 : Int32) (hp_19 : zHp) (nx_20 : Nat), PP_53 x_21 hp_19 nx_20 →
  (zgR hp_19 (some h0) [0] 0 fun r_25 =>
  (∃ c_26 s_27 : Nat, 0 + c_26 ≤ mc ∧ 0 + s_27 ≤ ms ∧ zMt l g yX0_made cX0_made 2 (some (.object "WhatIfSheet$Plain")) d c_26 s_27 [.int x1, .int x2] hp_19 nx_20 (zQq g fun r_30 hp_28 nx_29 =>
  (zgR hp_28 (some h0) [0] 0 fun r_34 =>
  (zaR (g.2.1 7) hp_28 r_34 fun a_35 n_36 f_37 => vp_in x1 n_36 ∧ ∀ r_38 : Option Nat, r_38 = f_37 x1.toNatClampNeg →
  ((0 + c_26) ≤ mc ∧ (0 + s_27) ≤ ms ∧ zo hp_28 r_30 [2, 6, 7, 8, 9, 10] fun a_46 ci_47 fs_48 => ∃ PP_49 : Option Nat → zHp → Nat → Prop, (∀ (r_41 : Option Nat) (hp_39 : zHp) (nx_40 : Nat), PP_49 r_41 hp_39 nx_40 →
  (zaR (g.2.1 7) hp_39 r_25 fun a_42 n_43 f_44 => vp_in x1 n_43 ∧ zB g ≤ a_42 ∧ zCa hp_39 r_41 [2, 6, 7, 8, 9, 10] ∧ ∀ hp_45 : zHp, hp_45 = va_up hp_39 a_42 (some (.inl (g.2.1 7, n_43, .inr (.inr (.inr (.inr (va_up f_44 x1.toNatClampNeg r_41))))))) →
  ((0 + c_26) ≤ mc ∧ (0 + s_27) ≤ ms ∧ Post x_21 hp_45 nx_40))) ∧ zMt l g yX2_like cX2_like 2 (some (.object "WhatIfSheet$Plain")) d 0 0 (.ref a_46 :: [va_rf r_38]) hp_28 nx_29 (zQq g PP_49)))))))) ∧ ((ci_51 = 2 → zMt l g yX2_kind cX2_kind 1 (some .int) d 0 0 (.ref a_50 :: []) hp_8 nx_9 (zQi g PP_53)) ∧ (ci_51 = 6 → zMt l g yX6_kind cX6_kind 1 (some .int) d 0 0 (.ref a_50 :: []) hp_8 nx_9 (zQi g PP_53)) ∧ (ci_51 = 7 → zMt l g yX7_kind cX7_kind 1 (some .int) d 0 0 (.ref a_50 :: []) hp_8 nx_9 (zQi g PP_53)) ∧ (ci_51 = 8 → zMt l g yX8_kind cX8_kind 1 (some .int) d 0 0 (.ref a_50 :: []) hp_8 nx_9 (zQi g PP_53)) ∧ (ci_51 = 9 → zMt l g yX9_kind cX9_kind 1 (some .int) d 0 0 (.ref a_50 :: []) hp_8 nx_9 (zQi g PP_53)) ∧ (ci_51 = 10 → zMt l g yX10_kind cX10_kind 1 (some .int) d 0 0 (.ref a_50 :: []) hp_8 nx_9 (zQi g PP_53)))))))))))))))
set_option maxHeartbeats 40000000 in
theorem met_X0_kind {l : Launch} {g : zG} {d : Nat} {mc ms : Nat} {h0 : Nat} {x1 : Int32} {x2 : Int32} {hp : zHp} {nx : Nat} {Post : Int32 → zHp → Nat → Prop} (hw : wp_X0_kind l g d mc ms h0 x1 x2 hp nx Post) : zMt l g yX0_kind cX0_kind 4 (some .int) (d + 1) mc ms [.ref h0, .int x1, .int x2] hp nx (zQi g Post) := by
  refine z_start (by decide) (Nat.le_of_ble_eq_true rfl) ?_
  intro p e s m below meth c hk hr hin hH hz ls hl
  have hx := hk.1.1
  have hb := hk.1.2.1
  have hown := hk.1.2.2.2.1
  have hts := hk.1.2.2.2.2
  have hS : va_S (zAd g) s.heap s.heap [] := va_S.rf
  have hl : lv_has ls 4 [(0, va_rf (some h0)), (1, .int x1), (2, .int x2)] := hl
  unfold wp_X0_kind at hw
  refine lv_iload_n hx hb dX0_kind_0 rfl (lv_at hl 1 rfl) ?_
  obtain ⟨hcl, hsl, hw⟩ := hw
  refine zr_calli (zr_runS (As := [.int x1]) hk hH hz hS hl.1 hw (va_cwS 1 hts (lw_S q1317 q1318 q131 q1319) rfl rfl rfl (by decide +kernel) (z_room (Nat.le_of_ble_eq_true rfl))) rfl rfl (Nat.le_of_ble_eq_true rfl) dX0_kind_1 ⟨hcl, hsl⟩) hS (fun x_3 hp_1 nx_2 hw H locs hH hz hS => ?_)
  obtain ⟨P_19, hP_19, hw⟩ := hw
  have hJ_19 : ∀ (hp_4 : zHp) (nx_5 : Nat) (kc_6 : Nat) (ks_7 : Nat) (H : Heap) (locs : List Loc) (ls : Array Slot), P_19 hp_4 nx_5 kc_6 ks_7 → lv_has ls 4 [(0, va_rf (some h0)), (1, .int x1), (2, .int x2)] → zHd g hp_4 H → H.size = nx_5 → va_S (zAd g) s.heap H locs → W p l e (zrm (d + 1) mc ms) s m ([.ref h0, .int x1, .int x2] : List Value).toArray below meth c H locs kc_6 ks_7 (MQ below (zQi g Post) ([.ref h0, .int x1, .int x2] : List Value).toArray s mc ms (zAd g)) (F0 m 19 ls []) := by
    intro hp_4 nx_5 kc_6 ks_7 H locs ls hw hl hH hz hS
    have hw := hP_19 hp_4 nx_5 kc_6 ks_7 hw
    refine lv_bipush (v := (-2 : Int32)) hx hb dX0_kind_19 (by decide) ?_
    obtain ⟨hkc, hks, hw⟩ := hw
    exact zr_iret hk hr hH hz hS hw hkc hks dX0_kind_21
  refine lv_if_eq (tgt := 19) hx hb dX0_kind_4 (by decide) (fun hc => ?_) (fun hc => ?_)
  · have hw := hw.1 hc
    exact hJ_19 hp_1 nx_2 0 0 _ _ _ hw hl hH hz hS
  · have hw := hw.2 hc
    refine lv_iload_n hx hb dX0_kind_7 rfl (lv_at hl 2 rfl) ?_
    refine lv_i2l hx hb dX0_kind_8 rfl ?_
    refine lv_lconst (v := (0 : Int64)) hx hb dX0_kind_9 (by decide) ?_
    refine lv_ldc2 hx hb hown (hts _ q1307) dX0_kind_10 ?_
    obtain ⟨hcl, hsl, hw⟩ := hw
    refine zr_calli (zr_runS (As := [.long x2.toInt64, .long (0 : Int64), .long (5 : Int64)]) hk hH hz hS hl.1 hw (va_cwS 3 hts (lw_S q1308 q1309 q131 q1310) rfl rfl rfl (by decide +kernel) (z_room (Nat.le_of_ble_eq_true rfl))) rfl rfl (Nat.le_of_ble_eq_true rfl) dX0_kind_13 ⟨hcl, hsl⟩) hS (fun x_10 hp_8 nx_9 hw H locs hH hz hS => ?_)
    refine lv_if_ne (tgt := 22) hx hb dX0_kind_16 (by decide) (fun hc => ?_) (fun hc => ?_)
    · have hw := hw.2 hc
      refine zr_aload_n (r := some h0) hx hb dX0_kind_22 rfl (lv_at hl 0 rfl) ?_
      obtain ⟨a_11, ci_12, fs_13, r_14, er, he, hc, hv, hw⟩ := zgR_e hw
      refine zw_get hk hH er he hv (fk_X0_31 hc) dX0_kind_23 ?_
      refine lv_iload_n hx hb dX0_kind_26 rfl (lv_at hl 1 rfl) ?_
      obtain ⟨a_15, n_16, f_17, er, he, hi, hw⟩ := zaR_e hw
      have hw := hw _ rfl
      refine zw_aald hk hH 7 er he rfl rfl hi dX0_kind_27 ?_
      generalize f_17 x1.toNatClampNeg = r_18 at hw ⊢
      obtain ⟨hcl, hsl, hw⟩ := hw
      obtain ⟨a_50, ci_51, fs_52, er, he, hc, PP_53, hPP, hw⟩ := zo_e hw
      have hC : ∀ (x_21 : Int32) (hp_19 : zHp) (nx_20 : Nat), PP_53 x_21 hp_19 nx_20 → ∀ (H : Heap) (locs : List Loc), zHd g hp_19 H → H.size = nx_20 → va_S (zAd g) s.heap H locs → W p l e (zrm (d + 1) mc ms) s m ([.ref h0, .int x1, .int x2] : List Value).toArray below meth c H locs (0 + 0) (0 + 0) (MQ below (zQi g Post) ([.ref h0, .int x1, .int x2] : List Value).toArray s mc ms (zAd g)) (F0 m 31 ls [.int x_21]) := by
        intro x_21 hp_19 nx_20 hw H locs hH hz hS
        have hw := hPP x_21 hp_19 nx_20 hw
        refine lv_istore_n (i := 3) (lv' := [(3, .int x_21), (0, va_rf (some h0)), (1, .int x1), (2, .int x2)]) hx hb dX0_kind_31 rfl hl (by decide) (by first | rfl | simp [List.filter_cons, z_cat, z_catI, z_catJ, z_catF, z_catD]) (fun ls hl => ?_)
        refine zr_aload_n (r := some h0) hx hb dX0_kind_32 rfl (lv_at hl 1 rfl) ?_
        obtain ⟨a_22, ci_23, fs_24, r_25, er, he, hc, hv, hw⟩ := zgR_e hw
        refine zw_get hk hH er he hv (fk_X0_31 hc) dX0_kind_33 ?_
        refine lv_iload_n hx hb dX0_kind_36 rfl (lv_at hl 2 rfl) ?_
        refine lv_iload_n hx hb dX0_kind_37 rfl (lv_at hl 2 rfl) ?_
        refine lv_iload_n hx hb dX0_kind_38 rfl (lv_at hl 3 rfl) ?_
        obtain ⟨c_26, s_27, hcl, hsl, hw⟩ := hw
        refine zr_callq (zr_runS (As := [.int x1, .int x2]) hk hH hz hS hl.1 hw (va_cwS 2 hts (lw_S q2051 q2052 q131 q2053) rfl rfl rfl (by decide +kernel) (z_room (Nat.le_of_ble_eq_true rfl))) rfl rfl (by simp only [List.map_cons, List.map_nil, z_cat]; exact Nat.le_of_ble_eq_true rfl) dX0_kind_39 ⟨hcl, hsl⟩) hS (fun r_30 hp_28 nx_29 hw H locs hH hz hS => ?_)
        refine zr_aload_n (r := some h0) hx hb dX0_kind_42 rfl (lv_at hl 1 rfl) ?_
        obtain ⟨a_31, ci_32, fs_33, r_34, er, he, hc, hv, hw⟩ := zgR_e hw
        refine zw_get hk hH er he hv (fk_X0_31 hc) dX0_kind_43 ?_
        refine lv_iload_n hx hb dX0_kind_46 rfl (lv_at hl 2 rfl) ?_
        obtain ⟨a_35, n_36, f_37, er, he, hi, hw⟩ := zaR_e hw
        have hw := hw _ rfl
        refine zw_aald hk hH 7 er he rfl rfl hi dX0_kind_47 ?_
        generalize f_37 x1.toNatClampNeg = r_38 at hw ⊢
        obtain ⟨hcl, hsl, hw⟩ := hw
        obtain ⟨a_46, ci_47, fs_48, er, he, hc, PP_49, hPP, hw⟩ := zo_e hw
        have hC : ∀ (r_41 : Option Nat) (hp_39 : zHp) (nx_40 : Nat), PP_49 r_41 hp_39 nx_40 → ∀ (H : Heap) (locs : List Loc), zHd g hp_39 H → H.size = nx_40 → va_S (zAd g) s.heap H locs → W p l e (zrm (d + 1) mc ms) s m ([.ref h0, .int x1, .int x2] : List Value).toArray below meth c H locs ((0 + c_26) + 0) ((0 + s_27) + 0) (MQ below (zQi g Post) ([.ref h0, .int x1, .int x2] : List Value).toArray s mc ms (zAd g)) (F0 m 51 ls [va_rf r_41, .int x1, va_rf r_25]) := by
          intro r_41 hp_39 nx_40 hw H locs hH hz hS
          have hw := hPP r_41 hp_39 nx_40 hw
          obtain ⟨a_42, n_43, f_44, er, he, hi, hA, hca, hw⟩ := zaR_e hw
          obtain ⟨hp_45, eh⟩ : ∃ y : zHp, y = va_up hp_39 a_42 (some (.inl (g.2.1 7, n_43, .inr (.inr (.inr (.inr (va_up f_44 x1.toNatClampNeg r_41))))))) := ⟨_, rfl⟩
          have hw := hw hp_45 eh
          refine zw_aast (v := r_41) (r := r_25) hk hH hz hS 7 er he rfl hi hA hca cw_WhatIfSheet_Plain eh dX0_kind_51 (fun H locs hH hz hS => ?_)
          refine lv_iload_n hx hb dX0_kind_52 rfl (lv_at hl 0 rfl) ?_
          obtain ⟨hkc, hks, hw⟩ := hw
          exact zr_iret hk hr hH hz hS hw hkc hks dX0_kind_53
        simp only [List.mem_cons, List.not_mem_nil, or_false] at hc
        rcases hc with rfl | rfl | rfl | rfl | rfl | rfl
        · exact zr_callq (zw_runV (As := [va_rf r_38]) hk hH hz hS hl.1 er (hw) (cwV 1 hts (lw_V q2099 q2100 q2101 q152 q2108) rfl rfl rfl (by decide +kernel) (z_room (Nat.le_of_ble_eq_true rfl))) he rfl rfl rfl (by simp only [List.map_cons, List.map_nil, z_cat]; exact Nat.le_of_ble_eq_true rfl) dX0_kind_48 ⟨hcl, hsl⟩) hS hC
        · exact zr_callq (zw_runU (As := [va_rf r_38]) hk hH hz hS hl.1 er (hw) (va_cwU 1 hts (z_U q2099 q2102 q2107 q2100 q152 q2108) rfl rfl rfl rfl (by decide +kernel) (z_room (Nat.le_of_ble_eq_true rfl))) he rfl rfl rfl (by simp only [List.map_cons, List.map_nil, z_cat]; exact Nat.le_of_ble_eq_true rfl) dX0_kind_48 ⟨hcl, hsl⟩) hS hC
        · exact zr_callq (zw_runU (As := [va_rf r_38]) hk hH hz hS hl.1 er (hw) (va_cwU 1 hts (z_U q2099 q2102 q2104 q2100 q152 q2108) rfl rfl rfl rfl (by decide +kernel) (z_room (Nat.le_of_ble_eq_true rfl))) he rfl rfl rfl (by simp only [List.map_cons, List.map_nil, z_cat]; exact Nat.le_of_ble_eq_true rfl) dX0_kind_48 ⟨hcl, hsl⟩) hS hC
        · exact zr_callq (zw_runU (As := [va_rf r_38]) hk hH hz hS hl.1 er (hw) (va_cwU 1 hts (z_U q2099 q2102 q2105 q2100 q152 q2108) rfl rfl rfl rfl (by decide +kernel) (z_room (Nat.le_of_ble_eq_true rfl))) he rfl rfl rfl (by simp only [List.map_cons, List.map_nil, z_cat]; exact Nat.le_of_ble_eq_true rfl) dX0_kind_48 ⟨hcl, hsl⟩) hS hC
        · exact zr_callq (zw_runU (As := [va_rf r_38]) hk hH hz hS hl.1 er (hw) (va_cwU 1 hts (z_U q2099 q2102 q2106 q2100 q152 q2108) rfl rfl rfl rfl (by decide +kernel) (z_room (Nat.le_of_ble_eq_true rfl))) he rfl rfl rfl (by simp only [List.map_cons, List.map_nil, z_cat]; exact Nat.le_of_ble_eq_true rfl) dX0_kind_48 ⟨hcl, hsl⟩) hS hC
        · exact zr_callq (zw_runU (As := [va_rf r_38]) hk hH hz hS hl.1 er (hw) (va_cwU 1 hts (z_U q2099 q2102 q2103 q2100 q152 q2108) rfl rfl rfl rfl (by decide +kernel) (z_room (Nat.le_of_ble_eq_true rfl))) he rfl rfl rfl (by simp only [List.map_cons, List.map_nil, z_cat]; exact Nat.le_of_ble_eq_true rfl) dX0_kind_48 ⟨hcl, hsl⟩) hS hC
      simp only [List.mem_cons, List.not_mem_nil, or_false] at hc
      rcases hc with rfl | rfl | rfl | rfl | rfl | rfl
      · exact zr_calli (zw_runV (As := []) hk hH hz hS hl.1 er (hw.1 rfl) (cwV 0 hts (lw_V q2031 q2032 q2033 q152 q2050) rfl rfl rfl (by decide +kernel) (z_room (Nat.le_of_ble_eq_true rfl))) he rfl rfl rfl (Nat.le_of_ble_eq_true rfl) dX0_kind_28 ⟨hcl, hsl⟩) hS hC
      · exact zr_calli (zw_runU (As := []) hk hH hz hS hl.1 er (hw.2.1 rfl) (va_cwO 0 hts (z_O q2031 q2034 q2032 q2047 q2048 q163 q2049) rfl rfl rfl q2050 (by decide +kernel) (z_room (Nat.le_of_ble_eq_true rfl))) he rfl rfl rfl (Nat.le_of_ble_eq_true rfl) dX0_kind_28 ⟨hcl, hsl⟩) hS hC
      · exact zr_calli (zw_runU (As := []) hk hH hz hS hl.1 er (hw.2.2.1 rfl) (va_cwO 0 hts (z_O q2031 q2034 q2032 q2038 q2039 q164 q2040) rfl rfl rfl q2050 (by decide +kernel) (z_room (Nat.le_of_ble_eq_true rfl))) he rfl rfl rfl (Nat.le_of_ble_eq_true rfl) dX0_kind_28 ⟨hcl, hsl⟩) hS hC
      · exact zr_calli (zw_runU (As := []) hk hH hz hS hl.1 er (hw.2.2.2.1 rfl) (va_cwO 0 hts (z_O q2031 q2034 q2032 q2041 q2042 q165 q2043) rfl rfl rfl q2050 (by decide +kernel) (z_room (Nat.le_of_ble_eq_true rfl))) he rfl rfl rfl (Nat.le_of_ble_eq_true rfl) dX0_kind_28 ⟨hcl, hsl⟩) hS hC
      · exact zr_calli (zw_runU (As := []) hk hH hz hS hl.1 er (hw.2.2.2.2.1 rfl) (va_cwO 0 hts (z_O q2031 q2034 q2032 q2044 q2045 q166 q2046) rfl rfl rfl q2050 (by decide +kernel) (z_room (Nat.le_of_ble_eq_true rfl))) he rfl rfl rfl (Nat.le_of_ble_eq_true rfl) dX0_kind_28 ⟨hcl, hsl⟩) hS hC
      · exact zr_calli (zw_runU (As := []) hk hH hz hS hl.1 er (hw.2.2.2.2.2 rfl) (va_cwO 0 hts (z_O q2031 q2034 q2032 q2035 q2036 q167 q2037) rfl rfl rfl q2050 (by decide +kernel) (z_room (Nat.le_of_ble_eq_true rfl))) he rfl rfl rfl (Nat.le_of_ble_eq_true rfl) dX0_kind_28 ⟨hcl, hsl⟩) hS hC
    · have hw := hw.1 hc
      exact hJ_19 hp_8 nx_9 0 0 _ _ _ hw hl hH hz hS
theorem no_X0_9 : zNo "WhatIfSheet" 9 6 := ⟨RX6, TX6, 3, rfl, q2054, q2055, q163⟩
theorem no_X0_12 : zNo "WhatIfSheet" 12 7 := ⟨RX7, TX7, 3, rfl, q2063, q2064, q164⟩
theorem no_X0_15 : zNo "WhatIfSheet" 15 8 := ⟨RX8, TX8, 3, rfl, q2072, q2073, q165⟩
theorem no_X0_18 : zNo "WhatIfSheet" 18 9 := ⟨RX9, TX9, 3, rfl, q2081, q2082, q166⟩
theorem no_X0_21 : zNo "WhatIfSheet" 21 10 := ⟨RX10, TX10, 3, rfl, q2090, q2091, q167⟩
def wp_X0_made (l : Launch) (g : zG) (d : Nat) (mc ms : Nat) (x0 : Int32) (x1 : Int32) (hp : zHp) (nx : Nat) (Post : Option Nat → zHp → Nat → Prop) : Prop :=
  ((x1 = (0 : Int32) →
  (znw g mc ms hp nx 0 0 2 fun hp_1 =>
  ∀ nx_2 kc_3 ks_4 : Nat, nx_2 = (nx + 1) → kc_3 = (0 + 1) → ks_4 = (0 + zNn 2) →
  (kc_3 ≤ mc ∧ ks_4 ≤ ms ∧ zMt l g yX2_init cX2_init 2 none d 0 0 (.ref nx :: [.int x0]) hp_1 nx_2 (zQv g fun hp_5 nx_6 =>
  (kc_3 ≤ mc ∧ ks_4 ≤ ms ∧ Post (some nx) hp_5 nx_6))))) ∧
  (x1 = (1 : Int32) →
  (znw g mc ms hp nx 0 0 6 fun hp_10 =>
  ∀ nx_11 kc_12 ks_13 : Nat, nx_11 = (nx + 1) → kc_12 = (0 + 1) → ks_13 = (0 + zNn 6) →
  (kc_12 ≤ mc ∧ ks_13 ≤ ms ∧ zMt l g yX6_init cX6_init 2 none d 0 0 (.ref nx :: [.int x0]) hp_10 nx_11 (zQv g fun hp_14 nx_15 =>
  (kc_12 ≤ mc ∧ ks_13 ≤ ms ∧ Post (some nx) hp_14 nx_15))))) ∧
  (x1 = (2 : Int32) →
  (znw g mc ms hp nx 0 0 7 fun hp_19 =>
  ∀ nx_20 kc_21 ks_22 : Nat, nx_20 = (nx + 1) → kc_21 = (0 + 1) → ks_22 = (0 + zNn 7) →
  (kc_21 ≤ mc ∧ ks_22 ≤ ms ∧ zMt l g yX7_init cX7_init 2 none d 0 0 (.ref nx :: [.int x0]) hp_19 nx_20 (zQv g fun hp_23 nx_24 =>
  (kc_21 ≤ mc ∧ ks_22 ≤ ms ∧ Post (some nx) hp_23 nx_24))))) ∧
  (x1 = (3 : Int32) →
  (znw g mc ms hp nx 0 0 8 fun hp_28 =>
  ∀ nx_29 kc_30 ks_31 : Nat, nx_29 = (nx + 1) → kc_30 = (0 + 1) → ks_31 = (0 + zNn 8) →
  (kc_30 ≤ mc ∧ ks_31 ≤ ms ∧ zMt l g yX8_init cX8_init 2 none d 0 0 (.ref nx :: [.int x0]) hp_28 nx_29 (zQv g fun hp_32 nx_33 =>
  (kc_30 ≤ mc ∧ ks_31 ≤ ms ∧ Post (some nx) hp_32 nx_33))))) ∧
  (x1 = (4 : Int32) →
  (znw g mc ms hp nx 0 0 9 fun hp_37 =>
  ∀ nx_38 kc_39 ks_40 : Nat, nx_38 = (nx + 1) → kc_39 = (0 + 1) → ks_40 = (0 + zNn 9) →
  (kc_39 ≤ mc ∧ ks_40 ≤ ms ∧ zMt l g yX9_init cX9_init 2 none d 0 0 (.ref nx :: [.int x0]) hp_37 nx_38 (zQv g fun hp_41 nx_42 =>
  (kc_39 ≤ mc ∧ ks_40 ≤ ms ∧ Post (some nx) hp_41 nx_42))))) ∧
  (¬ x1 = (0 : Int32) ∧ ¬ x1 = (1 : Int32) ∧ ¬ x1 = (2 : Int32) ∧ ¬ x1 = (3 : Int32) ∧ ¬ x1 = (4 : Int32) →
  (znw g mc ms hp nx 0 0 10 fun hp_46 =>
  ∀ nx_47 kc_48 ks_49 : Nat, nx_47 = (nx + 1) → kc_48 = (0 + 1) → ks_49 = (0 + zNn 10) →
  (kc_48 ≤ mc ∧ ks_49 ≤ ms ∧ zMt l g yX10_init cX10_init 2 none d 0 0 (.ref nx :: [.int x0]) hp_46 nx_47 (zQv g fun hp_50 nx_51 =>
  (kc_48 ≤ mc ∧ ks_49 ≤ ms ∧ Post (some nx) hp_50 nx_51))))))
set_option maxHeartbeats 40000000 in
theorem met_X0_made {l : Launch} {g : zG} {d : Nat} {mc ms : Nat} {x0 : Int32} {x1 : Int32} {hp : zHp} {nx : Nat} {Post : Option Nat → zHp → Nat → Prop} (hw : wp_X0_made l g d mc ms x0 x1 hp nx Post) : zMt l g yX0_made cX0_made 2 (some (.object "WhatIfSheet$Plain")) (d + 1) mc ms [.int x0, .int x1] hp nx (zQq g Post) := by
  refine z_start (by decide) (Nat.le_of_ble_eq_true rfl) ?_
  intro p e s m below meth c hk hr hin hH hz ls hl
  have hx := hk.1.1
  have hb := hk.1.2.1
  have hown := hk.1.2.2.2.1
  have hts := hk.1.2.2.2.2
  have hS : va_S (zAd g) s.heap s.heap [] := va_S.rf
  have hl : lv_has ls 2 [(0, .int x0), (1, .int x1)] := hl
  unfold wp_X0_made at hw
  refine lv_iload_n hx hb dX0_made_0 rfl (lv_at hl 1 rfl) ?_
  by_cases hc0 : x1 = (0 : Int32)
  · have hw := hw.1 hc0
    refine lv_tableIn (tgt := 36) hx hb dX0_made_1 (by rw [hc0]; decide) (by rw [hc0]; decide) (by rw [hc0]; rfl) (by decide) ?_
    obtain ⟨hcl, hsl, hw⟩ := hw
    refine zx_new hk hH hz hS (ci := 2) no_X0_3 hcl hsl dX0_made_36 (fun H hH hz hS hlt hnb => ?_)
    have hw := hw hlt hnb
    generalize va_up hp nx _ = hp_1 at hH hw
    obtain ⟨kc_3, ekc⟩ : ∃ k, k = (0 + 1) := ⟨_, rfl⟩
    obtain ⟨ks_4, eks⟩ : ∃ k, k = (0 + zNn 2) := ⟨_, rfl⟩
    have hw := hw _ _ _ rfl ekc eks
    refine W.widen (Nat.le_of_eq ekc.symm) (Nat.le_of_eq eks.symm) ?_
    clear ekc eks
    generalize (nx + 1) = nx_2 at hz hw
    refine lv_dup hx hb dX0_made_39 (z_cat _) ?_
    refine lv_iload_n hx hb dX0_made_40 rfl (lv_at hl 0 rfl) ?_
    obtain ⟨hcl, hsl, hw⟩ := hw
    refine zr_callv (zw_runI (As := [.int x0]) (r := some nx) hk hH hz hS hl.1 rfl hw (cwI 1 hts (lw_meth q653) rfl rfl rfl (hts _ q152) (hts _ q651) (hts _ q652) rfl (by decide +kernel) (z_room (Nat.le_of_ble_eq_true rfl))) rfl rfl (by simp only [List.map_cons, List.map_nil, z_cat]; exact Nat.le_of_ble_eq_true rfl) dX0_made_41 ⟨hcl, hsl⟩) hS (fun hp_5 nx_6 hw H locs hH hz hS => ?_)
    obtain ⟨hkc, hks, hw⟩ := hw
    exact zr_aret (r := some nx) hk hr (Or.inl ⟨_, rfl⟩) hH hz hS hw hkc hks dX0_made_44
  by_cases hc1 : x1 = (1 : Int32)
  · have hw := hw.2.1 hc1
    refine lv_tableIn (tgt := 45) hx hb dX0_made_1 (by rw [hc1]; decide) (by rw [hc1]; decide) (by rw [hc1]; rfl) (by decide) ?_
    obtain ⟨hcl, hsl, hw⟩ := hw
    refine zx_new hk hH hz hS (ci := 6) no_X0_9 hcl hsl dX0_made_45 (fun H hH hz hS hlt hnb => ?_)
    have hw := hw hlt hnb
    generalize va_up hp nx _ = hp_10 at hH hw
    obtain ⟨kc_12, ekc⟩ : ∃ k, k = (0 + 1) := ⟨_, rfl⟩
    obtain ⟨ks_13, eks⟩ : ∃ k, k = (0 + zNn 6) := ⟨_, rfl⟩
    have hw := hw _ _ _ rfl ekc eks
    refine W.widen (Nat.le_of_eq ekc.symm) (Nat.le_of_eq eks.symm) ?_
    clear ekc eks
    generalize (nx + 1) = nx_11 at hz hw
    refine lv_dup hx hb dX0_made_48 (z_cat _) ?_
    refine lv_iload_n hx hb dX0_made_49 rfl (lv_at hl 0 rfl) ?_
    obtain ⟨hcl, hsl, hw⟩ := hw
    refine zr_callv (zw_runI (As := [.int x0]) (r := some nx) hk hH hz hS hl.1 rfl hw (cwI 1 hts (lw_meth q2058) rfl rfl rfl (hts _ q163) (hts _ q2056) (hts _ q2057) rfl (by decide +kernel) (z_room (Nat.le_of_ble_eq_true rfl))) rfl rfl (by simp only [List.map_cons, List.map_nil, z_cat]; exact Nat.le_of_ble_eq_true rfl) dX0_made_50 ⟨hcl, hsl⟩) hS (fun hp_14 nx_15 hw H locs hH hz hS => ?_)
    obtain ⟨hkc, hks, hw⟩ := hw
    exact zr_aret (r := some nx) hk hr (Or.inl ⟨_, rfl⟩) hH hz hS hw hkc hks dX0_made_53
  by_cases hc2 : x1 = (2 : Int32)
  · have hw := hw.2.2.1 hc2
    refine lv_tableIn (tgt := 54) hx hb dX0_made_1 (by rw [hc2]; decide) (by rw [hc2]; decide) (by rw [hc2]; rfl) (by decide) ?_
    obtain ⟨hcl, hsl, hw⟩ := hw
    refine zx_new hk hH hz hS (ci := 7) no_X0_12 hcl hsl dX0_made_54 (fun H hH hz hS hlt hnb => ?_)
    have hw := hw hlt hnb
    generalize va_up hp nx _ = hp_19 at hH hw
    obtain ⟨kc_21, ekc⟩ : ∃ k, k = (0 + 1) := ⟨_, rfl⟩
    obtain ⟨ks_22, eks⟩ : ∃ k, k = (0 + zNn 7) := ⟨_, rfl⟩
    have hw := hw _ _ _ rfl ekc eks
    refine W.widen (Nat.le_of_eq ekc.symm) (Nat.le_of_eq eks.symm) ?_
    clear ekc eks
    generalize (nx + 1) = nx_20 at hz hw
    refine lv_dup hx hb dX0_made_57 (z_cat _) ?_
    refine lv_iload_n hx hb dX0_made_58 rfl (lv_at hl 0 rfl) ?_
    obtain ⟨hcl, hsl, hw⟩ := hw
    refine zr_callv (zw_runI (As := [.int x0]) (r := some nx) hk hH hz hS hl.1 rfl hw (cwI 1 hts (lw_meth q2067) rfl rfl rfl (hts _ q164) (hts _ q2065) (hts _ q2066) rfl (by decide +kernel) (z_room (Nat.le_of_ble_eq_true rfl))) rfl rfl (by simp only [List.map_cons, List.map_nil, z_cat]; exact Nat.le_of_ble_eq_true rfl) dX0_made_59 ⟨hcl, hsl⟩) hS (fun hp_23 nx_24 hw H locs hH hz hS => ?_)
    obtain ⟨hkc, hks, hw⟩ := hw
    exact zr_aret (r := some nx) hk hr (Or.inl ⟨_, rfl⟩) hH hz hS hw hkc hks dX0_made_62
  by_cases hc3 : x1 = (3 : Int32)
  · have hw := hw.2.2.2.1 hc3
    refine lv_tableIn (tgt := 63) hx hb dX0_made_1 (by rw [hc3]; decide) (by rw [hc3]; decide) (by rw [hc3]; rfl) (by decide) ?_
    obtain ⟨hcl, hsl, hw⟩ := hw
    refine zx_new hk hH hz hS (ci := 8) no_X0_15 hcl hsl dX0_made_63 (fun H hH hz hS hlt hnb => ?_)
    have hw := hw hlt hnb
    generalize va_up hp nx _ = hp_28 at hH hw
    obtain ⟨kc_30, ekc⟩ : ∃ k, k = (0 + 1) := ⟨_, rfl⟩
    obtain ⟨ks_31, eks⟩ : ∃ k, k = (0 + zNn 8) := ⟨_, rfl⟩
    have hw := hw _ _ _ rfl ekc eks
    refine W.widen (Nat.le_of_eq ekc.symm) (Nat.le_of_eq eks.symm) ?_
    clear ekc eks
    generalize (nx + 1) = nx_29 at hz hw
    refine lv_dup hx hb dX0_made_66 (z_cat _) ?_
    refine lv_iload_n hx hb dX0_made_67 rfl (lv_at hl 0 rfl) ?_
    obtain ⟨hcl, hsl, hw⟩ := hw
    refine zr_callv (zw_runI (As := [.int x0]) (r := some nx) hk hH hz hS hl.1 rfl hw (cwI 1 hts (lw_meth q2076) rfl rfl rfl (hts _ q165) (hts _ q2074) (hts _ q2075) rfl (by decide +kernel) (z_room (Nat.le_of_ble_eq_true rfl))) rfl rfl (by simp only [List.map_cons, List.map_nil, z_cat]; exact Nat.le_of_ble_eq_true rfl) dX0_made_68 ⟨hcl, hsl⟩) hS (fun hp_32 nx_33 hw H locs hH hz hS => ?_)
    obtain ⟨hkc, hks, hw⟩ := hw
    exact zr_aret (r := some nx) hk hr (Or.inl ⟨_, rfl⟩) hH hz hS hw hkc hks dX0_made_71
  by_cases hc4 : x1 = (4 : Int32)
  · have hw := hw.2.2.2.2.1 hc4
    refine lv_tableIn (tgt := 72) hx hb dX0_made_1 (by rw [hc4]; decide) (by rw [hc4]; decide) (by rw [hc4]; rfl) (by decide) ?_
    obtain ⟨hcl, hsl, hw⟩ := hw
    refine zx_new hk hH hz hS (ci := 9) no_X0_18 hcl hsl dX0_made_72 (fun H hH hz hS hlt hnb => ?_)
    have hw := hw hlt hnb
    generalize va_up hp nx _ = hp_37 at hH hw
    obtain ⟨kc_39, ekc⟩ : ∃ k, k = (0 + 1) := ⟨_, rfl⟩
    obtain ⟨ks_40, eks⟩ : ∃ k, k = (0 + zNn 9) := ⟨_, rfl⟩
    have hw := hw _ _ _ rfl ekc eks
    refine W.widen (Nat.le_of_eq ekc.symm) (Nat.le_of_eq eks.symm) ?_
    clear ekc eks
    generalize (nx + 1) = nx_38 at hz hw
    refine lv_dup hx hb dX0_made_75 (z_cat _) ?_
    refine lv_iload_n hx hb dX0_made_76 rfl (lv_at hl 0 rfl) ?_
    obtain ⟨hcl, hsl, hw⟩ := hw
    refine zr_callv (zw_runI (As := [.int x0]) (r := some nx) hk hH hz hS hl.1 rfl hw (cwI 1 hts (lw_meth q2085) rfl rfl rfl (hts _ q166) (hts _ q2083) (hts _ q2084) rfl (by decide +kernel) (z_room (Nat.le_of_ble_eq_true rfl))) rfl rfl (by simp only [List.map_cons, List.map_nil, z_cat]; exact Nat.le_of_ble_eq_true rfl) dX0_made_77 ⟨hcl, hsl⟩) hS (fun hp_41 nx_42 hw H locs hH hz hS => ?_)
    obtain ⟨hkc, hks, hw⟩ := hw
    exact zr_aret (r := some nx) hk hr (Or.inl ⟨_, rfl⟩) hH hz hS hw hkc hks dX0_made_80
  have hw := hw.2.2.2.2.2 ⟨hc0, hc1, hc2, hc3, hc4⟩
  refine lv_tableOut (tgt := 81) hx hb dX0_made_1 (by have h0 := lv_neT hc0 (a := 0) (by decide); have h1 := lv_neT hc1 (a := 1) (by decide); have h2 := lv_neT hc2 (a := 2) (by decide); have h3 := lv_neT hc3 (a := 3) (by decide); have h4 := lv_neT hc4 (a := 4) (by decide); omega) (by decide) ?_
  obtain ⟨hcl, hsl, hw⟩ := hw
  refine zx_new hk hH hz hS (ci := 10) no_X0_21 hcl hsl dX0_made_81 (fun H hH hz hS hlt hnb => ?_)
  have hw := hw hlt hnb
  generalize va_up hp nx _ = hp_46 at hH hw
  obtain ⟨kc_48, ekc⟩ : ∃ k, k = (0 + 1) := ⟨_, rfl⟩
  obtain ⟨ks_49, eks⟩ : ∃ k, k = (0 + zNn 10) := ⟨_, rfl⟩
  have hw := hw _ _ _ rfl ekc eks
  refine W.widen (Nat.le_of_eq ekc.symm) (Nat.le_of_eq eks.symm) ?_
  clear ekc eks
  generalize (nx + 1) = nx_47 at hz hw
  refine lv_dup hx hb dX0_made_84 (z_cat _) ?_
  refine lv_iload_n hx hb dX0_made_85 rfl (lv_at hl 0 rfl) ?_
  obtain ⟨hcl, hsl, hw⟩ := hw
  refine zr_callv (zw_runI (As := [.int x0]) (r := some nx) hk hH hz hS hl.1 rfl hw (cwI 1 hts (lw_meth q2094) rfl rfl rfl (hts _ q167) (hts _ q2092) (hts _ q2093) rfl (by decide +kernel) (z_room (Nat.le_of_ble_eq_true rfl))) rfl rfl (by simp only [List.map_cons, List.map_nil, z_cat]; exact Nat.le_of_ble_eq_true rfl) dX0_made_86 ⟨hcl, hsl⟩) hS (fun hp_50 nx_51 hw H locs hH hz hS => ?_)
  obtain ⟨hkc, hks, hw⟩ := hw
  exact zr_aret (r := some nx) hk hr (Or.inl ⟨_, rfl⟩) hH hz hS hw hkc hks dX0_made_89
theorem fk_X0_41 {ci : Nat} (h : ci ∈ [0]) : zFk "WhatIfSheet" 41 ci 3 := by
  simp only [List.mem_cons, List.not_mem_nil, or_false] at h
  rcases h with rfl
  · exact ⟨RX0, TX0, 30, rfl, by decide, q1210⟩
theorem fk_X0_138 {ci : Nat} (h : ci ∈ [0]) : zFk "WhatIfSheet" 138 ci 2 := by
  simp only [List.mem_cons, List.not_mem_nil, or_false] at h
  rcases h with rfl
  · exact ⟨RX0, TX0, 30, rfl, by decide, q1207⟩
def wp_X0_told (l : Launch) (g : zG) (d : Nat) (h0 : Nat) (x1 : Int32) (x2 : Int32) (hp : zHp) (nx : Nat) (Post : Int32 → zHp → Nat → Prop) : Prop :=
  (zMt l g yX0_isCell cX0_isCell 1 (some .boolean) d 0 0 [.int x1] hp nx (zQi g fun x_3 hp_1 nx_2 =>
  ((x_3 = 0 →
  (Post (-2 : Int32) hp_1 nx_2)) ∧
  (¬ x_3 = 0 →
  ((x2 = (0 : Int32) →
  (zgR hp_1 (some h0) [0] 0 fun r_7 =>
  (zaR (g.2.1 7) hp_1 r_7 fun a_8 n_9 f_10 => vp_in x1 n_9 ∧ ∀ r_11 : Option Nat, r_11 = f_10 x1.toNatClampNeg →
  (zo hp_1 r_11 [2, 6, 7, 8, 9, 10] fun a_15 ci_16 fs_17 => ∃ PP_18 : Int32 → zHp → Nat → Prop, (∀ (x_14 : Int32) (hp_12 : zHp) (nx_13 : Nat), PP_18 x_14 hp_12 nx_13 →
  (Post x_14 hp_12 nx_13)) ∧ ((ci_16 = 2 → zMt l g yX2_kind cX2_kind 1 (some .int) d 0 0 (.ref a_15 :: []) hp_1 nx_2 (zQi g PP_18)) ∧ (ci_16 = 6 → zMt l g yX6_kind cX6_kind 1 (some .int) d 0 0 (.ref a_15 :: []) hp_1 nx_2 (zQi g PP_18)) ∧ (ci_16 = 7 → zMt l g yX7_kind cX7_kind 1 (some .int) d 0 0 (.ref a_15 :: []) hp_1 nx_2 (zQi g PP_18)) ∧ (ci_16 = 8 → zMt l g yX8_kind cX8_kind 1 (some .int) d 0 0 (.ref a_15 :: []) hp_1 nx_2 (zQi g PP_18)) ∧ (ci_16 = 9 → zMt l g yX9_kind cX9_kind 1 (some .int) d 0 0 (.ref a_15 :: []) hp_1 nx_2 (zQi g PP_18)) ∧ (ci_16 = 10 → zMt l g yX10_kind cX10_kind 1 (some .int) d 0 0 (.ref a_15 :: []) hp_1 nx_2 (zQi g PP_18))))))) ∧
  (x2 = (1 : Int32) →
  (zgR hp_1 (some h0) [0] 0 fun r_22 =>
  (zaR (g.2.1 7) hp_1 r_22 fun a_23 n_24 f_25 => vp_in x1 n_24 ∧ ∀ r_26 : Option Nat, r_26 = f_25 x1.toNatClampNeg →
  (zo hp_1 r_26 [2, 6, 7, 8, 9, 10] fun a_33 ci_34 fs_35 => ∃ PP_36 : Int32 → zHp → Nat → Prop, (∀ (x_29 : Int32) (hp_27 : zHp) (nx_28 : Nat), PP_36 x_29 hp_27 nx_28 →
  (∃ P_83 : Int32 → zHp → Nat → Prop, (∀ (x_30 : Int32) (hp_31 : zHp) (nx_32 : Nat), P_83 x_30 hp_31 nx_32 →
  (Post x_30 hp_31 nx_32)) ∧
  ((x_29 = 0 →
  P_83 (1 : Int32) hp_27 nx_28) ∧
  (¬ x_29 = 0 →
  P_83 (0 : Int32) hp_27 nx_28)))) ∧ zMt l g yX2_isInput cX2_isInput 1 (some .boolean) d 0 0 (.ref a_33 :: []) hp_1 nx_2 (zQi g PP_36))))) ∧
  (x2 = (2 : Int32) →
  (zgR hp_1 (some h0) [0] 12 fun r_40 =>
  (zaR (g.2.1 10) hp_1 r_40 fun a_41 n_42 f_43 => vp_in x1 n_42 ∧ ∀ r_44 : Option Nat, r_44 = f_43 x1.toNatClampNeg →
  (zMt l g yX0_bits cX0_bits 3 (some .int) d 0 0 [va_rf r_44] hp_1 nx_2 (zQi g fun x_47 hp_45 nx_46 =>
  (Post x_47 hp_45 nx_46)))))) ∧
  (x2 = (3 : Int32) →
  (zgR hp_1 (some h0) [0] 11 fun r_51 =>
  (zaR (g.2.1 10) hp_1 r_51 fun a_52 n_53 f_54 => vp_in x1 n_53 ∧ ∀ r_55 : Option Nat, r_55 = f_54 x1.toNatClampNeg →
  (zMt l g yX0_bits cX0_bits 3 (some .int) d 0 0 [va_rf r_55] hp_1 nx_2 (zQi g fun x_58 hp_56 nx_57 =>
  (Post x_58 hp_56 nx_57)))))) ∧
  (x2 = (4 : Int32) →
  (zgR hp_1 (some h0) [0] 13 fun r_62 =>
  (zaI (g.2.1 0) hp_1 r_62 fun a_63 n_64 f_65 => vp_in x1 n_64 ∧ ∀ x_66 : Int32, x_66 = f_65 x1.toNatClampNeg →
  (Post x_66 hp_1 nx_2)))) ∧
  (x2 = (5 : Int32) →
  (zo hp_1 (some h0) [0] fun a_81 ci_82 fs_83 => zMt l g yX0_asked cX0_asked 2 (some .double) d 0 0 (.ref a_81 :: [.int x1]) hp_1 nx_2 (zQd g fun x_69 hp_67 nx_68 =>
  (∃ P_133 : Int32 → zHp → Nat → Prop, (∀ (x_70 : Int32) (hp_71 : zHp) (nx_72 : Nat), P_133 x_70 hp_71 nx_72 →
  (Post x_70 hp_71 nx_72)) ∧
  ((x2 = (5 : Int32) →
  (zgI hp_67 (some h0) [0] 2 fun x_80 =>
  P_133 x_80 hp_67 nx_68)) ∧
  (¬ x2 = (5 : Int32) →
  (zgI hp_67 (some h0) [0] 3 fun x_76 =>
  P_133 x_76 hp_67 nx_68))))))) ∧
  (x2 = (6 : Int32) →
  (zo hp_1 (some h0) [0] fun a_98 ci_99 fs_100 => zMt l g yX0_asked cX0_asked 2 (some .double) d 0 0 (.ref a_98 :: [.int x1]) hp_1 nx_2 (zQd g fun x_86 hp_84 nx_85 =>
  (∃ P_133 : Int32 → zHp → Nat → Prop, (∀ (x_87 : Int32) (hp_88 : zHp) (nx_89 : Nat), P_133 x_87 hp_88 nx_89 →
  (Post x_87 hp_88 nx_89)) ∧
  ((x2 = (5 : Int32) →
  (zgI hp_84 (some h0) [0] 2 fun x_97 =>
  P_133 x_97 hp_84 nx_85)) ∧
  (¬ x2 = (5 : Int32) →
  (zgI hp_84 (some h0) [0] 3 fun x_93 =>
  P_133 x_93 hp_84 nx_85))))))) ∧
  (x2 = (7 : Int32) →
  (zgR hp_1 (some h0) [0] 0 fun r_104 =>
  (zaR (g.2.1 7) hp_1 r_104 fun a_105 n_106 f_107 => vp_in x1 n_106 ∧ ∀ r_108 : Option Nat, r_108 = f_107 x1.toNatClampNeg →
  (zo hp_1 r_108 [2, 6, 7, 8, 9, 10] fun a_132 ci_133 fs_134 => ∃ PP_135 : Int32 → zHp → Nat → Prop, (∀ (x_111 : Int32) (hp_109 : zHp) (nx_110 : Nat), PP_135 x_111 hp_109 nx_110 →
  (∃ P_163 : Int32 → zHp → Nat → Prop, (∀ (x_112 : Int32) (hp_113 : zHp) (nx_114 : Nat), P_163 x_112 hp_113 nx_114 →
  (Post x_112 hp_113 nx_114)) ∧
  (∃ P_162 : zHp → Nat → Prop, (∀ (hp_115 : zHp) (nx_116 : Nat), P_162 hp_115 nx_116 →
  P_163 (0 : Int32) hp_115 nx_116) ∧
  ((x_111 = 0 →
  P_162 hp_109 nx_110) ∧
  (¬ x_111 = 0 →
  (zgR hp_109 (some h0) [0] 0 fun r_120 =>
  (zaR (g.2.1 7) hp_109 r_120 fun a_121 n_122 f_123 => vp_in x1 n_122 ∧ ∀ r_124 : Option Nat, r_124 = f_123 x1.toNatClampNeg →
  (zo hp_109 r_124 [2, 6, 7, 8, 9, 10] fun a_128 ci_129 fs_130 => ∃ PP_131 : Int32 → zHp → Nat → Prop, (∀ (x_127 : Int32) (hp_125 : zHp) (nx_126 : Nat), PP_131 x_127 hp_125 nx_126 →
  ((x_127 = 0 →
  P_162 hp_125 nx_126) ∧
  (¬ x_127 = 0 →
  P_163 (1 : Int32) hp_125 nx_126))) ∧ zMt l g yX2_isEmpty cX2_isEmpty 1 (some .boolean) d 0 0 (.ref a_128 :: []) hp_109 nx_110 (zQi g PP_131))))))))) ∧ zMt l g yX2_isInput cX2_isInput 1 (some .boolean) d 0 0 (.ref a_132 :: []) hp_1 nx_2 (zQi g PP_135))))) ∧
  (¬ x2 = (0 : Int32) ∧ ¬ x2 = (1 : Int32) ∧ ¬ x2 = (2 : Int32) ∧ ¬ x2 = (3 : Int32) ∧ ¬ x2 = (4 : Int32) ∧ ¬ x2 = (5 : Int32) ∧ ¬ x2 = (6 : Int32) ∧ ¬ x2 = (7 : Int32) →
  (Post (-2 : Int32) hp_1 nx_2)))))))
set_option maxHeartbeats 40000000 in
theorem met_X0_told {l : Launch} {g : zG} {d : Nat} {h0 : Nat} {x1 : Int32} {x2 : Int32} {hp : zHp} {nx : Nat} {Post : Int32 → zHp → Nat → Prop} (hw : wp_X0_told l g d h0 x1 x2 hp nx Post) : zMt l g yX0_told cX0_told 3 (some .int) (d + 1) 0 0 [.ref h0, .int x1, .int x2] hp nx (zQi g Post) := by
  refine z_start (by decide) (Nat.le_of_ble_eq_true rfl) ?_
  intro p e s m below meth c hk hr hin hH hz ls hl
  have hx := hk.1.1
  have hb := hk.1.2.1
  have hown := hk.1.2.2.2.1
  have hts := hk.1.2.2.2.2
  have hS : va_S (zAd g) s.heap s.heap [] := va_S.rf
  have hl : lv_has ls 3 [(0, va_rf (some h0)), (1, .int x1), (2, .int x2)] := hl
  unfold wp_X0_told at hw
  refine lv_iload_n hx hb dX0_told_0 rfl (lv_at hl 1 rfl) ?_
  refine zr_calli (zr_runS (As := [.int x1]) hk hH hz hS hl.1 hw (va_cwS 1 hts (lw_S q1317 q1318 q131 q1319) rfl rfl rfl (by decide +kernel) (z_room (Nat.le_of_ble_eq_true rfl))) rfl rfl (Nat.le_of_ble_eq_true rfl) dX0_told_1 ⟨Nat.le_of_ble_eq_true rfl, Nat.le_of_ble_eq_true rfl⟩) hS (fun x_3 hp_1 nx_2 hw H locs hH hz hS => ?_)
  refine lv_if_ne (tgt := 10) hx hb dX0_told_4 (by decide) (fun hc => ?_) (fun hc => ?_)
  · have hw := hw.2 hc
    refine lv_iload_n hx hb dX0_told_10 rfl (lv_at hl 2 rfl) ?_
    by_cases hc0 : x2 = (0 : Int32)
    · have hw := hw.1 hc0
      refine lv_tableIn (tgt := 56) hx hb dX0_told_11 (by rw [hc0]; decide) (by rw [hc0]; decide) (by rw [hc0]; rfl) (by decide) ?_
      refine zr_aload_n (r := some h0) hx hb dX0_told_56 rfl (lv_at hl 0 rfl) ?_
      obtain ⟨a_4, ci_5, fs_6, r_7, er, he, hc, hv, hw⟩ := zgR_e hw
      refine zw_get hk hH er he hv (fk_X0_31 hc) dX0_told_57 ?_
      refine lv_iload_n hx hb dX0_told_60 rfl (lv_at hl 1 rfl) ?_
      obtain ⟨a_8, n_9, f_10, er, he, hi, hw⟩ := zaR_e hw
      have hw := hw _ rfl
      refine zw_aald hk hH 7 er he rfl rfl hi dX0_told_61 ?_
      generalize f_10 x1.toNatClampNeg = r_11 at hw ⊢
      obtain ⟨a_15, ci_16, fs_17, er, he, hc, PP_18, hPP, hw⟩ := zo_e hw
      have hC : ∀ (x_14 : Int32) (hp_12 : zHp) (nx_13 : Nat), PP_18 x_14 hp_12 nx_13 → ∀ (H : Heap) (locs : List Loc), zHd g hp_12 H → H.size = nx_13 → va_S (zAd g) s.heap H locs → W p l e (zrm (d + 1) 0 0) s m ([.ref h0, .int x1, .int x2] : List Value).toArray below meth c H locs (0 + 0) (0 + 0) (MQ below (zQi g Post) ([.ref h0, .int x1, .int x2] : List Value).toArray s 0 0 (zAd g)) (F0 m 65 ls [.int x_14]) := by
        intro x_14 hp_12 nx_13 hw H locs hH hz hS
        have hw := hPP x_14 hp_12 nx_13 hw
        exact zr_iret hk hr hH hz hS hw (Nat.le_of_ble_eq_true rfl) (Nat.le_of_ble_eq_true rfl) dX0_told_65
      simp only [List.mem_cons, List.not_mem_nil, or_false] at hc
      rcases hc with rfl | rfl | rfl | rfl | rfl | rfl
      · exact zr_calli (zw_runV (As := []) hk hH hz hS hl.1 er (hw.1 rfl) (cwV 0 hts (lw_V q2031 q2032 q2033 q152 q2050) rfl rfl rfl (by decide +kernel) (z_room (Nat.le_of_ble_eq_true rfl))) he rfl rfl rfl (Nat.le_of_ble_eq_true rfl) dX0_told_62 ⟨Nat.le_of_ble_eq_true rfl, Nat.le_of_ble_eq_true rfl⟩) hS hC
      · exact zr_calli (zw_runU (As := []) hk hH hz hS hl.1 er (hw.2.1 rfl) (va_cwO 0 hts (z_O q2031 q2034 q2032 q2047 q2048 q163 q2049) rfl rfl rfl q2050 (by decide +kernel) (z_room (Nat.le_of_ble_eq_true rfl))) he rfl rfl rfl (Nat.le_of_ble_eq_true rfl) dX0_told_62 ⟨Nat.le_of_ble_eq_true rfl, Nat.le_of_ble_eq_true rfl⟩) hS hC
      · exact zr_calli (zw_runU (As := []) hk hH hz hS hl.1 er (hw.2.2.1 rfl) (va_cwO 0 hts (z_O q2031 q2034 q2032 q2038 q2039 q164 q2040) rfl rfl rfl q2050 (by decide +kernel) (z_room (Nat.le_of_ble_eq_true rfl))) he rfl rfl rfl (Nat.le_of_ble_eq_true rfl) dX0_told_62 ⟨Nat.le_of_ble_eq_true rfl, Nat.le_of_ble_eq_true rfl⟩) hS hC
      · exact zr_calli (zw_runU (As := []) hk hH hz hS hl.1 er (hw.2.2.2.1 rfl) (va_cwO 0 hts (z_O q2031 q2034 q2032 q2041 q2042 q165 q2043) rfl rfl rfl q2050 (by decide +kernel) (z_room (Nat.le_of_ble_eq_true rfl))) he rfl rfl rfl (Nat.le_of_ble_eq_true rfl) dX0_told_62 ⟨Nat.le_of_ble_eq_true rfl, Nat.le_of_ble_eq_true rfl⟩) hS hC
      · exact zr_calli (zw_runU (As := []) hk hH hz hS hl.1 er (hw.2.2.2.2.1 rfl) (va_cwO 0 hts (z_O q2031 q2034 q2032 q2044 q2045 q166 q2046) rfl rfl rfl q2050 (by decide +kernel) (z_room (Nat.le_of_ble_eq_true rfl))) he rfl rfl rfl (Nat.le_of_ble_eq_true rfl) dX0_told_62 ⟨Nat.le_of_ble_eq_true rfl, Nat.le_of_ble_eq_true rfl⟩) hS hC
      · exact zr_calli (zw_runU (As := []) hk hH hz hS hl.1 er (hw.2.2.2.2.2 rfl) (va_cwO 0 hts (z_O q2031 q2034 q2032 q2035 q2036 q167 q2037) rfl rfl rfl q2050 (by decide +kernel) (z_room (Nat.le_of_ble_eq_true rfl))) he rfl rfl rfl (Nat.le_of_ble_eq_true rfl) dX0_told_62 ⟨Nat.le_of_ble_eq_true rfl, Nat.le_of_ble_eq_true rfl⟩) hS hC
    by_cases hc1 : x2 = (1 : Int32)
    · have hw := hw.2.1 hc1
      refine lv_tableIn (tgt := 66) hx hb dX0_told_11 (by rw [hc1]; decide) (by rw [hc1]; decide) (by rw [hc1]; rfl) (by decide) ?_
      refine zr_aload_n (r := some h0) hx hb dX0_told_66 rfl (lv_at hl 0 rfl) ?_
      obtain ⟨a_19, ci_20, fs_21, r_22, er, he, hc, hv, hw⟩ := zgR_e hw
      refine zw_get hk hH er he hv (fk_X0_31 hc) dX0_told_67 ?_
      refine lv_iload_n hx hb dX0_told_70 rfl (lv_at hl 1 rfl) ?_
      obtain ⟨a_23, n_24, f_25, er, he, hi, hw⟩ := zaR_e hw
      have hw := hw _ rfl
      refine zw_aald hk hH 7 er he rfl rfl hi dX0_told_71 ?_
      generalize f_25 x1.toNatClampNeg = r_26 at hw ⊢
      obtain ⟨a_33, ci_34, fs_35, er, he, hc, PP_36, hPP, hw⟩ := zo_e hw
      have hC : ∀ (x_29 : Int32) (hp_27 : zHp) (nx_28 : Nat), PP_36 x_29 hp_27 nx_28 → ∀ (H : Heap) (locs : List Loc), zHd g hp_27 H → H.size = nx_28 → va_S (zAd g) s.heap H locs → W p l e (zrm (d + 1) 0 0) s m ([.ref h0, .int x1, .int x2] : List Value).toArray below meth c H locs (0 + 0) (0 + 0) (MQ below (zQi g Post) ([.ref h0, .int x1, .int x2] : List Value).toArray s 0 0 (zAd g)) (F0 m 75 ls [.int x_29]) := by
        intro x_29 hp_27 nx_28 hw H locs hH hz hS
        have hw := hPP x_29 hp_27 nx_28 hw
        obtain ⟨P_83, hP_83, hw⟩ := hw
        have hJ_83 : ∀ (x_30 : Int32) (hp_31 : zHp) (nx_32 : Nat) (H : Heap) (locs : List Loc) (ls : Array Slot), P_83 x_30 hp_31 nx_32 → lv_has ls 3 [(0, va_rf (some h0)), (1, .int x1), (2, .int x2)] → zHd g hp_31 H → H.size = nx_32 → va_S (zAd g) s.heap H locs → W p l e (zrm (d + 1) 0 0) s m ([.ref h0, .int x1, .int x2] : List Value).toArray below meth c H locs 0 0 (MQ below (zQi g Post) ([.ref h0, .int x1, .int x2] : List Value).toArray s 0 0 (zAd g)) (F0 m 83 ls [.int x_30]) := by
          intro x_30 hp_31 nx_32 H locs ls hw hl hH hz hS
          have hw := hP_83 x_30 hp_31 nx_32 hw
          exact zr_iret hk hr hH hz hS hw (Nat.le_of_ble_eq_true rfl) (Nat.le_of_ble_eq_true rfl) dX0_told_83
        refine lv_if_eq (tgt := 82) hx hb dX0_told_75 (by decide) (fun hc => ?_) (fun hc => ?_)
        · have hw := hw.1 hc
          refine lv_iconst (v := (1 : Int32)) hx hb dX0_told_82 (by decide) ?_
          exact hJ_83 (1 : Int32) hp_27 nx_28 _ _ _ hw hl hH hz hS
        · have hw := hw.2 hc
          refine lv_iconst (v := (0 : Int32)) hx hb dX0_told_78 (by decide) ?_
          refine lv_goto (tgt := 83) hx hb dX0_told_79 (by decide) ?_
          exact hJ_83 (0 : Int32) hp_27 nx_28 _ _ _ hw hl hH hz hS
      simp only [List.mem_cons, List.not_mem_nil, or_false] at hc
      rcases hc with rfl | rfl | rfl | rfl | rfl | rfl
      · exact zr_calli (zw_runV (As := []) hk hH hz hS hl.1 er (hw) (cwV 0 hts (lw_V q1969 q1970 q1971 q152 q1978) rfl rfl rfl (by decide +kernel) (z_room (Nat.le_of_ble_eq_true rfl))) he rfl rfl rfl (Nat.le_of_ble_eq_true rfl) dX0_told_72 ⟨Nat.le_of_ble_eq_true rfl, Nat.le_of_ble_eq_true rfl⟩) hS hC
      · exact zr_calli (zw_runU (As := []) hk hH hz hS hl.1 er (hw) (va_cwU 0 hts (z_U q1969 q1972 q1977 q1970 q152 q1978) rfl rfl rfl rfl (by decide +kernel) (z_room (Nat.le_of_ble_eq_true rfl))) he rfl rfl rfl (Nat.le_of_ble_eq_true rfl) dX0_told_72 ⟨Nat.le_of_ble_eq_true rfl, Nat.le_of_ble_eq_true rfl⟩) hS hC
      · exact zr_calli (zw_runU (As := []) hk hH hz hS hl.1 er (hw) (va_cwU 0 hts (z_U q1969 q1972 q1974 q1970 q152 q1978) rfl rfl rfl rfl (by decide +kernel) (z_room (Nat.le_of_ble_eq_true rfl))) he rfl rfl rfl (Nat.le_of_ble_eq_true rfl) dX0_told_72 ⟨Nat.le_of_ble_eq_true rfl, Nat.le_of_ble_eq_true rfl⟩) hS hC
      · exact zr_calli (zw_runU (As := []) hk hH hz hS hl.1 er (hw) (va_cwU 0 hts (z_U q1969 q1972 q1975 q1970 q152 q1978) rfl rfl rfl rfl (by decide +kernel) (z_room (Nat.le_of_ble_eq_true rfl))) he rfl rfl rfl (Nat.le_of_ble_eq_true rfl) dX0_told_72 ⟨Nat.le_of_ble_eq_true rfl, Nat.le_of_ble_eq_true rfl⟩) hS hC
      · exact zr_calli (zw_runU (As := []) hk hH hz hS hl.1 er (hw) (va_cwU 0 hts (z_U q1969 q1972 q1976 q1970 q152 q1978) rfl rfl rfl rfl (by decide +kernel) (z_room (Nat.le_of_ble_eq_true rfl))) he rfl rfl rfl (Nat.le_of_ble_eq_true rfl) dX0_told_72 ⟨Nat.le_of_ble_eq_true rfl, Nat.le_of_ble_eq_true rfl⟩) hS hC
      · exact zr_calli (zw_runU (As := []) hk hH hz hS hl.1 er (hw) (va_cwU 0 hts (z_U q1969 q1972 q1973 q1970 q152 q1978) rfl rfl rfl rfl (by decide +kernel) (z_room (Nat.le_of_ble_eq_true rfl))) he rfl rfl rfl (Nat.le_of_ble_eq_true rfl) dX0_told_72 ⟨Nat.le_of_ble_eq_true rfl, Nat.le_of_ble_eq_true rfl⟩) hS hC
    by_cases hc2 : x2 = (2 : Int32)
    · have hw := hw.2.2.1 hc2
      refine lv_tableIn (tgt := 84) hx hb dX0_told_11 (by rw [hc2]; decide) (by rw [hc2]; decide) (by rw [hc2]; rfl) (by decide) ?_
      refine zr_aload_n (r := some h0) hx hb dX0_told_84 rfl (lv_at hl 0 rfl) ?_
      obtain ⟨a_37, ci_38, fs_39, r_40, er, he, hc, hv, hw⟩ := zgR_e hw
      refine zw_get hk hH er he hv (fk_X0_62 hc) dX0_told_85 ?_
      refine lv_iload_n hx hb dX0_told_88 rfl (lv_at hl 1 rfl) ?_
      obtain ⟨a_41, n_42, f_43, er, he, hi, hw⟩ := zaR_e hw
      have hw := hw _ rfl
      refine zw_aald hk hH 10 er he rfl rfl hi dX0_told_89 ?_
      generalize f_43 x1.toNatClampNeg = r_44 at hw ⊢
      refine zr_calli (zr_runS (As := [va_rf r_44]) hk hH hz hS hl.1 hw (va_cwS 1 hts (lw_S q2124 q2125 q131 q2126) rfl rfl rfl (by decide +kernel) (z_room (Nat.le_of_ble_eq_true rfl))) rfl rfl (Nat.le_of_ble_eq_true rfl) dX0_told_90 ⟨Nat.le_of_ble_eq_true rfl, Nat.le_of_ble_eq_true rfl⟩) hS (fun x_47 hp_45 nx_46 hw H locs hH hz hS => ?_)
      exact zr_iret hk hr hH hz hS hw (Nat.le_of_ble_eq_true rfl) (Nat.le_of_ble_eq_true rfl) dX0_told_93
    by_cases hc3 : x2 = (3 : Int32)
    · have hw := hw.2.2.2.1 hc3
      refine lv_tableIn (tgt := 94) hx hb dX0_told_11 (by rw [hc3]; decide) (by rw [hc3]; decide) (by rw [hc3]; rfl) (by decide) ?_
      refine zr_aload_n (r := some h0) hx hb dX0_told_94 rfl (lv_at hl 0 rfl) ?_
      obtain ⟨a_48, ci_49, fs_50, r_51, er, he, hc, hv, hw⟩ := zgR_e hw
      refine zw_get hk hH er he hv (fk_X0_58 hc) dX0_told_95 ?_
      refine lv_iload_n hx hb dX0_told_98 rfl (lv_at hl 1 rfl) ?_
      obtain ⟨a_52, n_53, f_54, er, he, hi, hw⟩ := zaR_e hw
      have hw := hw _ rfl
      refine zw_aald hk hH 10 er he rfl rfl hi dX0_told_99 ?_
      generalize f_54 x1.toNatClampNeg = r_55 at hw ⊢
      refine zr_calli (zr_runS (As := [va_rf r_55]) hk hH hz hS hl.1 hw (va_cwS 1 hts (lw_S q2124 q2125 q131 q2126) rfl rfl rfl (by decide +kernel) (z_room (Nat.le_of_ble_eq_true rfl))) rfl rfl (Nat.le_of_ble_eq_true rfl) dX0_told_100 ⟨Nat.le_of_ble_eq_true rfl, Nat.le_of_ble_eq_true rfl⟩) hS (fun x_58 hp_56 nx_57 hw H locs hH hz hS => ?_)
      exact zr_iret hk hr hH hz hS hw (Nat.le_of_ble_eq_true rfl) (Nat.le_of_ble_eq_true rfl) dX0_told_103
    by_cases hc4 : x2 = (4 : Int32)
    · have hw := hw.2.2.2.2.1 hc4
      refine lv_tableIn (tgt := 104) hx hb dX0_told_11 (by rw [hc4]; decide) (by rw [hc4]; decide) (by rw [hc4]; rfl) (by decide) ?_
      refine zr_aload_n (r := some h0) hx hb dX0_told_104 rfl (lv_at hl 0 rfl) ?_
      obtain ⟨a_59, ci_60, fs_61, r_62, er, he, hc, hv, hw⟩ := zgR_e hw
      refine zw_get hk hH er he hv (fk_X0_65 hc) dX0_told_105 ?_
      refine lv_iload_n hx hb dX0_told_108 rfl (lv_at hl 1 rfl) ?_
      obtain ⟨a_63, n_64, f_65, er, he, hi, hw⟩ := zaI_e hw
      have hw := hw _ rfl
      refine zw_iald hk hH er he hi dX0_told_109 ?_
      generalize f_65 x1.toNatClampNeg = x_66 at hw ⊢
      exact zr_iret hk hr hH hz hS hw (Nat.le_of_ble_eq_true rfl) (Nat.le_of_ble_eq_true rfl) dX0_told_110
    by_cases hc5 : x2 = (5 : Int32)
    · have hw := hw.2.2.2.2.2.1 hc5
      refine lv_tableIn (tgt := 111) hx hb dX0_told_11 (by rw [hc5]; decide) (by rw [hc5]; decide) (by rw [hc5]; rfl) (by decide) ?_
      refine zr_aload_n (r := some h0) hx hb dX0_told_111 rfl (lv_at hl 0 rfl) ?_
      refine lv_iload_n hx hb dX0_told_112 rfl (lv_at hl 1 rfl) ?_
      obtain ⟨a_81, ci_82, fs_83, er, he, hc, hw⟩ := zo_e hw
      obtain rfl := List.mem_singleton.mp hc
      refine zr_calld (zw_runV (As := [.int x1]) hk hH hz hS hl.1 er hw (cwV 1 hts (lw_V q2127 q2129 qs40 q131 q2130) rfl rfl rfl (by decide +kernel) (z_room (Nat.le_of_ble_eq_true rfl))) he rfl rfl rfl (Nat.le_of_ble_eq_true rfl) dX0_told_113 ⟨Nat.le_of_ble_eq_true rfl, Nat.le_of_ble_eq_true rfl⟩) hS (fun x_69 hp_67 nx_68 hw H locs hH hz hS => ?_)
      refine lv_pop2_2 hx hb dX0_told_116 rfl ?_
      refine lv_iload_n hx hb dX0_told_117 rfl (lv_at hl 2 rfl) ?_
      refine lv_iconst (v := (5 : Int32)) hx hb dX0_told_118 (by decide) ?_
      obtain ⟨P_133, hP_133, hw⟩ := hw
      have hJ_133 : ∀ (x_70 : Int32) (hp_71 : zHp) (nx_72 : Nat) (H : Heap) (locs : List Loc) (ls : Array Slot), P_133 x_70 hp_71 nx_72 → lv_has ls 3 [(0, va_rf (some h0)), (1, .int x1), (2, .int x2)] → zHd g hp_71 H → H.size = nx_72 → va_S (zAd g) s.heap H locs → W p l e (zrm (d + 1) 0 0) s m ([.ref h0, .int x1, .int x2] : List Value).toArray below meth c H locs 0 0 (MQ below (zQi g Post) ([.ref h0, .int x1, .int x2] : List Value).toArray s 0 0 (zAd g)) (F0 m 133 ls [.int x_70]) := by
        intro x_70 hp_71 nx_72 H locs ls hw hl hH hz hS
        have hw := hP_133 x_70 hp_71 nx_72 hw
        exact zr_iret hk hr hH hz hS hw (Nat.le_of_ble_eq_true rfl) (Nat.le_of_ble_eq_true rfl) dX0_told_133
      refine lv_icmp_ne (tgt := 129) hx hb dX0_told_119 (by decide) (fun hc => ?_) (fun hc => ?_)
      · have hw := hw.2 hc
        refine zr_aload_n (r := some h0) hx hb dX0_told_129 rfl (lv_at hl 0 rfl) ?_
        obtain ⟨a_73, ci_74, fs_75, x_76, er, he, hc, hv, hw⟩ := zgI_e hw
        refine zw_get hk hH er he hv (fk_X0_41 hc) dX0_told_130 ?_
        exact hJ_133 x_76 hp_67 nx_68 _ _ _ hw hl hH hz hS
      · have hw := hw.1 hc
        refine zr_aload_n (r := some h0) hx hb dX0_told_122 rfl (lv_at hl 0 rfl) ?_
        obtain ⟨a_77, ci_78, fs_79, x_80, er, he, hc, hv, hw⟩ := zgI_e hw
        refine zw_get hk hH er he hv (fk_X0_138 hc) dX0_told_123 ?_
        refine lv_goto (tgt := 133) hx hb dX0_told_126 (by decide) ?_
        exact hJ_133 x_80 hp_67 nx_68 _ _ _ hw hl hH hz hS
    by_cases hc6 : x2 = (6 : Int32)
    · have hw := hw.2.2.2.2.2.2.1 hc6
      refine lv_tableIn (tgt := 111) hx hb dX0_told_11 (by rw [hc6]; decide) (by rw [hc6]; decide) (by rw [hc6]; rfl) (by decide) ?_
      refine zr_aload_n (r := some h0) hx hb dX0_told_111 rfl (lv_at hl 0 rfl) ?_
      refine lv_iload_n hx hb dX0_told_112 rfl (lv_at hl 1 rfl) ?_
      obtain ⟨a_98, ci_99, fs_100, er, he, hc, hw⟩ := zo_e hw
      obtain rfl := List.mem_singleton.mp hc
      refine zr_calld (zw_runV (As := [.int x1]) hk hH hz hS hl.1 er hw (cwV 1 hts (lw_V q2127 q2129 qs40 q131 q2130) rfl rfl rfl (by decide +kernel) (z_room (Nat.le_of_ble_eq_true rfl))) he rfl rfl rfl (Nat.le_of_ble_eq_true rfl) dX0_told_113 ⟨Nat.le_of_ble_eq_true rfl, Nat.le_of_ble_eq_true rfl⟩) hS (fun x_86 hp_84 nx_85 hw H locs hH hz hS => ?_)
      refine lv_pop2_2 hx hb dX0_told_116 rfl ?_
      refine lv_iload_n hx hb dX0_told_117 rfl (lv_at hl 2 rfl) ?_
      refine lv_iconst (v := (5 : Int32)) hx hb dX0_told_118 (by decide) ?_
      obtain ⟨P_133, hP_133, hw⟩ := hw
      have hJ_133 : ∀ (x_87 : Int32) (hp_88 : zHp) (nx_89 : Nat) (H : Heap) (locs : List Loc) (ls : Array Slot), P_133 x_87 hp_88 nx_89 → lv_has ls 3 [(0, va_rf (some h0)), (1, .int x1), (2, .int x2)] → zHd g hp_88 H → H.size = nx_89 → va_S (zAd g) s.heap H locs → W p l e (zrm (d + 1) 0 0) s m ([.ref h0, .int x1, .int x2] : List Value).toArray below meth c H locs 0 0 (MQ below (zQi g Post) ([.ref h0, .int x1, .int x2] : List Value).toArray s 0 0 (zAd g)) (F0 m 133 ls [.int x_87]) := by
        intro x_87 hp_88 nx_89 H locs ls hw hl hH hz hS
        have hw := hP_133 x_87 hp_88 nx_89 hw
        exact zr_iret hk hr hH hz hS hw (Nat.le_of_ble_eq_true rfl) (Nat.le_of_ble_eq_true rfl) dX0_told_133
      refine lv_icmp_ne (tgt := 129) hx hb dX0_told_119 (by decide) (fun hc => ?_) (fun hc => ?_)
      · have hw := hw.2 hc
        refine zr_aload_n (r := some h0) hx hb dX0_told_129 rfl (lv_at hl 0 rfl) ?_
        obtain ⟨a_90, ci_91, fs_92, x_93, er, he, hc, hv, hw⟩ := zgI_e hw
        refine zw_get hk hH er he hv (fk_X0_41 hc) dX0_told_130 ?_
        exact hJ_133 x_93 hp_84 nx_85 _ _ _ hw hl hH hz hS
      · have hw := hw.1 hc
        refine zr_aload_n (r := some h0) hx hb dX0_told_122 rfl (lv_at hl 0 rfl) ?_
        obtain ⟨a_94, ci_95, fs_96, x_97, er, he, hc, hv, hw⟩ := zgI_e hw
        refine zw_get hk hH er he hv (fk_X0_138 hc) dX0_told_123 ?_
        refine lv_goto (tgt := 133) hx hb dX0_told_126 (by decide) ?_
        exact hJ_133 x_97 hp_84 nx_85 _ _ _ hw hl hH hz hS
    by_cases hc7 : x2 = (7 : Int32)
    · have hw := hw.2.2.2.2.2.2.2.1 hc7
      refine lv_tableIn (tgt := 134) hx hb dX0_told_11 (by rw [hc7]; decide) (by rw [hc7]; decide) (by rw [hc7]; rfl) (by decide) ?_
      refine zr_aload_n (r := some h0) hx hb dX0_told_134 rfl (lv_at hl 0 rfl) ?_
      obtain ⟨a_101, ci_102, fs_103, r_104, er, he, hc, hv, hw⟩ := zgR_e hw
      refine zw_get hk hH er he hv (fk_X0_31 hc) dX0_told_135 ?_
      refine lv_iload_n hx hb dX0_told_138 rfl (lv_at hl 1 rfl) ?_
      obtain ⟨a_105, n_106, f_107, er, he, hi, hw⟩ := zaR_e hw
      have hw := hw _ rfl
      refine zw_aald hk hH 7 er he rfl rfl hi dX0_told_139 ?_
      generalize f_107 x1.toNatClampNeg = r_108 at hw ⊢
      obtain ⟨a_132, ci_133, fs_134, er, he, hc, PP_135, hPP, hw⟩ := zo_e hw
      have hC : ∀ (x_111 : Int32) (hp_109 : zHp) (nx_110 : Nat), PP_135 x_111 hp_109 nx_110 → ∀ (H : Heap) (locs : List Loc), zHd g hp_109 H → H.size = nx_110 → va_S (zAd g) s.heap H locs → W p l e (zrm (d + 1) 0 0) s m ([.ref h0, .int x1, .int x2] : List Value).toArray below meth c H locs (0 + 0) (0 + 0) (MQ below (zQi g Post) ([.ref h0, .int x1, .int x2] : List Value).toArray s 0 0 (zAd g)) (F0 m 143 ls [.int x_111]) := by
        intro x_111 hp_109 nx_110 hw H locs hH hz hS
        have hw := hPP x_111 hp_109 nx_110 hw
        obtain ⟨P_163, hP_163, hw⟩ := hw
        have hJ_163 : ∀ (x_112 : Int32) (hp_113 : zHp) (nx_114 : Nat) (H : Heap) (locs : List Loc) (ls : Array Slot), P_163 x_112 hp_113 nx_114 → lv_has ls 3 [(0, va_rf (some h0)), (1, .int x1), (2, .int x2)] → zHd g hp_113 H → H.size = nx_114 → va_S (zAd g) s.heap H locs → W p l e (zrm (d + 1) 0 0) s m ([.ref h0, .int x1, .int x2] : List Value).toArray below meth c H locs 0 0 (MQ below (zQi g Post) ([.ref h0, .int x1, .int x2] : List Value).toArray s 0 0 (zAd g)) (F0 m 163 ls [.int x_112]) := by
          intro x_112 hp_113 nx_114 H locs ls hw hl hH hz hS
          have hw := hP_163 x_112 hp_113 nx_114 hw
          exact zr_iret hk hr hH hz hS hw (Nat.le_of_ble_eq_true rfl) (Nat.le_of_ble_eq_true rfl) dX0_told_163
        obtain ⟨P_162, hP_162, hw⟩ := hw
        have hJ_162 : ∀ (hp_115 : zHp) (nx_116 : Nat) (H : Heap) (locs : List Loc) (ls : Array Slot), P_162 hp_115 nx_116 → lv_has ls 3 [(0, va_rf (some h0)), (1, .int x1), (2, .int x2)] → zHd g hp_115 H → H.size = nx_116 → va_S (zAd g) s.heap H locs → W p l e (zrm (d + 1) 0 0) s m ([.ref h0, .int x1, .int x2] : List Value).toArray below meth c H locs 0 0 (MQ below (zQi g Post) ([.ref h0, .int x1, .int x2] : List Value).toArray s 0 0 (zAd g)) (F0 m 162 ls []) := by
          intro hp_115 nx_116 H locs ls hw hl hH hz hS
          have hw := hP_162 hp_115 nx_116 hw
          refine lv_iconst (v := (0 : Int32)) hx hb dX0_told_162 (by decide) ?_
          exact hJ_163 (0 : Int32) hp_115 nx_116 _ _ _ hw hl hH hz hS
        refine lv_if_eq (tgt := 162) hx hb dX0_told_143 (by decide) (fun hc => ?_) (fun hc => ?_)
        · have hw := hw.1 hc
          exact hJ_162 hp_109 nx_110 _ _ _ hw hl hH hz hS
        · have hw := hw.2 hc
          refine zr_aload_n (r := some h0) hx hb dX0_told_146 rfl (lv_at hl 0 rfl) ?_
          obtain ⟨a_117, ci_118, fs_119, r_120, er, he, hc, hv, hw⟩ := zgR_e hw
          refine zw_get hk hH er he hv (fk_X0_31 hc) dX0_told_147 ?_
          refine lv_iload_n hx hb dX0_told_150 rfl (lv_at hl 1 rfl) ?_
          obtain ⟨a_121, n_122, f_123, er, he, hi, hw⟩ := zaR_e hw
          have hw := hw _ rfl
          refine zw_aald hk hH 7 er he rfl rfl hi dX0_told_151 ?_
          generalize f_123 x1.toNatClampNeg = r_124 at hw ⊢
          obtain ⟨a_128, ci_129, fs_130, er, he, hc, PP_131, hPP, hw⟩ := zo_e hw
          have hC : ∀ (x_127 : Int32) (hp_125 : zHp) (nx_126 : Nat), PP_131 x_127 hp_125 nx_126 → ∀ (H : Heap) (locs : List Loc), zHd g hp_125 H → H.size = nx_126 → va_S (zAd g) s.heap H locs → W p l e (zrm (d + 1) 0 0) s m ([.ref h0, .int x1, .int x2] : List Value).toArray below meth c H locs (0 + 0) (0 + 0) (MQ below (zQi g Post) ([.ref h0, .int x1, .int x2] : List Value).toArray s 0 0 (zAd g)) (F0 m 155 ls [.int x_127]) := by
            intro x_127 hp_125 nx_126 hw H locs hH hz hS
            have hw := hPP x_127 hp_125 nx_126 hw
            refine lv_if_eq (tgt := 162) hx hb dX0_told_155 (by decide) (fun hc => ?_) (fun hc => ?_)
            · have hw := hw.1 hc
              exact hJ_162 hp_125 nx_126 _ _ _ hw hl hH hz hS
            · have hw := hw.2 hc
              refine lv_iconst (v := (1 : Int32)) hx hb dX0_told_158 (by decide) ?_
              refine lv_goto (tgt := 163) hx hb dX0_told_159 (by decide) ?_
              exact hJ_163 (1 : Int32) hp_125 nx_126 _ _ _ hw hl hH hz hS
          simp only [List.mem_cons, List.not_mem_nil, or_false] at hc
          rcases hc with rfl | rfl | rfl | rfl | rfl | rfl
          · exact zr_calli (zw_runV (As := []) hk hH hz hS hl.1 er (hw) (cwV 0 hts (lw_V q2135 q2110 q2111 q152 q2118) rfl rfl rfl (by decide +kernel) (z_room (Nat.le_of_ble_eq_true rfl))) he rfl rfl rfl (Nat.le_of_ble_eq_true rfl) dX0_told_152 ⟨Nat.le_of_ble_eq_true rfl, Nat.le_of_ble_eq_true rfl⟩) hS hC
          · exact zr_calli (zw_runU (As := []) hk hH hz hS hl.1 er (hw) (va_cwU 0 hts (z_U q2135 q2112 q2117 q2110 q152 q2118) rfl rfl rfl rfl (by decide +kernel) (z_room (Nat.le_of_ble_eq_true rfl))) he rfl rfl rfl (Nat.le_of_ble_eq_true rfl) dX0_told_152 ⟨Nat.le_of_ble_eq_true rfl, Nat.le_of_ble_eq_true rfl⟩) hS hC
          · exact zr_calli (zw_runU (As := []) hk hH hz hS hl.1 er (hw) (va_cwU 0 hts (z_U q2135 q2112 q2114 q2110 q152 q2118) rfl rfl rfl rfl (by decide +kernel) (z_room (Nat.le_of_ble_eq_true rfl))) he rfl rfl rfl (Nat.le_of_ble_eq_true rfl) dX0_told_152 ⟨Nat.le_of_ble_eq_true rfl, Nat.le_of_ble_eq_true rfl⟩) hS hC
          · exact zr_calli (zw_runU (As := []) hk hH hz hS hl.1 er (hw) (va_cwU 0 hts (z_U q2135 q2112 q2115 q2110 q152 q2118) rfl rfl rfl rfl (by decide +kernel) (z_room (Nat.le_of_ble_eq_true rfl))) he rfl rfl rfl (Nat.le_of_ble_eq_true rfl) dX0_told_152 ⟨Nat.le_of_ble_eq_true rfl, Nat.le_of_ble_eq_true rfl⟩) hS hC
          · exact zr_calli (zw_runU (As := []) hk hH hz hS hl.1 er (hw) (va_cwU 0 hts (z_U q2135 q2112 q2116 q2110 q152 q2118) rfl rfl rfl rfl (by decide +kernel) (z_room (Nat.le_of_ble_eq_true rfl))) he rfl rfl rfl (Nat.le_of_ble_eq_true rfl) dX0_told_152 ⟨Nat.le_of_ble_eq_true rfl, Nat.le_of_ble_eq_true rfl⟩) hS hC
          · exact zr_calli (zw_runU (As := []) hk hH hz hS hl.1 er (hw) (va_cwU 0 hts (z_U q2135 q2112 q2113 q2110 q152 q2118) rfl rfl rfl rfl (by decide +kernel) (z_room (Nat.le_of_ble_eq_true rfl))) he rfl rfl rfl (Nat.le_of_ble_eq_true rfl) dX0_told_152 ⟨Nat.le_of_ble_eq_true rfl, Nat.le_of_ble_eq_true rfl⟩) hS hC
      simp only [List.mem_cons, List.not_mem_nil, or_false] at hc
      rcases hc with rfl | rfl | rfl | rfl | rfl | rfl
      · exact zr_calli (zw_runV (As := []) hk hH hz hS hl.1 er (hw) (cwV 0 hts (lw_V q1969 q1970 q1971 q152 q1978) rfl rfl rfl (by decide +kernel) (z_room (Nat.le_of_ble_eq_true rfl))) he rfl rfl rfl (Nat.le_of_ble_eq_true rfl) dX0_told_140 ⟨Nat.le_of_ble_eq_true rfl, Nat.le_of_ble_eq_true rfl⟩) hS hC
      · exact zr_calli (zw_runU (As := []) hk hH hz hS hl.1 er (hw) (va_cwU 0 hts (z_U q1969 q1972 q1977 q1970 q152 q1978) rfl rfl rfl rfl (by decide +kernel) (z_room (Nat.le_of_ble_eq_true rfl))) he rfl rfl rfl (Nat.le_of_ble_eq_true rfl) dX0_told_140 ⟨Nat.le_of_ble_eq_true rfl, Nat.le_of_ble_eq_true rfl⟩) hS hC
      · exact zr_calli (zw_runU (As := []) hk hH hz hS hl.1 er (hw) (va_cwU 0 hts (z_U q1969 q1972 q1974 q1970 q152 q1978) rfl rfl rfl rfl (by decide +kernel) (z_room (Nat.le_of_ble_eq_true rfl))) he rfl rfl rfl (Nat.le_of_ble_eq_true rfl) dX0_told_140 ⟨Nat.le_of_ble_eq_true rfl, Nat.le_of_ble_eq_true rfl⟩) hS hC
      · exact zr_calli (zw_runU (As := []) hk hH hz hS hl.1 er (hw) (va_cwU 0 hts (z_U q1969 q1972 q1975 q1970 q152 q1978) rfl rfl rfl rfl (by decide +kernel) (z_room (Nat.le_of_ble_eq_true rfl))) he rfl rfl rfl (Nat.le_of_ble_eq_true rfl) dX0_told_140 ⟨Nat.le_of_ble_eq_true rfl, Nat.le_of_ble_eq_true rfl⟩) hS hC
      · exact zr_calli (zw_runU (As := []) hk hH hz hS hl.1 er (hw) (va_cwU 0 hts (z_U q1969 q1972 q1976 q1970 q152 q1978) rfl rfl rfl rfl (by decide +kernel) (z_room (Nat.le_of_ble_eq_true rfl))) he rfl rfl rfl (Nat.le_of_ble_eq_true rfl) dX0_told_140 ⟨Nat.le_of_ble_eq_true rfl, Nat.le_of_ble_eq_true rfl⟩) hS hC
      · exact zr_calli (zw_runU (As := []) hk hH hz hS hl.1 er (hw) (va_cwU 0 hts (z_U q1969 q1972 q1973 q1970 q152 q1978) rfl rfl rfl rfl (by decide +kernel) (z_room (Nat.le_of_ble_eq_true rfl))) he rfl rfl rfl (Nat.le_of_ble_eq_true rfl) dX0_told_140 ⟨Nat.le_of_ble_eq_true rfl, Nat.le_of_ble_eq_true rfl⟩) hS hC
    have hw := hw.2.2.2.2.2.2.2.2 ⟨hc0, hc1, hc2, hc3, hc4, hc5, hc6, hc7⟩
    refine lv_tableOut (tgt := 164) hx hb dX0_told_11 (by have h0 := lv_neT hc0 (a := 0) (by decide); have h1 := lv_neT hc1 (a := 1) (by decide); have h2 := lv_neT hc2 (a := 2) (by decide); have h3 := lv_neT hc3 (a := 3) (by decide); have h4 := lv_neT hc4 (a := 4) (by decide); have h5 := lv_neT hc5 (a := 5) (by decide); have h6 := lv_neT hc6 (a := 6) (by decide); have h7 := lv_neT hc7 (a := 7) (by decide); omega) (by decide) ?_
    refine lv_bipush (v := (-2 : Int32)) hx hb dX0_told_164 (by decide) ?_
    exact zr_iret hk hr hH hz hS hw (Nat.le_of_ble_eq_true rfl) (Nat.le_of_ble_eq_true rfl) dX0_told_166
  · have hw := hw.1 hc
    refine lv_bipush (v := (-2 : Int32)) hx hb dX0_told_7 (by decide) ?_
    exact zr_iret hk hr hH hz hS hw (Nat.le_of_ble_eq_true rfl) (Nat.le_of_ble_eq_true rfl) dX0_told_9
def wp_X0_bits (l : Launch) (g : zG) (d : Nat) (r0 : Option Nat) (hp : zHp) (nx : Nat) (Post : Int32 → zHp → Nat → Prop) : Prop :=
  (zo hp r0 [34] fun a_18 ci_19 fs_20 => zMt l g yJ0_nextSetBit cJ0_nextSetBit 5 (some .int) d 0 0 (.ref a_18 :: [.int (0 : Int32)]) hp nx (zQi g fun x_3 hp_1 nx_2 =>
  (∃ I_8 : Nat → Int32 → Int32 → zHp → Nat → Prop, (∃ n_17, I_8 n_17 (0 : Int32) x_3 hp_1 nx_2) ∧ ∀ (n_8 : Nat) (x_4 : Int32) (x_5 : Int32) (hp_6 : zHp) (nx_7 : Nat), I_8 n_8 x_4 x_5 hp_6 nx_7 →
  ((x_5 < 0 →
  (Post x_4 hp_6 nx_7)) ∧
  (¬ x_5 < 0 →
  (∀ x_9 : Int32, x_9 = x_4 ||| ((1 : Int32) <<< (x_5 &&& 31)) →
  (zo hp_6 r0 [34] fun a_14 ci_15 fs_16 => zMt l g yJ0_nextSetBit cJ0_nextSetBit 5 (some .int) d 0 0 (.ref a_14 :: [.int (x_5 + (1 : Int32))]) hp_6 nx_7 (zQi g fun x_12 hp_10 nx_11 =>
  (∃ k_13, k_13 < n_8 ∧ I_8 k_13 x_9 x_12 hp_10 nx_11)))))))))
set_option maxHeartbeats 40000000 in
theorem met_X0_bits {l : Launch} {g : zG} {d : Nat} {r0 : Option Nat} {hp : zHp} {nx : Nat} {Post : Int32 → zHp → Nat → Prop} (hw : wp_X0_bits l g d r0 hp nx Post) : zMt l g yX0_bits cX0_bits 3 (some .int) (d + 1) 0 0 [va_rf r0] hp nx (zQi g Post) := by
  refine z_start (by decide) (by cases r0 <;> exact Nat.le_of_ble_eq_true rfl) ?_
  intro p e s m below meth c hk hr hin hH hz ls hl
  have hx := hk.1.1
  have hb := hk.1.2.1
  have hown := hk.1.2.2.2.1
  have hts := hk.1.2.2.2.2
  have hS : va_S (zAd g) s.heap s.heap [] := va_S.rf
  have hl : lv_has ls 3 [(0, va_rf r0)] := by cases r0 <;> exact hl
  unfold wp_X0_bits at hw
  refine lv_iconst (v := (0 : Int32)) hx hb dX0_bits_0 (by decide) ?_
  refine lv_istore_n (i := 1) (lv' := [(1, .int (0 : Int32)), (0, va_rf r0)]) hx hb dX0_bits_1 rfl hl (by decide) (by first | rfl | simp [List.filter_cons, z_cat, z_catI, z_catJ, z_catF, z_catD]) (fun ls hl => ?_)
  refine zr_aload_n (r := r0) hx hb dX0_bits_2 rfl (lv_at hl 1 rfl) ?_
  refine lv_iconst (v := (0 : Int32)) hx hb dX0_bits_3 (by decide) ?_
  obtain ⟨a_18, ci_19, fs_20, er, he, hc, hw⟩ := zo_e hw
  obtain rfl := List.mem_singleton.mp hc
  refine zr_calli (zw_runV (As := [.int (0 : Int32)]) hk hH hz hS hl.1 er hw (cwV 1 hts (lw_V q944 q945 q946 q133 q947) rfl rfl rfl (by decide +kernel) (z_room (Nat.le_of_ble_eq_true rfl))) he rfl rfl rfl (Nat.le_of_ble_eq_true rfl) dX0_bits_4 ⟨Nat.le_of_ble_eq_true rfl, Nat.le_of_ble_eq_true rfl⟩) hS (fun x_3 hp_1 nx_2 hw H locs hH hz hS => ?_)
  refine lv_istore_n (i := 2) (lv' := [(2, .int x_3), (1, .int (0 : Int32)), (0, va_rf r0)]) hx hb dX0_bits_7 rfl hl (by decide) (by first | rfl | simp [List.filter_cons, z_cat, z_catI, z_catJ, z_catF, z_catD]) (fun ls hl => ?_)
  obtain ⟨I_8, ⟨n_17, hI⟩, hB_8⟩ := hw
  have hL_8 : ∀ (n_8 : Nat) (x_4 : Int32) (x_5 : Int32) (hp_6 : zHp) (nx_7 : Nat) (H : Heap) (locs : List Loc) (ls : Array Slot), I_8 n_8 x_4 x_5 hp_6 nx_7 → lv_has ls 3 [(0, va_rf r0), (1, .int x_4), (2, .int x_5)] → zHd g hp_6 H → H.size = nx_7 → va_S (zAd g) s.heap H locs → W p l e (zrm (d + 1) 0 0) s m ([va_rf r0] : List Value).toArray below meth c H locs 0 0 (MQ below (zQi g Post) ([va_rf r0] : List Value).toArray s 0 0 (zAd g)) (F0 m 8 ls []) := by
    intro n_8
    induction n_8 using Nat.strongRecOn with
    | _ n_8 ih_8 =>
      intro x_4 x_5 hp_6 nx_7 H locs ls hw hl hH hz hS
      have hw := hB_8 n_8 x_4 x_5 hp_6 nx_7 hw
      refine lv_iload_n hx hb dX0_bits_8 rfl (lv_at hl 2 rfl) ?_
      refine lv_if_lt (tgt := 29) hx hb dX0_bits_9 (by decide) (fun hc => ?_) (fun hc => ?_)
      · have hw := hw.1 hc
        refine lv_iload_n hx hb dX0_bits_29 rfl (lv_at hl 1 rfl) ?_
        exact zr_iret hk hr hH hz hS hw (Nat.le_of_ble_eq_true rfl) (Nat.le_of_ble_eq_true rfl) dX0_bits_30
      · have hw := hw.2 hc
        refine lv_iload_n hx hb dX0_bits_12 rfl (lv_at hl 1 rfl) ?_
        refine lv_iconst (v := (1 : Int32)) hx hb dX0_bits_13 (by decide) ?_
        refine lv_iload_n hx hb dX0_bits_14 rfl (lv_at hl 2 rfl) ?_
        refine lv_ishl hx hb dX0_bits_15 ?_
        refine lv_ior hx hb dX0_bits_16 ?_
        refine lv_topi (fun x_9 ex_9 => ?_)
        have hw := hw x_9 ex_9
        refine lv_istore_n (i := 1) (lv' := [(1, .int x_9), (0, va_rf r0), (2, .int x_5)]) hx hb dX0_bits_17 rfl hl (by decide) (by first | rfl | simp [List.filter_cons, z_cat, z_catI, z_catJ, z_catF, z_catD]) (fun ls hl => ?_)
        refine zr_aload_n (r := r0) hx hb dX0_bits_18 rfl (lv_at hl 1 rfl) ?_
        refine lv_iload_n hx hb dX0_bits_19 rfl (lv_at hl 2 rfl) ?_
        refine lv_iconst (v := (1 : Int32)) hx hb dX0_bits_20 (by decide) ?_
        refine lv_iadd hx hb dX0_bits_21 ?_
        obtain ⟨a_14, ci_15, fs_16, er, he, hc, hw⟩ := zo_e hw
        obtain rfl := List.mem_singleton.mp hc
        refine zr_calli (zw_runV (As := [.int (x_5 + (1 : Int32))]) hk hH hz hS hl.1 er hw (cwV 1 hts (lw_V q944 q945 q946 q133 q947) rfl rfl rfl (by decide +kernel) (z_room (Nat.le_of_ble_eq_true rfl))) he rfl rfl rfl (Nat.le_of_ble_eq_true rfl) dX0_bits_22 ⟨Nat.le_of_ble_eq_true rfl, Nat.le_of_ble_eq_true rfl⟩) hS (fun x_12 hp_10 nx_11 hw H locs hH hz hS => ?_)
        refine lv_istore_n (i := 2) (lv' := [(2, .int x_12), (1, .int x_9), (0, va_rf r0)]) hx hb dX0_bits_25 rfl hl (by decide) (by first | rfl | simp [List.filter_cons, z_cat, z_catI, z_catJ, z_catF, z_catD]) (fun ls hl => ?_)
        refine lv_goto (tgt := 8) hx hb dX0_bits_26 (by decide) ?_
        obtain ⟨k_13, hlt, hw⟩ := hw
        exact ih_8 k_13 hlt x_9 x_12 hp_10 nx_11 _ _ _ hw (lv_sub hl [2, 1, 0] rfl) hH hz hS
  exact hL_8 n_17 (0 : Int32) x_3 hp_1 nx_2 _ _ _ hI (lv_sub hl [2, 1, 0] rfl) hH hz hS
theorem fk_X0_52 {ci : Nat} (h : ci ∈ [0]) : zFk "WhatIfSheet" 52 ci 6 := by
  simp only [List.mem_cons, List.not_mem_nil, or_false] at h
  rcases h with rfl
  · exact ⟨RX0, TX0, 30, rfl, by decide, q1216⟩
theorem fk_X0_220 {ci : Nat} (h : ci ∈ [1]) : zFk "WhatIfSheet" 220 ci 12 := by
  simp only [List.mem_cons, List.not_mem_nil, or_false] at h
  rcases h with rfl
  · exact ⟨RX1, TX1, 13, rfl, by decide, q247⟩
theorem fp_X0_220 {ci : Nat} (h : ci ∈ [1]) : zFp "WhatIfSheet" 220 ci 12 .int := by
  simp only [List.mem_cons, List.not_mem_nil, or_false] at h
  rcases h with rfl
  · exact ⟨RX1, TX1, 13, rfl, by decide, q247, rfl, by decide +kernel⟩
theorem fp_X0_167 {ci : Nat} (h : ci ∈ [0]) : zFp "WhatIfSheet" 167 ci 7 (.object "WhatIfSheet$Table") := by
  simp only [List.mem_cons, List.not_mem_nil, or_false] at h
  rcases h with rfl
  · exact ⟨RX0, TX0, 30, rfl, by decide, q1217, rfl, by decide +kernel⟩
theorem fp_X0_138 {ci : Nat} (h : ci ∈ [0]) : zFp "WhatIfSheet" 138 ci 2 .int := by
  simp only [List.mem_cons, List.not_mem_nil, or_false] at h
  rcases h with rfl
  · exact ⟨RX0, TX0, 30, rfl, by decide, q1207, rfl, by decide +kernel⟩
def wp_X0_asked (l : Launch) (g : zG) (d : Nat) (h0 : Nat) (x1 : Int32) (hp : zHp) (nx : Nat) (Post : UInt64 → zHp → Nat → Prop) : Prop :=
  (zgR hp (some h0) [0] 6 fun r_4 =>
  (zgI hp r_4 [1] 12 fun x_8 =>
  (zpt g hp r_4 [1] 12 (.int (x_8 + (1 : Int32))) fun hp_12 =>
  (zpt g hp_12 (some h0) [0] 7 (va_rf none) fun hp_16 =>
  (zpt g hp_16 (some h0) [0] 2 (.int (0 : Int32)) fun hp_20 =>
  (zpt g hp_20 (some h0) [0] 3 (.int (-1 : Int32)) fun hp_24 =>
  (zo hp_24 (some h0) [0] fun a_28 ci_29 fs_30 => zMt l g yX0_tell cX0_tell 5 (some .double) d 0 0 (.ref a_28 :: [.int x1]) hp_24 nx (zQd g fun x_27 hp_25 nx_26 =>
  (Post x_27 hp_25 nx_26)))))))))
set_option maxHeartbeats 40000000 in
theorem met_X0_asked {l : Launch} {g : zG} {d : Nat} {h0 : Nat} {x1 : Int32} {hp : zHp} {nx : Nat} {Post : UInt64 → zHp → Nat → Prop} (hw : wp_X0_asked l g d h0 x1 hp nx Post) : zMt l g yX0_asked cX0_asked 2 (some .double) (d + 1) 0 0 [.ref h0, .int x1] hp nx (zQd g Post) := by
  refine z_start (by decide) (Nat.le_of_ble_eq_true rfl) ?_
  intro p e s m below meth c hk hr hin hH hz ls hl
  have hx := hk.1.1
  have hb := hk.1.2.1
  have hown := hk.1.2.2.2.1
  have hts := hk.1.2.2.2.2
  have hS : va_S (zAd g) s.heap s.heap [] := va_S.rf
  have hl : lv_has ls 2 [(0, va_rf (some h0)), (1, .int x1)] := hl
  unfold wp_X0_asked at hw
  refine zr_aload_n (r := some h0) hx hb dX0_asked_0 rfl (lv_at hl 0 rfl) ?_
  obtain ⟨a_1, ci_2, fs_3, r_4, er, he, hc, hv, hw⟩ := zgR_e hw
  refine zw_get hk hH er he hv (fk_X0_52 hc) dX0_asked_1 ?_
  refine lv_dup hx hb dX0_asked_4 (z_cat _) ?_
  obtain ⟨a_5, ci_6, fs_7, x_8, er, he, hc, hv, hw⟩ := zgI_e hw
  refine zw_get hk hH er he hv (fk_X0_220 hc) dX0_asked_5 ?_
  refine lv_iconst (v := (1 : Int32)) hx hb dX0_asked_8 (by decide) ?_
  refine lv_iadd hx hb dX0_asked_9 ?_
  obtain ⟨a_9, ci_10, fs_11, hp_12, er, he, hc, hA, hkl, eh, hw⟩ := zpt_e hw
  refine zw_put hk hH hz hS er he hA hkl eh (fp_X0_220 hc) rfl rfl dX0_asked_10 (fun H locs hH hz hS => ?_)
  refine zr_aload_n (r := some h0) hx hb dX0_asked_13 rfl (lv_at hl 0 rfl) ?_
  refine zx_null hx hb dX0_asked_14 ?_
  obtain ⟨a_13, ci_14, fs_15, hp_16, er, he, hc, hA, hkl, eh, hw⟩ := zpt_e hw
  refine zw_put hk hH hz hS er he hA hkl eh (fp_X0_167 hc) (z_narR _ _) (z_fitR _ _) dX0_asked_15 (fun H locs hH hz hS => ?_)
  refine zr_aload_n (r := some h0) hx hb dX0_asked_18 rfl (lv_at hl 0 rfl) ?_
  refine lv_iconst (v := (0 : Int32)) hx hb dX0_asked_19 (by decide) ?_
  obtain ⟨a_17, ci_18, fs_19, hp_20, er, he, hc, hA, hkl, eh, hw⟩ := zpt_e hw
  refine zw_put hk hH hz hS er he hA hkl eh (fp_X0_138 hc) rfl rfl dX0_asked_20 (fun H locs hH hz hS => ?_)
  refine zr_aload_n (r := some h0) hx hb dX0_asked_23 rfl (lv_at hl 0 rfl) ?_
  refine lv_iconst (v := (-1 : Int32)) hx hb dX0_asked_24 (by decide) ?_
  obtain ⟨a_21, ci_22, fs_23, hp_24, er, he, hc, hA, hkl, eh, hw⟩ := zpt_e hw
  refine zw_put hk hH hz hS er he hA hkl eh (fp_X0_41 hc) rfl rfl dX0_asked_25 (fun H locs hH hz hS => ?_)
  refine zr_aload_n (r := some h0) hx hb dX0_asked_28 rfl (lv_at hl 0 rfl) ?_
  refine lv_iload_n hx hb dX0_asked_29 rfl (lv_at hl 1 rfl) ?_
  obtain ⟨a_28, ci_29, fs_30, er, he, hc, hw⟩ := zo_e hw
  obtain rfl := List.mem_singleton.mp hc
  refine zr_calld (zw_runV (As := [.int x1]) hk hH hz hS hl.1 er hw (cwV 1 hts (lw_V q2131 q2133 qs41 q131 q2134) rfl rfl rfl (by decide +kernel) (z_room (Nat.le_of_ble_eq_true rfl))) he rfl rfl rfl (Nat.le_of_ble_eq_true rfl) dX0_asked_30 ⟨Nat.le_of_ble_eq_true rfl, Nat.le_of_ble_eq_true rfl⟩) hS (fun x_27 hp_25 nx_26 hw H locs hH hz hS => ?_)
  exact zr_dret hk hr hH hz hS hw (Nat.le_of_ble_eq_true rfl) (Nat.le_of_ble_eq_true rfl) dX0_asked_33
theorem fk_X0_167 {ci : Nat} (h : ci ∈ [0]) : zFk "WhatIfSheet" 167 ci 7 := by
  simp only [List.mem_cons, List.not_mem_nil, or_false] at h
  rcases h with rfl
  · exact ⟨RX0, TX0, 30, rfl, by decide, q1217⟩
theorem fk_X0_217 {ci : Nat} (h : ci ∈ [1]) : zFk "WhatIfSheet" 217 ci 3 := by
  simp only [List.mem_cons, List.not_mem_nil, or_false] at h
  rcases h with rfl
  · exact ⟨RX1, TX1, 13, rfl, by decide, q227⟩
theorem fk_X0_227 {ci : Nat} (h : ci ∈ [1]) : zFk "WhatIfSheet" 227 ci 4 := by
  simp only [List.mem_cons, List.not_mem_nil, or_false] at h
  rcases h with rfl
  · exact ⟨RX1, TX1, 13, rfl, by decide, q229⟩
theorem fk_X0_232 {ci : Nat} (h : ci ∈ [1]) : zFk "WhatIfSheet" 232 ci 5 := by
  simp only [List.mem_cons, List.not_mem_nil, or_false] at h
  rcases h with rfl
  · exact ⟨RX1, TX1, 13, rfl, by decide, q231⟩
theorem fk_X0_229 {ci : Nat} (h : ci ∈ [1]) : zFk "WhatIfSheet" 229 ci 1 := by
  simp only [List.mem_cons, List.not_mem_nil, or_false] at h
  rcases h with rfl
  · exact ⟨RX1, TX1, 13, rfl, by decide, q222⟩
def wp_X0_tell (l : Launch) (g : zG) (d : Nat) (h0 : Nat) (x1 : Int32) (hp : zHp) (nx : Nat) (Post : UInt64 → zHp → Nat → Prop) : Prop :=
  (zgR hp (some h0) [0] 0 fun r_4 =>
  (zaR (g.2.1 7) hp r_4 fun a_5 n_6 f_7 => vp_in x1 n_6 ∧ ∀ r_8 : Option Nat, r_8 = f_7 x1.toNatClampNeg →
  (zo hp r_8 [2, 6, 7, 8, 9, 10] fun a_143 ci_144 fs_145 => ∃ PP_146 : Int32 → zHp → Nat → Prop, (∀ (x_11 : Int32) (hp_9 : zHp) (nx_10 : Nat), PP_146 x_11 hp_9 nx_10 →
  ((x_11 = 0 →
  (zgR hp_9 (some h0) [0] 7 fun r_15 =>
  (∃ P_71 : (Option Nat) → (Option Nat) → zHp → Nat → Prop, (∀ (r_16 : Option Nat) (r_17 : Option Nat) (hp_18 : zHp) (nx_19 : Nat), P_71 r_16 r_17 hp_18 nx_19 →
  (zo hp_18 (some h0) [0] fun a_94 ci_95 fs_96 => zMt l g yX0_place cX0_place 5 (some .int) d 0 0 (.ref a_94 :: [.int x1, va_rf r_17]) hp_18 nx_19 (zQi g fun x_22 hp_20 nx_21 =>
  (zgR hp_20 r_17 [1] 3 fun r_26 =>
  (zaI (g.2.1 0) hp_20 r_26 fun a_27 n_28 f_29 => vp_in x_22 n_28 ∧ ∀ x_30 : Int32, x_30 = f_29 x_22.toNatClampNeg →
  (zgI hp_20 r_17 [1] 12 fun x_34 =>
  (∃ P_102 : (Option Nat) → (Option Nat) → Int32 → zHp → Nat → Prop, (∀ (r_35 : Option Nat) (r_36 : Option Nat) (x_37 : Int32) (hp_38 : zHp) (nx_39 : Nat), P_102 r_35 r_36 x_37 hp_38 nx_39 →
  (zgR hp_38 r_36 [1] 4 fun r_43 =>
  (zaI (g.2.1 2) hp_38 r_43 fun a_44 n_45 f_46 => vp_in x_37 n_45 ∧ ∀ x_47 : Int32, x_47 = f_46 x_37.toNatClampNeg →
  ((x_47 = 0 →
  (zgR hp_38 r_36 [1] 1 fun r_84 =>
  (zaD (g.2.1 1) hp_38 r_84 fun a_85 n_86 f_87 => vp_in x_37 n_86 ∧ ∀ x_88 : UInt64, x_88 = f_87 x_37.toNatClampNeg →
  (Post x_88 hp_38 nx_39)))) ∧
  (¬ x_47 = 0 →
  (zgI hp_38 (some h0) [0] 2 fun x_51 =>
  (∃ P_149 : (Option Nat) → (Option Nat) → Int32 → zHp → Nat → Prop, (∀ (r_52 : Option Nat) (r_53 : Option Nat) (x_54 : Int32) (hp_55 : zHp) (nx_56 : Nat), P_149 r_52 r_53 x_54 hp_55 nx_56 →
  (Post FP.dconst0 hp_55 nx_56)) ∧
  ((x_51 = 0 →
  (zgR hp_38 r_36 [1] 4 fun r_60 =>
  (zaI (g.2.1 2) hp_38 r_60 fun a_61 n_62 f_63 => vp_in x_37 n_62 ∧ ∀ x_64 : Int32, x_64 = f_63 x_37.toNatClampNeg →
  (zpt g hp_38 (some h0) [0] 2 (.int x_64) fun hp_68 =>
  (zgR hp_68 r_36 [1] 5 fun r_72 =>
  (zaI (g.2.1 2) hp_68 r_72 fun a_73 n_74 f_75 => vp_in x_37 n_74 ∧ ∀ x_76 : Int32, x_76 = f_75 x_37.toNatClampNeg →
  (zpt g hp_68 (some h0) [0] 3 (.int x_76) fun hp_80 =>
  P_149 r_35 r_36 x_37 hp_80 nx_39))))))) ∧
  (¬ x_51 = 0 →
  P_149 r_35 r_36 x_37 hp_38 nx_39))))))))) ∧
  ((x_30 = x_34 →
  P_102 r_16 r_17 x_22 hp_20 nx_21) ∧
  (¬ x_30 = x_34 →
  (zo hp_20 (some h0) [0] fun a_91 ci_92 fs_93 => zMtW l g yX0_fills cX0_fills 10 none [(18, 113, 134, 0), (134, 136, 134, 0)] d 0 0 (.ref a_91 :: [va_rf r_16, va_rf r_17, .int x_22]) hp_20 nx_21 (zQv g fun hp_89 nx_90 =>
  P_102 r_16 r_17 x_22 hp_89 nx_90))))))))))) ∧
  ((r_15 = none →
  (zgR hp_9 (some h0) [0] 6 fun r_116 =>
  P_71 r_8 r_116 hp_9 nx_10)) ∧
  (¬ r_15 = none →
  (zgR hp_9 (some h0) [0] 5 fun r_100 =>
  (zgR hp_9 (some h0) [0] 7 fun r_104 =>
  (zgI hp_9 r_104 [31] 0 fun x_108 =>
  (zaR (g.2.1 9) hp_9 r_100 fun a_109 n_110 f_111 => vp_in x_108 n_110 ∧ ∀ r_112 : Option Nat, r_112 = f_111 x_108.toNatClampNeg →
  P_71 r_8 r_112 hp_9 nx_10))))))))) ∧
  (¬ x_11 = 0 →
  (zo hp_9 r_8 [2, 6, 7, 8, 9, 10] fun a_139 ci_140 fs_141 => ∃ PP_142 : Int32 → zHp → Nat → Prop, (∀ (x_119 : Int32) (hp_117 : zHp) (nx_118 : Nat), PP_142 x_119 hp_117 nx_118 →
  ((x_119 = 0 →
  (zgD hp_117 r_8 [2, 6, 7, 8, 9, 10] 2 fun x_138 =>
  (Post x_138 hp_117 nx_118))) ∧
  (¬ x_119 = 0 →
  (zgI hp_117 (some h0) [0] 2 fun x_123 =>
  (∃ P_43 : (Option Nat) → zHp → Nat → Prop, (∀ (r_124 : Option Nat) (hp_125 : zHp) (nx_126 : Nat), P_43 r_124 hp_125 nx_126 →
  (Post FP.dconst0 hp_125 nx_126)) ∧
  ((x_123 = 0 →
  (zpt g hp_117 (some h0) [0] 2 (.int (1 : Int32)) fun hp_130 =>
  (zpt g hp_130 (some h0) [0] 3 (.int x1) fun hp_134 =>
  P_43 r_8 hp_134 nx_118))) ∧
  (¬ x_123 = 0 →
  P_43 r_8 hp_117 nx_118))))))) ∧ zMt l g yX2_isEmpty cX2_isEmpty 1 (some .boolean) d 0 0 (.ref a_139 :: []) hp_9 nx_10 (zQi g PP_142))))) ∧ zMt l g yX2_isInput cX2_isInput 1 (some .boolean) d 0 0 (.ref a_143 :: []) hp nx (zQi g PP_146))))
set_option maxHeartbeats 40000000 in
theorem met_X0_tell {l : Launch} {g : zG} {d : Nat} {h0 : Nat} {x1 : Int32} {hp : zHp} {nx : Nat} {Post : UInt64 → zHp → Nat → Prop} (hw : wp_X0_tell l g d h0 x1 hp nx Post) : zMt l g yX0_tell cX0_tell 5 (some .double) (d + 1) 0 0 [.ref h0, .int x1] hp nx (zQd g Post) := by
  refine z_start (by decide) (Nat.le_of_ble_eq_true rfl) ?_
  intro p e s m below meth c hk hr hin hH hz ls hl
  have hx := hk.1.1
  have hb := hk.1.2.1
  have hown := hk.1.2.2.2.1
  have hts := hk.1.2.2.2.2
  have hS : va_S (zAd g) s.heap s.heap [] := va_S.rf
  have hl : lv_has ls 5 [(0, va_rf (some h0)), (1, .int x1)] := hl
  unfold wp_X0_tell at hw
  refine zr_aload_n (r := some h0) hx hb dX0_tell_0 rfl (lv_at hl 0 rfl) ?_
  obtain ⟨a_1, ci_2, fs_3, r_4, er, he, hc, hv, hw⟩ := zgR_e hw
  refine zw_get hk hH er he hv (fk_X0_31 hc) dX0_tell_1 ?_
  refine lv_iload_n hx hb dX0_tell_4 rfl (lv_at hl 1 rfl) ?_
  obtain ⟨a_5, n_6, f_7, er, he, hi, hw⟩ := zaR_e hw
  have hw := hw _ rfl
  refine zw_aald hk hH 7 er he rfl rfl hi dX0_tell_5 ?_
  generalize f_7 x1.toNatClampNeg = r_8 at hw ⊢
  refine zr_astore_n (r := r_8) (i := 2) (lv' := [(2, va_rf r_8), (0, va_rf (some h0)), (1, .int x1)]) hx hb dX0_tell_6 rfl hl (by decide) (by first | rfl | simp [List.filter_cons, z_cat, z_catI, z_catJ, z_catF, z_catD]) (fun ls hl => ?_)
  refine zr_aload_n (r := r_8) hx hb dX0_tell_7 rfl (lv_at hl 0 rfl) ?_
  obtain ⟨a_143, ci_144, fs_145, er, he, hc, PP_146, hPP, hw⟩ := zo_e hw
  have hC : ∀ (x_11 : Int32) (hp_9 : zHp) (nx_10 : Nat), PP_146 x_11 hp_9 nx_10 → ∀ (H : Heap) (locs : List Loc), zHd g hp_9 H → H.size = nx_10 → va_S (zAd g) s.heap H locs → W p l e (zrm (d + 1) 0 0) s m ([.ref h0, .int x1] : List Value).toArray below meth c H locs (0 + 0) (0 + 0) (MQ below (zQd g Post) ([.ref h0, .int x1] : List Value).toArray s 0 0 (zAd g)) (F0 m 11 ls [.int x_11]) := by
    intro x_11 hp_9 nx_10 hw H locs hH hz hS
    have hw := hPP x_11 hp_9 nx_10 hw
    refine lv_if_eq (tgt := 45) hx hb dX0_tell_11 (by decide) (fun hc => ?_) (fun hc => ?_)
    · have hw := hw.1 hc
      refine zr_aload_n (r := some h0) hx hb dX0_tell_45 rfl (lv_at hl 1 rfl) ?_
      obtain ⟨a_12, ci_13, fs_14, r_15, er, he, hc, hv, hw⟩ := zgR_e hw
      refine zw_get hk hH er he hv (fk_X0_167 hc) dX0_tell_46 ?_
      obtain ⟨P_71, hP_71, hw⟩ := hw
      have hJ_71 : ∀ (r_16 : Option Nat) (r_17 : Option Nat) (hp_18 : zHp) (nx_19 : Nat) (H : Heap) (locs : List Loc) (ls : Array Slot), P_71 r_16 r_17 hp_18 nx_19 → lv_has ls 5 [(0, va_rf (some h0)), (1, .int x1), (2, va_rf r_16)] → zHd g hp_18 H → H.size = nx_19 → va_S (zAd g) s.heap H locs → W p l e (zrm (d + 1) 0 0) s m ([.ref h0, .int x1] : List Value).toArray below meth c H locs 0 0 (MQ below (zQd g Post) ([.ref h0, .int x1] : List Value).toArray s 0 0 (zAd g)) (F0 m 71 ls [va_rf r_17]) := by
        intro r_16 r_17 hp_18 nx_19 H locs ls hw hl hH hz hS
        have hw := hP_71 r_16 r_17 hp_18 nx_19 hw
        refine zr_astore_n (r := r_17) (i := 3) (lv' := [(3, va_rf r_17), (0, va_rf (some h0)), (1, .int x1), (2, va_rf r_16)]) hx hb dX0_tell_71 rfl hl (by decide) (by first | rfl | simp [List.filter_cons, z_cat, z_catI, z_catJ, z_catF, z_catD]) (fun ls hl => ?_)
        refine zr_aload_n (r := some h0) hx hb dX0_tell_72 rfl (lv_at hl 1 rfl) ?_
        refine lv_iload_n hx hb dX0_tell_73 rfl (lv_at hl 2 rfl) ?_
        refine zr_aload_n (r := r_17) hx hb dX0_tell_74 rfl (lv_at hl 0 rfl) ?_
        obtain ⟨a_94, ci_95, fs_96, er, he, hc, hw⟩ := zo_e hw
        obtain rfl := List.mem_singleton.mp hc
        refine zr_calli (zw_runV (As := [.int x1, va_rf r_17]) hk hH hz hS hl.1 er hw (cwV 2 hts (lw_V q2136 q2138 qs42 q131 q2139) rfl rfl rfl (by decide +kernel) (z_room (Nat.le_of_ble_eq_true rfl))) he rfl rfl rfl (Nat.le_of_ble_eq_true rfl) dX0_tell_75 ⟨Nat.le_of_ble_eq_true rfl, Nat.le_of_ble_eq_true rfl⟩) hS (fun x_22 hp_20 nx_21 hw H locs hH hz hS => ?_)
        refine lv_istore (lv' := [(4, .int x_22), (3, va_rf r_17), (0, va_rf (some h0)), (1, .int x1), (2, va_rf r_16)]) hx hb dX0_tell_78 hl (by decide) (by first | rfl | simp [List.filter_cons, z_cat, z_catI, z_catJ, z_catF, z_catD]) (fun ls hl => ?_)
        refine zr_aload_n (r := r_17) hx hb dX0_tell_80 rfl (lv_at hl 1 rfl) ?_
        obtain ⟨a_23, ci_24, fs_25, r_26, er, he, hc, hv, hw⟩ := zgR_e hw
        refine zw_get hk hH er he hv (fk_X0_217 hc) dX0_tell_81 ?_
        refine lv_iload hx hb dX0_tell_84 (lv_at hl 0 rfl) ?_
        obtain ⟨a_27, n_28, f_29, er, he, hi, hw⟩ := zaI_e hw
        have hw := hw _ rfl
        refine zw_iald hk hH er he hi dX0_tell_86 ?_
        generalize f_29 x_22.toNatClampNeg = x_30 at hw ⊢
        refine zr_aload_n (r := r_17) hx hb dX0_tell_87 rfl (lv_at hl 1 rfl) ?_
        obtain ⟨a_31, ci_32, fs_33, x_34, er, he, hc, hv, hw⟩ := zgI_e hw
        refine zw_get hk hH er he hv (fk_X0_220 hc) dX0_tell_88 ?_
        obtain ⟨P_102, hP_102, hw⟩ := hw
        have hJ_102 : ∀ (r_35 : Option Nat) (r_36 : Option Nat) (x_37 : Int32) (hp_38 : zHp) (nx_39 : Nat) (H : Heap) (locs : List Loc) (ls : Array Slot), P_102 r_35 r_36 x_37 hp_38 nx_39 → lv_has ls 5 [(0, va_rf (some h0)), (1, .int x1), (2, va_rf r_35), (3, va_rf r_36), (4, .int x_37)] → zHd g hp_38 H → H.size = nx_39 → va_S (zAd g) s.heap H locs → W p l e (zrm (d + 1) 0 0) s m ([.ref h0, .int x1] : List Value).toArray below meth c H locs 0 0 (MQ below (zQd g Post) ([.ref h0, .int x1] : List Value).toArray s 0 0 (zAd g)) (F0 m 102 ls []) := by
          intro r_35 r_36 x_37 hp_38 nx_39 H locs ls hw hl hH hz hS
          have hw := hP_102 r_35 r_36 x_37 hp_38 nx_39 hw
          refine zr_aload_n (r := r_36) hx hb dX0_tell_102 rfl (lv_at hl 3 rfl) ?_
          obtain ⟨a_40, ci_41, fs_42, r_43, er, he, hc, hv, hw⟩ := zgR_e hw
          refine zw_get hk hH er he hv (fk_X0_227 hc) dX0_tell_103 ?_
          refine lv_iload hx hb dX0_tell_106 (lv_at hl 4 rfl) ?_
          obtain ⟨a_44, n_45, f_46, er, he, hi, hw⟩ := zaI_e hw
          have hw := hw _ rfl
          refine zw_bald hk hH er he hi dX0_tell_108 ?_
          generalize f_46 x_37.toNatClampNeg = x_47 at hw ⊢
          refine lv_if_ne (tgt := 120) hx hb dX0_tell_109 (by decide) (fun hc => ?_) (fun hc => ?_)
          · have hw := hw.2 hc
            refine zr_aload_n (r := some h0) hx hb dX0_tell_120 rfl (lv_at hl 0 rfl) ?_
            obtain ⟨a_48, ci_49, fs_50, x_51, er, he, hc, hv, hw⟩ := zgI_e hw
            refine zw_get hk hH er he hv (fk_X0_138 hc) dX0_tell_121 ?_
            obtain ⟨P_149, hP_149, hw⟩ := hw
            have hJ_149 : ∀ (r_52 : Option Nat) (r_53 : Option Nat) (x_54 : Int32) (hp_55 : zHp) (nx_56 : Nat) (H : Heap) (locs : List Loc) (ls : Array Slot), P_149 r_52 r_53 x_54 hp_55 nx_56 → lv_has ls 5 [(0, va_rf (some h0)), (1, .int x1), (2, va_rf r_52), (3, va_rf r_53), (4, .int x_54)] → zHd g hp_55 H → H.size = nx_56 → va_S (zAd g) s.heap H locs → W p l e (zrm (d + 1) 0 0) s m ([.ref h0, .int x1] : List Value).toArray below meth c H locs 0 0 (MQ below (zQd g Post) ([.ref h0, .int x1] : List Value).toArray s 0 0 (zAd g)) (F0 m 149 ls []) := by
              intro r_52 r_53 x_54 hp_55 nx_56 H locs ls hw hl hH hz hS
              have hw := hP_149 r_52 r_53 x_54 hp_55 nx_56 hw
              refine lv_dconst0 hx hb dX0_tell_149 ?_
              exact zr_dret hk hr hH hz hS hw (Nat.le_of_ble_eq_true rfl) (Nat.le_of_ble_eq_true rfl) dX0_tell_150
            refine lv_if_ne (tgt := 149) hx hb dX0_tell_124 (by decide) (fun hc => ?_) (fun hc => ?_)
            · have hw := hw.2 hc
              exact hJ_149 r_35 r_36 x_37 hp_38 nx_39 _ _ _ hw hl hH hz hS
            · have hw := hw.1 hc
              refine zr_aload_n (r := some h0) hx hb dX0_tell_127 rfl (lv_at hl 0 rfl) ?_
              refine zr_aload_n (r := r_36) hx hb dX0_tell_128 rfl (lv_at hl 3 rfl) ?_
              obtain ⟨a_57, ci_58, fs_59, r_60, er, he, hc, hv, hw⟩ := zgR_e hw
              refine zw_get hk hH er he hv (fk_X0_227 hc) dX0_tell_129 ?_
              refine lv_iload hx hb dX0_tell_132 (lv_at hl 4 rfl) ?_
              obtain ⟨a_61, n_62, f_63, er, he, hi, hw⟩ := zaI_e hw
              have hw := hw _ rfl
              refine zw_bald hk hH er he hi dX0_tell_134 ?_
              generalize f_63 x_37.toNatClampNeg = x_64 at hw ⊢
              obtain ⟨a_65, ci_66, fs_67, hp_68, er, he, hc, hA, hkl, eh, hw⟩ := zpt_e hw
              refine zw_put hk hH hz hS er he hA hkl eh (fp_X0_138 hc) rfl rfl dX0_tell_135 (fun H locs hH hz hS => ?_)
              refine zr_aload_n (r := some h0) hx hb dX0_tell_138 rfl (lv_at hl 0 rfl) ?_
              refine zr_aload_n (r := r_36) hx hb dX0_tell_139 rfl (lv_at hl 3 rfl) ?_
              obtain ⟨a_69, ci_70, fs_71, r_72, er, he, hc, hv, hw⟩ := zgR_e hw
              refine zw_get hk hH er he hv (fk_X0_232 hc) dX0_tell_140 ?_
              refine lv_iload hx hb dX0_tell_143 (lv_at hl 4 rfl) ?_
              obtain ⟨a_73, n_74, f_75, er, he, hi, hw⟩ := zaI_e hw
              have hw := hw _ rfl
              refine zw_bald hk hH er he hi dX0_tell_145 ?_
              generalize f_75 x_37.toNatClampNeg = x_76 at hw ⊢
              obtain ⟨a_77, ci_78, fs_79, hp_80, er, he, hc, hA, hkl, eh, hw⟩ := zpt_e hw
              refine zw_put hk hH hz hS er he hA hkl eh (fp_X0_41 hc) rfl rfl dX0_tell_146 (fun H locs hH hz hS => ?_)
              exact hJ_149 r_35 r_36 x_37 hp_80 nx_39 _ _ _ hw hl hH hz hS
          · have hw := hw.1 hc
            refine zr_aload_n (r := r_36) hx hb dX0_tell_112 rfl (lv_at hl 3 rfl) ?_
            obtain ⟨a_81, ci_82, fs_83, r_84, er, he, hc, hv, hw⟩ := zgR_e hw
            refine zw_get hk hH er he hv (fk_X0_229 hc) dX0_tell_113 ?_
            refine lv_iload hx hb dX0_tell_116 (lv_at hl 4 rfl) ?_
            obtain ⟨a_85, n_86, f_87, er, he, hi, hw⟩ := zaD_e hw
            have hw := hw _ rfl
            refine zw_dald hk hH er he hi dX0_tell_118 ?_
            generalize f_87 x_37.toNatClampNeg = x_88 at hw ⊢
            exact zr_dret hk hr hH hz hS hw (Nat.le_of_ble_eq_true rfl) (Nat.le_of_ble_eq_true rfl) dX0_tell_119
        refine lv_icmp_eq (tgt := 102) hx hb dX0_tell_91 (by decide) (fun hc => ?_) (fun hc => ?_)
        · have hw := hw.1 hc
          exact hJ_102 r_16 r_17 x_22 hp_20 nx_21 _ _ _ hw (lv_sub hl [2, 3, 4, 1, 0] rfl) hH hz hS
        · have hw := hw.2 hc
          refine zr_aload_n (r := some h0) hx hb dX0_tell_94 rfl (lv_at hl 2 rfl) ?_
          refine zr_aload_n (r := r_16) hx hb dX0_tell_95 rfl (lv_at hl 4 rfl) ?_
          refine zr_aload_n (r := r_17) hx hb dX0_tell_96 rfl (lv_at hl 1 rfl) ?_
          refine lv_iload hx hb dX0_tell_97 (lv_at hl 0 rfl) ?_
          obtain ⟨a_91, ci_92, fs_93, er, he, hc, hw⟩ := zo_e hw
          obtain rfl := List.mem_singleton.mp hc
          refine zr_callv (zw_runVW (As := [va_rf r_16, va_rf r_17, .int x_22]) hk hH hz hS hl.1 er hw (vx_cwVW 3 hts (lw_VW q2140 q2142 qs43 q131 q2143) rfl rfl rfl (by decide +kernel) (z_room (Nat.le_of_ble_eq_true rfl))) he rfl rfl rfl (Nat.le_of_ble_eq_true rfl) dX0_tell_99 ⟨Nat.le_of_ble_eq_true rfl, Nat.le_of_ble_eq_true rfl⟩) hS (fun hp_89 nx_90 hw H locs hH hz hS => ?_)
          exact hJ_102 r_16 r_17 x_22 hp_89 nx_90 _ _ _ hw (lv_sub hl [2, 3, 4, 1, 0] rfl) hH hz hS
      refine zr_ifnonnull (r := r_15) (tgt := 59) hx hb dX0_tell_49 (by decide) (fun hc => ?_) (fun hc => ?_)
      · have hw := hw.2 hc
        refine zr_aload_n (r := some h0) hx hb dX0_tell_59 rfl (lv_at hl 1 rfl) ?_
        obtain ⟨a_97, ci_98, fs_99, r_100, er, he, hc, hv, hw⟩ := zgR_e hw
        refine zw_get hk hH er he hv (fk_X0_47 hc) dX0_tell_60 ?_
        refine zr_aload_n (r := some h0) hx hb dX0_tell_63 rfl (lv_at hl 1 rfl) ?_
        obtain ⟨a_101, ci_102, fs_103, r_104, er, he, hc, hv, hw⟩ := zgR_e hw
        refine zw_get hk hH er he hv (fk_X0_167 hc) dX0_tell_64 ?_
        obtain ⟨a_105, ci_106, fs_107, x_108, er, he, hc, hv, hw⟩ := zgI_e hw
        refine zw_get hk hH er he hv (fk_X0_151 hc) dX0_tell_67 ?_
        obtain ⟨a_109, n_110, f_111, er, he, hi, hw⟩ := zaR_e hw
        have hw := hw _ rfl
        refine zw_aald hk hH 9 er he rfl rfl hi dX0_tell_70 ?_
        generalize f_111 x_108.toNatClampNeg = r_112 at hw ⊢
        exact hJ_71 r_8 r_112 hp_9 nx_10 _ _ _ hw (lv_sub hl [1, 2, 0] rfl) hH hz hS
      · have hw := hw.1 hc
        refine zr_aload_n (r := some h0) hx hb dX0_tell_52 rfl (lv_at hl 1 rfl) ?_
        obtain ⟨a_113, ci_114, fs_115, r_116, er, he, hc, hv, hw⟩ := zgR_e hw
        refine zw_get hk hH er he hv (fk_X0_52 hc) dX0_tell_53 ?_
        refine lv_goto (tgt := 71) hx hb dX0_tell_56 (by decide) ?_
        exact hJ_71 r_8 r_116 hp_9 nx_10 _ _ _ hw (lv_sub hl [1, 2, 0] rfl) hH hz hS
    · have hw := hw.2 hc
      refine zr_aload_n (r := r_8) hx hb dX0_tell_14 rfl (lv_at hl 0 rfl) ?_
      obtain ⟨a_139, ci_140, fs_141, er, he, hc, PP_142, hPP, hw⟩ := zo_e hw
      have hC : ∀ (x_119 : Int32) (hp_117 : zHp) (nx_118 : Nat), PP_142 x_119 hp_117 nx_118 → ∀ (H : Heap) (locs : List Loc), zHd g hp_117 H → H.size = nx_118 → va_S (zAd g) s.heap H locs → W p l e (zrm (d + 1) 0 0) s m ([.ref h0, .int x1] : List Value).toArray below meth c H locs (0 + 0) (0 + 0) (MQ below (zQd g Post) ([.ref h0, .int x1] : List Value).toArray s 0 0 (zAd g)) (F0 m 18 ls [.int x_119]) := by
        intro x_119 hp_117 nx_118 hw H locs hH hz hS
        have hw := hPP x_119 hp_117 nx_118 hw
        refine lv_if_ne (tgt := 26) hx hb dX0_tell_18 (by decide) (fun hc => ?_) (fun hc => ?_)
        · have hw := hw.2 hc
          refine zr_aload_n (r := some h0) hx hb dX0_tell_26 rfl (lv_at hl 1 rfl) ?_
          obtain ⟨a_120, ci_121, fs_122, x_123, er, he, hc, hv, hw⟩ := zgI_e hw
          refine zw_get hk hH er he hv (fk_X0_138 hc) dX0_tell_27 ?_
          obtain ⟨P_43, hP_43, hw⟩ := hw
          have hJ_43 : ∀ (r_124 : Option Nat) (hp_125 : zHp) (nx_126 : Nat) (H : Heap) (locs : List Loc) (ls : Array Slot), P_43 r_124 hp_125 nx_126 → lv_has ls 5 [(0, va_rf (some h0)), (1, .int x1), (2, va_rf r_124)] → zHd g hp_125 H → H.size = nx_126 → va_S (zAd g) s.heap H locs → W p l e (zrm (d + 1) 0 0) s m ([.ref h0, .int x1] : List Value).toArray below meth c H locs 0 0 (MQ below (zQd g Post) ([.ref h0, .int x1] : List Value).toArray s 0 0 (zAd g)) (F0 m 43 ls []) := by
            intro r_124 hp_125 nx_126 H locs ls hw hl hH hz hS
            have hw := hP_43 r_124 hp_125 nx_126 hw
            refine lv_dconst0 hx hb dX0_tell_43 ?_
            exact zr_dret hk hr hH hz hS hw (Nat.le_of_ble_eq_true rfl) (Nat.le_of_ble_eq_true rfl) dX0_tell_44
          refine lv_if_ne (tgt := 43) hx hb dX0_tell_30 (by decide) (fun hc => ?_) (fun hc => ?_)
          · have hw := hw.2 hc
            exact hJ_43 r_8 hp_117 nx_118 _ _ _ hw (lv_sub hl [1, 2, 0] rfl) hH hz hS
          · have hw := hw.1 hc
            refine zr_aload_n (r := some h0) hx hb dX0_tell_33 rfl (lv_at hl 1 rfl) ?_
            refine lv_iconst (v := (1 : Int32)) hx hb dX0_tell_34 (by decide) ?_
            obtain ⟨a_127, ci_128, fs_129, hp_130, er, he, hc, hA, hkl, eh, hw⟩ := zpt_e hw
            refine zw_put hk hH hz hS er he hA hkl eh (fp_X0_138 hc) rfl rfl dX0_tell_35 (fun H locs hH hz hS => ?_)
            refine zr_aload_n (r := some h0) hx hb dX0_tell_38 rfl (lv_at hl 1 rfl) ?_
            refine lv_iload_n hx hb dX0_tell_39 rfl (lv_at hl 2 rfl) ?_
            obtain ⟨a_131, ci_132, fs_133, hp_134, er, he, hc, hA, hkl, eh, hw⟩ := zpt_e hw
            refine zw_put hk hH hz hS er he hA hkl eh (fp_X0_41 hc) rfl rfl dX0_tell_40 (fun H locs hH hz hS => ?_)
            exact hJ_43 r_8 hp_134 nx_118 _ _ _ hw (lv_sub hl [1, 2, 0] rfl) hH hz hS
        · have hw := hw.1 hc
          refine zr_aload_n (r := r_8) hx hb dX0_tell_21 rfl (lv_at hl 0 rfl) ?_
          obtain ⟨a_135, ci_136, fs_137, x_138, er, he, hc, hv, hw⟩ := zgD_e hw
          refine zw_get hk hH er he hv (fk_X0_209 hc) dX0_tell_22 ?_
          exact zr_dret hk hr hH hz hS hw (Nat.le_of_ble_eq_true rfl) (Nat.le_of_ble_eq_true rfl) dX0_tell_25
      simp only [List.mem_cons, List.not_mem_nil, or_false] at hc
      rcases hc with rfl | rfl | rfl | rfl | rfl | rfl
      · exact zr_calli (zw_runV (As := []) hk hH hz hS hl.1 er (hw) (cwV 0 hts (lw_V q2135 q2110 q2111 q152 q2118) rfl rfl rfl (by decide +kernel) (z_room (Nat.le_of_ble_eq_true rfl))) he rfl rfl rfl (Nat.le_of_ble_eq_true rfl) dX0_tell_15 ⟨Nat.le_of_ble_eq_true rfl, Nat.le_of_ble_eq_true rfl⟩) hS hC
      · exact zr_calli (zw_runU (As := []) hk hH hz hS hl.1 er (hw) (va_cwU 0 hts (z_U q2135 q2112 q2117 q2110 q152 q2118) rfl rfl rfl rfl (by decide +kernel) (z_room (Nat.le_of_ble_eq_true rfl))) he rfl rfl rfl (Nat.le_of_ble_eq_true rfl) dX0_tell_15 ⟨Nat.le_of_ble_eq_true rfl, Nat.le_of_ble_eq_true rfl⟩) hS hC
      · exact zr_calli (zw_runU (As := []) hk hH hz hS hl.1 er (hw) (va_cwU 0 hts (z_U q2135 q2112 q2114 q2110 q152 q2118) rfl rfl rfl rfl (by decide +kernel) (z_room (Nat.le_of_ble_eq_true rfl))) he rfl rfl rfl (Nat.le_of_ble_eq_true rfl) dX0_tell_15 ⟨Nat.le_of_ble_eq_true rfl, Nat.le_of_ble_eq_true rfl⟩) hS hC
      · exact zr_calli (zw_runU (As := []) hk hH hz hS hl.1 er (hw) (va_cwU 0 hts (z_U q2135 q2112 q2115 q2110 q152 q2118) rfl rfl rfl rfl (by decide +kernel) (z_room (Nat.le_of_ble_eq_true rfl))) he rfl rfl rfl (Nat.le_of_ble_eq_true rfl) dX0_tell_15 ⟨Nat.le_of_ble_eq_true rfl, Nat.le_of_ble_eq_true rfl⟩) hS hC
      · exact zr_calli (zw_runU (As := []) hk hH hz hS hl.1 er (hw) (va_cwU 0 hts (z_U q2135 q2112 q2116 q2110 q152 q2118) rfl rfl rfl rfl (by decide +kernel) (z_room (Nat.le_of_ble_eq_true rfl))) he rfl rfl rfl (Nat.le_of_ble_eq_true rfl) dX0_tell_15 ⟨Nat.le_of_ble_eq_true rfl, Nat.le_of_ble_eq_true rfl⟩) hS hC
      · exact zr_calli (zw_runU (As := []) hk hH hz hS hl.1 er (hw) (va_cwU 0 hts (z_U q2135 q2112 q2113 q2110 q152 q2118) rfl rfl rfl rfl (by decide +kernel) (z_room (Nat.le_of_ble_eq_true rfl))) he rfl rfl rfl (Nat.le_of_ble_eq_true rfl) dX0_tell_15 ⟨Nat.le_of_ble_eq_true rfl, Nat.le_of_ble_eq_true rfl⟩) hS hC
  simp only [List.mem_cons, List.not_mem_nil, or_false] at hc
  rcases hc with rfl | rfl | rfl | rfl | rfl | rfl
  · exact zr_calli (zw_runV (As := []) hk hH hz hS hl.1 er (hw) (cwV 0 hts (lw_V q1969 q1970 q1971 q152 q1978) rfl rfl rfl (by decide +kernel) (z_room (Nat.le_of_ble_eq_true rfl))) he rfl rfl rfl (Nat.le_of_ble_eq_true rfl) dX0_tell_8 ⟨Nat.le_of_ble_eq_true rfl, Nat.le_of_ble_eq_true rfl⟩) hS hC
  · exact zr_calli (zw_runU (As := []) hk hH hz hS hl.1 er (hw) (va_cwU 0 hts (z_U q1969 q1972 q1977 q1970 q152 q1978) rfl rfl rfl rfl (by decide +kernel) (z_room (Nat.le_of_ble_eq_true rfl))) he rfl rfl rfl (Nat.le_of_ble_eq_true rfl) dX0_tell_8 ⟨Nat.le_of_ble_eq_true rfl, Nat.le_of_ble_eq_true rfl⟩) hS hC
  · exact zr_calli (zw_runU (As := []) hk hH hz hS hl.1 er (hw) (va_cwU 0 hts (z_U q1969 q1972 q1974 q1970 q152 q1978) rfl rfl rfl rfl (by decide +kernel) (z_room (Nat.le_of_ble_eq_true rfl))) he rfl rfl rfl (Nat.le_of_ble_eq_true rfl) dX0_tell_8 ⟨Nat.le_of_ble_eq_true rfl, Nat.le_of_ble_eq_true rfl⟩) hS hC
  · exact zr_calli (zw_runU (As := []) hk hH hz hS hl.1 er (hw) (va_cwU 0 hts (z_U q1969 q1972 q1975 q1970 q152 q1978) rfl rfl rfl rfl (by decide +kernel) (z_room (Nat.le_of_ble_eq_true rfl))) he rfl rfl rfl (Nat.le_of_ble_eq_true rfl) dX0_tell_8 ⟨Nat.le_of_ble_eq_true rfl, Nat.le_of_ble_eq_true rfl⟩) hS hC
  · exact zr_calli (zw_runU (As := []) hk hH hz hS hl.1 er (hw) (va_cwU 0 hts (z_U q1969 q1972 q1976 q1970 q152 q1978) rfl rfl rfl rfl (by decide +kernel) (z_room (Nat.le_of_ble_eq_true rfl))) he rfl rfl rfl (Nat.le_of_ble_eq_true rfl) dX0_tell_8 ⟨Nat.le_of_ble_eq_true rfl, Nat.le_of_ble_eq_true rfl⟩) hS hC
  · exact zr_calli (zw_runU (As := []) hk hH hz hS hl.1 er (hw) (va_cwU 0 hts (z_U q1969 q1972 q1973 q1970 q152 q1978) rfl rfl rfl rfl (by decide +kernel) (z_room (Nat.le_of_ble_eq_true rfl))) he rfl rfl rfl (Nat.le_of_ble_eq_true rfl) dX0_tell_8 ⟨Nat.le_of_ble_eq_true rfl, Nat.le_of_ble_eq_true rfl⟩) hS hC
theorem fk_X0_199 {ci : Nat} (h : ci ∈ [1]) : zFk "WhatIfSheet" 199 ci 0 := by
  simp only [List.mem_cons, List.not_mem_nil, or_false] at h
  rcases h with rfl
  · exact ⟨RX1, TX1, 13, rfl, by decide, q220⟩
theorem fk_X0_193 {ci : Nat} (h : ci ∈ [1]) : zFk "WhatIfSheet" 193 ci 11 := by
  simp only [List.mem_cons, List.not_mem_nil, or_false] at h
  rcases h with rfl
  · exact ⟨RX1, TX1, 13, rfl, by decide, q246⟩
theorem fk_X0_196 {ci : Nat} (h : ci ∈ [0]) : zFk "WhatIfSheet" 196 ci 9 := by
  simp only [List.mem_cons, List.not_mem_nil, or_false] at h
  rcases h with rfl
  · exact ⟨RX0, TX0, 30, rfl, by decide, q1219⟩
theorem fk_X0_184 {ci : Nat} (h : ci ∈ [1]) : zFk "WhatIfSheet" 184 ci 10 := by
  simp only [List.mem_cons, List.not_mem_nil, or_false] at h
  rcases h with rfl
  · exact ⟨RX1, TX1, 13, rfl, by decide, q244⟩
theorem fk_X0_187 {ci : Nat} (h : ci ∈ [0]) : zFk "WhatIfSheet" 187 ci 8 := by
  simp only [List.mem_cons, List.not_mem_nil, or_false] at h
  rcases h with rfl
  · exact ⟨RX0, TX0, 30, rfl, by decide, q1218⟩
def wp_X0_place (l : Launch) (g : zG) (d : Nat) (h0 : Nat) (x1 : Int32) (r2 : Option Nat) (hp : zHp) (nx : Nat) (Post : Int32 → zHp → Nat → Prop) : Prop :=
  (zgR hp (some h0) [0] 7 fun r_4 =>
  ((r_4 = none →
  (Post x1 hp nx)) ∧
  (¬ r_4 = none →
  (zgR hp (some h0) [0] 12 fun r_8 =>
  (zaR (g.2.1 10) hp r_8 fun a_9 n_10 f_11 => vp_in x1 n_10 ∧ ∀ r_12 : Option Nat, r_12 = f_11 x1.toNatClampNeg →
  (zgR hp (some h0) [0] 7 fun r_16 =>
  (zgR hp r_16 [31] 2 fun r_20 =>
  (zgI hp r_20 [32] 0 fun x_24 =>
  (zo hp r_12 [34] fun a_100 ci_101 fs_102 => zMt l g yJ0_get cJ0_get 3 (some .boolean) d 0 0 (.ref a_100 :: [.int x_24]) hp nx (zQi g fun x_27 hp_25 nx_26 =>
  (∃ P_44 : Int32 → zHp → Nat → Prop, (∀ (x_28 : Int32) (hp_29 : zHp) (nx_30 : Nat), P_44 x_28 hp_29 nx_30 →
  (zgR hp_29 (some h0) [0] 7 fun r_34 =>
  (zgR hp_29 r_34 [31] 3 fun r_38 =>
  (∃ P_90 : Int32 → Int32 → zHp → Nat → Prop, (∀ (x_39 : Int32) (x_40 : Int32) (hp_41 : zHp) (nx_42 : Nat), P_90 x_39 x_40 hp_41 nx_42 →
  (zgI hp_41 r2 [1] 0 fun x_46 =>
  (Post (((x_46 * x1) + ((8 : Int32) * x_39)) + x_40) hp_41 nx_42))) ∧
  (∃ P_89 : Int32 → zHp → Nat → Prop, (∀ (x_47 : Int32) (hp_48 : zHp) (nx_49 : Nat), P_89 x_47 hp_48 nx_49 →
  P_90 x_47 (0 : Int32) hp_48 nx_49) ∧
  ((r_38 = none →
  P_89 x_28 hp_29 nx_30) ∧
  (¬ r_38 = none →
  (zgR hp_29 (some h0) [0] 12 fun r_53 =>
  (zaR (g.2.1 10) hp_29 r_53 fun a_54 n_55 f_56 => vp_in x1 n_55 ∧ ∀ r_57 : Option Nat, r_57 = f_56 x1.toNatClampNeg →
  (zgR hp_29 (some h0) [0] 7 fun r_61 =>
  (zgR hp_29 r_61 [31] 3 fun r_65 =>
  (zgI hp_29 r_65 [32] 0 fun x_69 =>
  (zo hp_29 r_57 [34] fun a_85 ci_86 fs_87 => zMt l g yJ0_get cJ0_get 3 (some .boolean) d 0 0 (.ref a_85 :: [.int x_69]) hp_29 nx_30 (zQi g fun x_72 hp_70 nx_71 =>
  ((x_72 = 0 →
  P_89 x_28 hp_70 nx_71) ∧
  (¬ x_72 = 0 →
  (zgR hp_70 r2 [1] 11 fun r_76 =>
  (zgI hp_70 (some h0) [0] 9 fun x_80 =>
  (zaI (g.2.1 2) hp_70 r_76 fun a_81 n_82 f_83 => vp_in x_80 n_82 ∧ ∀ x_84 : Int32, x_84 = f_83 x_80.toNatClampNeg →
  P_90 x_28 x_84 hp_70 nx_71))))))))))))))))))) ∧
  ((x_27 = 0 →
  P_44 (0 : Int32) hp_25 nx_26) ∧
  (¬ x_27 = 0 →
  (zgR hp_25 r2 [1] 10 fun r_91 =>
  (zgI hp_25 (some h0) [0] 8 fun x_95 =>
  (zaI (g.2.1 2) hp_25 r_91 fun a_96 n_97 f_98 => vp_in x_95 n_97 ∧ ∀ x_99 : Int32, x_99 = f_98 x_95.toNatClampNeg →
  P_44 x_99 hp_25 nx_26))))))))))))))))
set_option maxHeartbeats 40000000 in
theorem met_X0_place {l : Launch} {g : zG} {d : Nat} {h0 : Nat} {x1 : Int32} {r2 : Option Nat} {hp : zHp} {nx : Nat} {Post : Int32 → zHp → Nat → Prop} (hw : wp_X0_place l g d h0 x1 r2 hp nx Post) : zMt l g yX0_place cX0_place 5 (some .int) (d + 1) 0 0 [.ref h0, .int x1, va_rf r2] hp nx (zQi g Post) := by
  refine z_start (by decide) (by cases r2 <;> exact Nat.le_of_ble_eq_true rfl) ?_
  intro p e s m below meth c hk hr hin hH hz ls hl
  have hx := hk.1.1
  have hb := hk.1.2.1
  have hown := hk.1.2.2.2.1
  have hts := hk.1.2.2.2.2
  have hS : va_S (zAd g) s.heap s.heap [] := va_S.rf
  have hl : lv_has ls 5 [(0, va_rf (some h0)), (1, .int x1), (2, va_rf r2)] := by cases r2 <;> exact hl
  unfold wp_X0_place at hw
  refine zr_aload_n (r := some h0) hx hb dX0_place_0 rfl (lv_at hl 0 rfl) ?_
  obtain ⟨a_1, ci_2, fs_3, r_4, er, he, hc, hv, hw⟩ := zgR_e hw
  refine zw_get hk hH er he hv (fk_X0_167 hc) dX0_place_1 ?_
  refine zr_ifnonnull (r := r_4) (tgt := 9) hx hb dX0_place_4 (by decide) (fun hc => ?_) (fun hc => ?_)
  · have hw := hw.2 hc
    refine zr_aload_n (r := some h0) hx hb dX0_place_9 rfl (lv_at hl 0 rfl) ?_
    obtain ⟨a_5, ci_6, fs_7, r_8, er, he, hc, hv, hw⟩ := zgR_e hw
    refine zw_get hk hH er he hv (fk_X0_62 hc) dX0_place_10 ?_
    refine lv_iload_n hx hb dX0_place_13 rfl (lv_at hl 1 rfl) ?_
    obtain ⟨a_9, n_10, f_11, er, he, hi, hw⟩ := zaR_e hw
    have hw := hw _ rfl
    refine zw_aald hk hH 10 er he rfl rfl hi dX0_place_14 ?_
    generalize f_11 x1.toNatClampNeg = r_12 at hw ⊢
    refine zr_aload_n (r := some h0) hx hb dX0_place_15 rfl (lv_at hl 0 rfl) ?_
    obtain ⟨a_13, ci_14, fs_15, r_16, er, he, hc, hv, hw⟩ := zgR_e hw
    refine zw_get hk hH er he hv (fk_X0_167 hc) dX0_place_16 ?_
    obtain ⟨a_17, ci_18, fs_19, r_20, er, he, hc, hv, hw⟩ := zgR_e hw
    refine zw_get hk hH er he hv (fk_X0_171 hc) dX0_place_19 ?_
    obtain ⟨a_21, ci_22, fs_23, x_24, er, he, hc, hv, hw⟩ := zgI_e hw
    refine zw_get hk hH er he hv (fk_X0_175 hc) dX0_place_22 ?_
    obtain ⟨a_100, ci_101, fs_102, er, he, hc, hw⟩ := zo_e hw
    obtain rfl := List.mem_singleton.mp hc
    refine zr_calli (zw_runV (As := [.int x_24]) hk hH hz hS hl.1 er hw (cwV 1 hts (lw_V q704 q705 q706 q133 q707) rfl rfl rfl (by decide +kernel) (z_room (Nat.le_of_ble_eq_true rfl))) he rfl rfl rfl (Nat.le_of_ble_eq_true rfl) dX0_place_25 ⟨Nat.le_of_ble_eq_true rfl, Nat.le_of_ble_eq_true rfl⟩) hS (fun x_27 hp_25 nx_26 hw H locs hH hz hS => ?_)
    obtain ⟨P_44, hP_44, hw⟩ := hw
    have hJ_44 : ∀ (x_28 : Int32) (hp_29 : zHp) (nx_30 : Nat) (H : Heap) (locs : List Loc) (ls : Array Slot), P_44 x_28 hp_29 nx_30 → lv_has ls 5 [(0, va_rf (some h0)), (1, .int x1), (2, va_rf r2)] → zHd g hp_29 H → H.size = nx_30 → va_S (zAd g) s.heap H locs → W p l e (zrm (d + 1) 0 0) s m ([.ref h0, .int x1, va_rf r2] : List Value).toArray below meth c H locs 0 0 (MQ below (zQi g Post) ([.ref h0, .int x1, va_rf r2] : List Value).toArray s 0 0 (zAd g)) (F0 m 44 ls [.int x_28]) := by
      intro x_28 hp_29 nx_30 H locs ls hw hl hH hz hS
      have hw := hP_44 x_28 hp_29 nx_30 hw
      refine lv_istore_n (i := 3) (lv' := [(3, .int x_28), (0, va_rf (some h0)), (1, .int x1), (2, va_rf r2)]) hx hb dX0_place_44 rfl hl (by decide) (by first | rfl | simp [List.filter_cons, z_cat, z_catI, z_catJ, z_catF, z_catD]) (fun ls hl => ?_)
      refine zr_aload_n (r := some h0) hx hb dX0_place_45 rfl (lv_at hl 1 rfl) ?_
      obtain ⟨a_31, ci_32, fs_33, r_34, er, he, hc, hv, hw⟩ := zgR_e hw
      refine zw_get hk hH er he hv (fk_X0_167 hc) dX0_place_46 ?_
      obtain ⟨a_35, ci_36, fs_37, r_38, er, he, hc, hv, hw⟩ := zgR_e hw
      refine zw_get hk hH er he hv (fk_X0_190 hc) dX0_place_49 ?_
      obtain ⟨P_90, hP_90, hw⟩ := hw
      have hJ_90 : ∀ (x_39 : Int32) (x_40 : Int32) (hp_41 : zHp) (nx_42 : Nat) (H : Heap) (locs : List Loc) (ls : Array Slot), P_90 x_39 x_40 hp_41 nx_42 → lv_has ls 5 [(0, va_rf (some h0)), (1, .int x1), (2, va_rf r2), (3, .int x_39)] → zHd g hp_41 H → H.size = nx_42 → va_S (zAd g) s.heap H locs → W p l e (zrm (d + 1) 0 0) s m ([.ref h0, .int x1, va_rf r2] : List Value).toArray below meth c H locs 0 0 (MQ below (zQi g Post) ([.ref h0, .int x1, va_rf r2] : List Value).toArray s 0 0 (zAd g)) (F0 m 90 ls [.int x_40]) := by
        intro x_39 x_40 hp_41 nx_42 H locs ls hw hl hH hz hS
        have hw := hP_90 x_39 x_40 hp_41 nx_42 hw
        refine lv_istore (lv' := [(4, .int x_40), (0, va_rf (some h0)), (1, .int x1), (2, va_rf r2), (3, .int x_39)]) hx hb dX0_place_90 hl (by decide) (by first | rfl | simp [List.filter_cons, z_cat, z_catI, z_catJ, z_catF, z_catD]) (fun ls hl => ?_)
        refine zr_aload_n (r := r2) hx hb dX0_place_92 rfl (lv_at hl 3 rfl) ?_
        obtain ⟨a_43, ci_44, fs_45, x_46, er, he, hc, hv, hw⟩ := zgI_e hw
        refine zw_get hk hH er he hv (fk_X0_199 hc) dX0_place_93 ?_
        refine lv_iload_n hx hb dX0_place_96 rfl (lv_at hl 2 rfl) ?_
        refine lv_imul hx hb dX0_place_97 ?_
        refine lv_bipush (v := (8 : Int32)) hx hb dX0_place_98 (by decide) ?_
        refine lv_iload_n hx hb dX0_place_100 rfl (lv_at hl 4 rfl) ?_
        refine lv_imul hx hb dX0_place_101 ?_
        refine lv_iadd hx hb dX0_place_102 ?_
        refine lv_iload hx hb dX0_place_103 (lv_at hl 0 rfl) ?_
        refine lv_iadd hx hb dX0_place_105 ?_
        exact zr_iret hk hr hH hz hS hw (Nat.le_of_ble_eq_true rfl) (Nat.le_of_ble_eq_true rfl) dX0_place_106
      obtain ⟨P_89, hP_89, hw⟩ := hw
      have hJ_89 : ∀ (x_47 : Int32) (hp_48 : zHp) (nx_49 : Nat) (H : Heap) (locs : List Loc) (ls : Array Slot), P_89 x_47 hp_48 nx_49 → lv_has ls 5 [(0, va_rf (some h0)), (1, .int x1), (2, va_rf r2), (3, .int x_47)] → zHd g hp_48 H → H.size = nx_49 → va_S (zAd g) s.heap H locs → W p l e (zrm (d + 1) 0 0) s m ([.ref h0, .int x1, va_rf r2] : List Value).toArray below meth c H locs 0 0 (MQ below (zQi g Post) ([.ref h0, .int x1, va_rf r2] : List Value).toArray s 0 0 (zAd g)) (F0 m 89 ls []) := by
        intro x_47 hp_48 nx_49 H locs ls hw hl hH hz hS
        have hw := hP_89 x_47 hp_48 nx_49 hw
        refine lv_iconst (v := (0 : Int32)) hx hb dX0_place_89 (by decide) ?_
        exact hJ_90 x_47 (0 : Int32) hp_48 nx_49 _ _ _ hw hl hH hz hS
      refine zr_ifnull (r := r_38) (tgt := 89) hx hb dX0_place_52 (by decide) (fun hc => ?_) (fun hc => ?_)
      · have hw := hw.1 hc
        exact hJ_89 x_28 hp_29 nx_30 _ _ _ hw (lv_sub hl [1, 2, 3, 0] rfl) hH hz hS
      · have hw := hw.2 hc
        refine zr_aload_n (r := some h0) hx hb dX0_place_55 rfl (lv_at hl 1 rfl) ?_
        obtain ⟨a_50, ci_51, fs_52, r_53, er, he, hc, hv, hw⟩ := zgR_e hw
        refine zw_get hk hH er he hv (fk_X0_62 hc) dX0_place_56 ?_
        refine lv_iload_n hx hb dX0_place_59 rfl (lv_at hl 2 rfl) ?_
        obtain ⟨a_54, n_55, f_56, er, he, hi, hw⟩ := zaR_e hw
        have hw := hw _ rfl
        refine zw_aald hk hH 10 er he rfl rfl hi dX0_place_60 ?_
        generalize f_56 x1.toNatClampNeg = r_57 at hw ⊢
        refine zr_aload_n (r := some h0) hx hb dX0_place_61 rfl (lv_at hl 1 rfl) ?_
        obtain ⟨a_58, ci_59, fs_60, r_61, er, he, hc, hv, hw⟩ := zgR_e hw
        refine zw_get hk hH er he hv (fk_X0_167 hc) dX0_place_62 ?_
        obtain ⟨a_62, ci_63, fs_64, r_65, er, he, hc, hv, hw⟩ := zgR_e hw
        refine zw_get hk hH er he hv (fk_X0_190 hc) dX0_place_65 ?_
        obtain ⟨a_66, ci_67, fs_68, x_69, er, he, hc, hv, hw⟩ := zgI_e hw
        refine zw_get hk hH er he hv (fk_X0_175 hc) dX0_place_68 ?_
        obtain ⟨a_85, ci_86, fs_87, er, he, hc, hw⟩ := zo_e hw
        obtain rfl := List.mem_singleton.mp hc
        refine zr_calli (zw_runV (As := [.int x_69]) hk hH hz hS hl.1 er hw (cwV 1 hts (lw_V q704 q705 q706 q133 q707) rfl rfl rfl (by decide +kernel) (z_room (Nat.le_of_ble_eq_true rfl))) he rfl rfl rfl (Nat.le_of_ble_eq_true rfl) dX0_place_71 ⟨Nat.le_of_ble_eq_true rfl, Nat.le_of_ble_eq_true rfl⟩) hS (fun x_72 hp_70 nx_71 hw H locs hH hz hS => ?_)
        refine lv_if_eq (tgt := 89) hx hb dX0_place_74 (by decide) (fun hc => ?_) (fun hc => ?_)
        · have hw := hw.1 hc
          exact hJ_89 x_28 hp_70 nx_71 _ _ _ hw (lv_sub hl [1, 2, 3, 0] rfl) hH hz hS
        · have hw := hw.2 hc
          refine zr_aload_n (r := r2) hx hb dX0_place_77 rfl (lv_at hl 3 rfl) ?_
          obtain ⟨a_73, ci_74, fs_75, r_76, er, he, hc, hv, hw⟩ := zgR_e hw
          refine zw_get hk hH er he hv (fk_X0_193 hc) dX0_place_78 ?_
          refine zr_aload_n (r := some h0) hx hb dX0_place_81 rfl (lv_at hl 1 rfl) ?_
          obtain ⟨a_77, ci_78, fs_79, x_80, er, he, hc, hv, hw⟩ := zgI_e hw
          refine zw_get hk hH er he hv (fk_X0_196 hc) dX0_place_82 ?_
          obtain ⟨a_81, n_82, f_83, er, he, hi, hw⟩ := zaI_e hw
          have hw := hw _ rfl
          refine zw_bald hk hH er he hi dX0_place_85 ?_
          generalize f_83 x_80.toNatClampNeg = x_84 at hw ⊢
          refine lv_goto (tgt := 90) hx hb dX0_place_86 (by decide) ?_
          exact hJ_90 x_28 x_84 hp_70 nx_71 _ _ _ hw (lv_sub hl [1, 2, 3, 0] rfl) hH hz hS
    refine lv_if_eq (tgt := 43) hx hb dX0_place_28 (by decide) (fun hc => ?_) (fun hc => ?_)
    · have hw := hw.1 hc
      refine lv_iconst (v := (0 : Int32)) hx hb dX0_place_43 (by decide) ?_
      exact hJ_44 (0 : Int32) hp_25 nx_26 _ _ _ hw hl hH hz hS
    · have hw := hw.2 hc
      refine zr_aload_n (r := r2) hx hb dX0_place_31 rfl (lv_at hl 2 rfl) ?_
      obtain ⟨a_88, ci_89, fs_90, r_91, er, he, hc, hv, hw⟩ := zgR_e hw
      refine zw_get hk hH er he hv (fk_X0_184 hc) dX0_place_32 ?_
      refine zr_aload_n (r := some h0) hx hb dX0_place_35 rfl (lv_at hl 0 rfl) ?_
      obtain ⟨a_92, ci_93, fs_94, x_95, er, he, hc, hv, hw⟩ := zgI_e hw
      refine zw_get hk hH er he hv (fk_X0_187 hc) dX0_place_36 ?_
      obtain ⟨a_96, n_97, f_98, er, he, hi, hw⟩ := zaI_e hw
      have hw := hw _ rfl
      refine zw_bald hk hH er he hi dX0_place_39 ?_
      generalize f_98 x_95.toNatClampNeg = x_99 at hw ⊢
      refine lv_goto (tgt := 44) hx hb dX0_place_40 (by decide) ?_
      exact hJ_44 x_99 hp_25 nx_26 _ _ _ hw hl hH hz hS
  · have hw := hw.1 hc
    refine lv_iload_n hx hb dX0_place_7 rfl (lv_at hl 1 rfl) ?_
    exact zr_iret hk hr hH hz hS hw (Nat.le_of_ble_eq_true rfl) (Nat.le_of_ble_eq_true rfl) dX0_place_8
theorem fk_X0_141 {ci : Nat} (h : ci ∈ [0]) : zFk "WhatIfSheet" 141 ci 4 := by
  simp only [List.mem_cons, List.not_mem_nil, or_false] at h
  rcases h with rfl
  · exact ⟨RX0, TX0, 30, rfl, by decide, q1211⟩
theorem fk_X0_235 {ci : Nat} (h : ci ∈ [2, 6, 7, 8, 9, 10]) : zFk "WhatIfSheet" 235 ci 0 := by
  simp only [List.mem_cons, List.not_mem_nil, or_false] at h
  rcases h with rfl | rfl | rfl | rfl | rfl | rfl
  · exact ⟨RX2, TX2, 3, rfl, by decide, q657⟩
  · exact ⟨RX6, TX6, 3, rfl, by decide, q657⟩
  · exact ⟨RX7, TX7, 3, rfl, by decide, q657⟩
  · exact ⟨RX8, TX8, 3, rfl, by decide, q657⟩
  · exact ⟨RX9, TX9, 3, rfl, by decide, q657⟩
  · exact ⟨RX10, TX10, 3, rfl, by decide, q657⟩
theorem fp_X0_141 {ci : Nat} (h : ci ∈ [0]) : zFp "WhatIfSheet" 141 ci 4 .int := by
  simp only [List.mem_cons, List.not_mem_nil, or_false] at h
  rcases h with rfl
  · exact ⟨RX0, TX0, 30, rfl, by decide, q1211, rfl, by decide +kernel⟩
theorem fk_X0_236 {ci : Nat} (h : ci ∈ [0]) : zFk "WhatIfSheet" 236 ci 10 := by
  simp only [List.mem_cons, List.not_mem_nil, or_false] at h
  rcases h with rfl
  · exact ⟨RX0, TX0, 30, rfl, by decide, q1220⟩
theorem fp_X0_236 {ci : Nat} (h : ci ∈ [0]) : zFp "WhatIfSheet" 236 ci 10 .int := by
  simp only [List.mem_cons, List.not_mem_nil, or_false] at h
  rcases h with rfl
  · exact ⟨RX0, TX0, 30, rfl, by decide, q1220, rfl, by decide +kernel⟩
theorem fk_X0_243 {ci : Nat} (h : ci ∈ [30]) : zFk "WhatIfSheet" 243 ci 0 := by
  simp only [List.mem_cons, List.not_mem_nil, or_false] at h
  rcases h with rfl
  · exact ⟨RX30, TX30, 3, rfl, by decide, q1942⟩
def wp_X0_fills (l : Launch) (g : zG) (d : Nat) (h0 : Nat) (r1 : Option Nat) (r2 : Option Nat) (x3 : Int32) (hp : zHp) (nx : Nat) (Post : zHp → Nat → Prop) : Prop :=
  (zgI hp (some h0) [0] 2 fun x_4 =>
  (zgI hp (some h0) [0] 3 fun x_8 =>
  (zgI hp (some h0) [0] 4 fun x_12 =>
  (zpt g hp (some h0) [0] 2 (.int (0 : Int32)) fun hp_16 =>
  (zpt g hp_16 (some h0) [0] 3 (.int (-1 : Int32)) fun hp_20 =>
  (zgI hp_20 r1 [2, 6, 7, 8, 9, 10] 0 fun x_24 =>
  (zpt g hp_20 (some h0) [0] 4 (.int x_24) fun hp_28 =>
  (zgI hp_28 (some h0) [0] 10 fun x_32 =>
  (zpt g hp_28 (some h0) [0] 10 (.int (x_32 + (1 : Int32))) fun hp_36 =>
  (zgR hp_36 r1 [2, 6, 7, 8, 9, 10] 1 fun r_40 =>
  (zgR hp_36 r_40 [30] 0 fun r_44 =>
  (zo hp_36 r_44 [14, 16, 17, 18, 19, 20, 21, 22, 23, 24, 25, 26, 27, 29] fun a_124 ci_125 fs_126 => ∃ PP_127 : UInt64 → zHp → Nat → Prop, (∀ (x_47 : UInt64) (hp_45 : zHp) (nx_46 : Nat), PP_127 x_47 hp_45 nx_46 →
  (zgR hp_45 r2 [1] 1 fun r_51 =>
  (zgI hp_45 (some h0) [0] 2 fun x_55 =>
  (∃ P_80 : Int32 → Int32 → Int32 → UInt64 → (Option Nat) → Int32 → UInt64 → zHp → Nat → Prop, (∀ (x_56 : Int32) (x_57 : Int32) (x_58 : Int32) (x_59 : UInt64) (r_60 : Option Nat) (x_61 : Int32) (x_62 : UInt64) (hp_63 : zHp) (nx_64 : Nat), P_80 x_56 x_57 x_58 x_59 r_60 x_61 x_62 hp_63 nx_64 →
  (zaD (g.2.1 1) hp_63 r_60 fun a_65 n_66 f_67 => vp_in x_61 n_66 ∧ zB g ≤ a_65 ∧ ∀ hp_68 : zHp, hp_68 = va_up hp_63 a_65 (some (.inl (g.2.1 1, n_66, .inr (.inr (.inr (.inl (va_up f_67 x_61.toNatClampNeg x_62))))))) →
  (zgR hp_68 r2 [1] 4 fun r_72 =>
  (zgI hp_68 (some h0) [0] 2 fun x_76 =>
  (zaI (g.2.1 2) hp_68 r_72 fun a_77 n_78 f_79 => vp_in x3 n_78 ∧ zB g ≤ a_77 ∧ ∀ hp_80 : zHp, hp_80 = va_up hp_68 a_77 (some (.inl (g.2.1 2, n_78, .inl (va_up f_79 x3.toNatClampNeg (vp_nar .byte x_76.toInt8.toInt32))))) →
  (zgR hp_80 r2 [1] 5 fun r_84 =>
  (zgI hp_80 (some h0) [0] 3 fun x_88 =>
  (zaI (g.2.1 2) hp_80 r_84 fun a_89 n_90 f_91 => vp_in x3 n_90 ∧ zB g ≤ a_89 ∧ ∀ hp_92 : zHp, hp_92 = va_up hp_80 a_89 (some (.inl (g.2.1 2, n_90, .inl (va_up f_91 x3.toNatClampNeg (vp_nar .byte x_88.toInt8.toInt32))))) →
  (zgR hp_92 r2 [1] 3 fun r_96 =>
  (zgI hp_92 r2 [1] 12 fun x_100 =>
  (zaI (g.2.1 0) hp_92 r_96 fun a_101 n_102 f_103 => vp_in x3 n_102 ∧ zB g ≤ a_101 ∧ ∀ hp_104 : zHp, hp_104 = va_up hp_92 a_101 (some (.inl (g.2.1 0, n_102, .inl (va_up f_103 x3.toNatClampNeg x_100)))) →
  (zpt g hp_104 (some h0) [0] 2 (.int x_56) fun hp_108 =>
  (zpt g hp_108 (some h0) [0] 3 (.int x_57) fun hp_112 =>
  (zpt g hp_112 (some h0) [0] 4 (.int x_58) fun hp_116 =>
  (Post hp_116 nx_64))))))))))))))) ∧
  ((x_55 = 0 →
  (zo hp_45 r1 [2, 6, 7, 8, 9, 10] fun a_120 ci_121 fs_122 => ∃ PP_123 : UInt64 → zHp → Nat → Prop, (∀ (x_119 : UInt64) (hp_117 : zHp) (nx_118 : Nat), PP_123 x_119 hp_117 nx_118 →
  P_80 x_4 x_8 x_12 x_47 r_51 x3 x_119 hp_117 nx_118) ∧ zMt l g yX2_kept cX2_kept 5 (some .double) d 0 0 (.ref a_120 :: [.double x_47]) hp_45 nx_46 (zQd g PP_123))) ∧
  (¬ x_55 = 0 →
  P_80 x_4 x_8 x_12 x_47 r_51 x3 FP.dconst0 hp_45 nx_46)))))) ∧ ((ci_125 = 14 → zMt l g yX14_worth cX14_worth 11 (some .double) d 0 0 (.ref a_124 :: []) hp_36 nx (zQd g PP_127)) ∧ (ci_125 = 16 → zMt l g yX15_worth cX15_worth 5 (some .double) d 0 0 (.ref a_124 :: []) hp_36 nx (zQd g PP_127)) ∧ (ci_125 = 17 → zMt l g yX15_worth cX15_worth 5 (some .double) d 0 0 (.ref a_124 :: []) hp_36 nx (zQd g PP_127)) ∧ (ci_125 = 18 → zMt l g yX18_worth cX18_worth 2 (some .double) d 0 0 (.ref a_124 :: []) hp_36 nx (zQd g PP_127)) ∧ (ci_125 = 19 → zMt l g yX18_worth cX18_worth 2 (some .double) d 0 0 (.ref a_124 :: []) hp_36 nx (zQd g PP_127)) ∧ (ci_125 = 20 → zMt l g yX18_worth cX18_worth 2 (some .double) d 0 0 (.ref a_124 :: []) hp_36 nx (zQd g PP_127)) ∧ (ci_125 = 21 → zMt l g yX18_worth cX18_worth 2 (some .double) d 0 0 (.ref a_124 :: []) hp_36 nx (zQd g PP_127)) ∧ (ci_125 = 22 → zMt l g yX18_worth cX18_worth 2 (some .double) d 0 0 (.ref a_124 :: []) hp_36 nx (zQd g PP_127)) ∧ (ci_125 = 23 → zMt l g yX23_worth cX23_worth 1 (some .double) d 0 0 (.ref a_124 :: []) hp_36 nx (zQd g PP_127)) ∧ (ci_125 = 24 → zMt l g yX24_worth cX24_worth 1 (some .double) d 0 0 (.ref a_124 :: []) hp_36 nx (zQd g PP_127)) ∧ (ci_125 = 25 → zMt l g yX25_worth cX25_worth 1 (some .double) d 0 0 (.ref a_124 :: []) hp_36 nx (zQd g PP_127)) ∧ (ci_125 = 26 → zMt l g yX26_worth cX26_worth 4 (some .double) d 0 0 (.ref a_124 :: []) hp_36 nx (zQd g PP_127)) ∧ (ci_125 = 27 → zMt l g yX26_worth cX26_worth 4 (some .double) d 0 0 (.ref a_124 :: []) hp_36 nx (zQd g PP_127)) ∧ (ci_125 = 29 → zMt l g yX15_worth cX15_worth 5 (some .double) d 0 0 (.ref a_124 :: []) hp_36 nx (zQd g PP_127)))))))))))))))
set_option maxHeartbeats 40000000 in
theorem met_X0_fills {l : Launch} {g : zG} {d : Nat} {h0 : Nat} {r1 : Option Nat} {r2 : Option Nat} {x3 : Int32} {hp : zHp} {nx : Nat} {Post : zHp → Nat → Prop} (hw : wp_X0_fills l g d h0 r1 r2 x3 hp nx Post) : zMtW l g yX0_fills cX0_fills 10 none [(18, 113, 134, 0), (134, 136, 134, 0)] (d + 1) 0 0 [.ref h0, va_rf r1, va_rf r2, .int x3] hp nx (zQv g Post) := by
  refine z_startW (by decide) (by cases r1 <;> cases r2 <;> exact Nat.le_of_ble_eq_true rfl) ?_
  intro p e s m below meth c hk hr hin hH hz ls hl
  have hx := hk.1.1
  have hb := hk.1.2.1
  have hown := hk.1.2.2.2.1
  have hts := hk.1.2.2.2.2
  have hS : va_S (zAd g) s.heap s.heap [] := va_S.rf
  have hl : lv_has ls 10 [(0, va_rf (some h0)), (1, va_rf r1), (2, va_rf r2), (3, .int x3)] := by cases r1 <;> cases r2 <;> exact hl
  unfold wp_X0_fills at hw
  refine zr_aload_n (r := some h0) hx hb dX0_fills_0 rfl (lv_at hl 0 rfl) ?_
  obtain ⟨a_1, ci_2, fs_3, x_4, er, he, hc, hv, hw⟩ := zgI_e hw
  refine zw_get hk hH er he hv (fk_X0_138 hc) dX0_fills_1 ?_
  refine lv_istore (lv' := [(4, .int x_4), (0, va_rf (some h0)), (1, va_rf r1), (2, va_rf r2), (3, .int x3)]) hx hb dX0_fills_4 hl (by decide) (by first | rfl | simp [List.filter_cons, z_cat, z_catI, z_catJ, z_catF, z_catD]) (fun ls hl => ?_)
  refine zr_aload_n (r := some h0) hx hb dX0_fills_6 rfl (lv_at hl 1 rfl) ?_
  obtain ⟨a_5, ci_6, fs_7, x_8, er, he, hc, hv, hw⟩ := zgI_e hw
  refine zw_get hk hH er he hv (fk_X0_41 hc) dX0_fills_7 ?_
  refine lv_istore (lv' := [(5, .int x_8), (4, .int x_4), (0, va_rf (some h0)), (1, va_rf r1), (2, va_rf r2), (3, .int x3)]) hx hb dX0_fills_10 hl (by decide) (by first | rfl | simp [List.filter_cons, z_cat, z_catI, z_catJ, z_catF, z_catD]) (fun ls hl => ?_)
  refine zr_aload_n (r := some h0) hx hb dX0_fills_12 rfl (lv_at hl 2 rfl) ?_
  obtain ⟨a_9, ci_10, fs_11, x_12, er, he, hc, hv, hw⟩ := zgI_e hw
  refine zw_get hk hH er he hv (fk_X0_141 hc) dX0_fills_13 ?_
  refine lv_istore (lv' := [(6, .int x_12), (5, .int x_8), (4, .int x_4), (0, va_rf (some h0)), (1, va_rf r1), (2, va_rf r2), (3, .int x3)]) hx hb dX0_fills_16 hl (by decide) (by first | rfl | simp [List.filter_cons, z_cat, z_catI, z_catJ, z_catF, z_catD]) (fun ls hl => ?_)
  refine zr_aload_n (r := some h0) hx hb dX0_fills_18 rfl (lv_at hl 3 rfl) ?_
  refine lv_iconst (v := (0 : Int32)) hx hb dX0_fills_19 (by decide) ?_
  obtain ⟨a_13, ci_14, fs_15, hp_16, er, he, hc, hA, hkl, eh, hw⟩ := zpt_e hw
  refine zw_put hk hH hz hS er he hA hkl eh (fp_X0_138 hc) rfl rfl dX0_fills_20 (fun H locs hH hz hS => ?_)
  refine zr_aload_n (r := some h0) hx hb dX0_fills_23 rfl (lv_at hl 3 rfl) ?_
  refine lv_iconst (v := (-1 : Int32)) hx hb dX0_fills_24 (by decide) ?_
  obtain ⟨a_17, ci_18, fs_19, hp_20, er, he, hc, hA, hkl, eh, hw⟩ := zpt_e hw
  refine zw_put hk hH hz hS er he hA hkl eh (fp_X0_41 hc) rfl rfl dX0_fills_25 (fun H locs hH hz hS => ?_)
  refine zr_aload_n (r := some h0) hx hb dX0_fills_28 rfl (lv_at hl 3 rfl) ?_
  refine zr_aload_n (r := r1) hx hb dX0_fills_29 rfl (lv_at hl 4 rfl) ?_
  obtain ⟨a_21, ci_22, fs_23, x_24, er, he, hc, hv, hw⟩ := zgI_e hw
  refine zw_get hk hH er he hv (fk_X0_235 hc) dX0_fills_30 ?_
  obtain ⟨a_25, ci_26, fs_27, hp_28, er, he, hc, hA, hkl, eh, hw⟩ := zpt_e hw
  refine zw_put hk hH hz hS er he hA hkl eh (fp_X0_141 hc) rfl rfl dX0_fills_33 (fun H locs hH hz hS => ?_)
  refine zr_aload_n (r := some h0) hx hb dX0_fills_36 rfl (lv_at hl 3 rfl) ?_
  refine lv_dup hx hb dX0_fills_37 (z_cat _) ?_
  obtain ⟨a_29, ci_30, fs_31, x_32, er, he, hc, hv, hw⟩ := zgI_e hw
  refine zw_get hk hH er he hv (fk_X0_236 hc) dX0_fills_38 ?_
  refine lv_iconst (v := (1 : Int32)) hx hb dX0_fills_41 (by decide) ?_
  refine lv_iadd hx hb dX0_fills_42 ?_
  obtain ⟨a_33, ci_34, fs_35, hp_36, er, he, hc, hA, hkl, eh, hw⟩ := zpt_e hw
  refine zw_put hk hH hz hS er he hA hkl eh (fp_X0_236 hc) rfl rfl dX0_fills_43 (fun H locs hH hz hS => ?_)
  refine zr_aload_n (r := r1) hx hb dX0_fills_46 rfl (lv_at hl 4 rfl) ?_
  obtain ⟨a_37, ci_38, fs_39, r_40, er, he, hc, hv, hw⟩ := zgR_e hw
  refine zw_get hk hH er he hv (fk_X0_239 hc) dX0_fills_47 ?_
  obtain ⟨a_41, ci_42, fs_43, r_44, er, he, hc, hv, hw⟩ := zgR_e hw
  refine zw_get hk hH er he hv (fk_X0_243 hc) dX0_fills_50 ?_
  obtain ⟨a_124, ci_125, fs_126, er, he, hc, PP_127, hPP, hw⟩ := zo_e hw
  have hC : ∀ (x_47 : UInt64) (hp_45 : zHp) (nx_46 : Nat), PP_127 x_47 hp_45 nx_46 → ∀ (H : Heap) (locs : List Loc), zHd g hp_45 H → H.size = nx_46 → va_S (zAd g) s.heap H locs → W p l e (zrm (d + 1) 0 0) s m ([.ref h0, va_rf r1, va_rf r2, .int x3] : List Value).toArray below meth c H locs (0 + 0) (0 + 0) (MQ below (zQv g Post) ([.ref h0, va_rf r1, va_rf r2, .int x3] : List Value).toArray s 0 0 (zAd g)) (F0 m 56 ls [.double x_47]) := by
    intro x_47 hp_45 nx_46 hw H locs hH hz hS
    have hw := hPP x_47 hp_45 nx_46 hw
    refine lv_dstore (lv' := [(7, .double x_47), (6, .int x_12), (5, .int x_8), (4, .int x_4), (0, va_rf (some h0)), (1, va_rf r1), (2, va_rf r2), (3, .int x3)]) hx hb dX0_fills_56 hl (by decide) (by first | rfl | simp [List.filter_cons, z_cat, z_catI, z_catJ, z_catF, z_catD]) (fun ls hl => ?_)
    refine zr_aload_n (r := r2) hx hb dX0_fills_58 rfl (lv_at hl 6 rfl) ?_
    obtain ⟨a_48, ci_49, fs_50, r_51, er, he, hc, hv, hw⟩ := zgR_e hw
    refine zw_get hk hH er he hv (fk_X0_229 hc) dX0_fills_59 ?_
    refine lv_iload_n hx hb dX0_fills_62 rfl (lv_at hl 7 rfl) ?_
    refine zr_aload_n (r := some h0) hx hb dX0_fills_63 rfl (lv_at hl 4 rfl) ?_
    obtain ⟨a_52, ci_53, fs_54, x_55, er, he, hc, hv, hw⟩ := zgI_e hw
    refine zw_get hk hH er he hv (fk_X0_138 hc) dX0_fills_64 ?_
    obtain ⟨P_80, hP_80, hw⟩ := hw
    have hJ_80 : ∀ (x_56 : Int32) (x_57 : Int32) (x_58 : Int32) (x_59 : UInt64) (r_60 : Option Nat) (x_61 : Int32) (x_62 : UInt64) (hp_63 : zHp) (nx_64 : Nat) (H : Heap) (locs : List Loc) (ls : Array Slot), P_80 x_56 x_57 x_58 x_59 r_60 x_61 x_62 hp_63 nx_64 → lv_has ls 10 [(0, va_rf (some h0)), (1, va_rf r1), (2, va_rf r2), (3, .int x3), (4, .int x_56), (5, .int x_57), (6, .int x_58), (7, .double x_59)] → zHd g hp_63 H → H.size = nx_64 → va_S (zAd g) s.heap H locs → W p l e (zrm (d + 1) 0 0) s m ([.ref h0, va_rf r1, va_rf r2, .int x3] : List Value).toArray below meth c H locs 0 0 (MQ below (zQv g Post) ([.ref h0, va_rf r1, va_rf r2, .int x3] : List Value).toArray s 0 0 (zAd g)) (F0 m 80 ls [.double x_62, .int x_61, va_rf r_60]) := by
      intro x_56 x_57 x_58 x_59 r_60 x_61 x_62 hp_63 nx_64 H locs ls hw hl hH hz hS
      have hw := hP_80 x_56 x_57 x_58 x_59 r_60 x_61 x_62 hp_63 nx_64 hw
      obtain ⟨a_65, n_66, f_67, er, he, hi, hA, hw⟩ := zaD_e hw
      obtain ⟨hp_68, eh⟩ : ∃ y : zHp, y = va_up hp_63 a_65 (some (.inl (g.2.1 1, n_66, .inr (.inr (.inr (.inl (va_up f_67 x_61.toNatClampNeg x_62))))))) := ⟨_, rfl⟩
      have hw := hw hp_68 eh
      refine zw_dast hk hH hz hS er he hi hA eh dX0_fills_80 (fun H locs hH hz hS => ?_)
      refine zr_aload_n (r := r2) hx hb dX0_fills_81 rfl (lv_at hl 2 rfl) ?_
      obtain ⟨a_69, ci_70, fs_71, r_72, er, he, hc, hv, hw⟩ := zgR_e hw
      refine zw_get hk hH er he hv (fk_X0_227 hc) dX0_fills_82 ?_
      refine lv_iload_n hx hb dX0_fills_85 rfl (lv_at hl 3 rfl) ?_
      refine zr_aload_n (r := some h0) hx hb dX0_fills_86 rfl (lv_at hl 0 rfl) ?_
      obtain ⟨a_73, ci_74, fs_75, x_76, er, he, hc, hv, hw⟩ := zgI_e hw
      refine zw_get hk hH er he hv (fk_X0_138 hc) dX0_fills_87 ?_
      refine lv_i2b hx hb dX0_fills_90 rfl ?_
      obtain ⟨a_77, n_78, f_79, er, he, hi, hA, hw⟩ := zaI_e hw
      obtain ⟨hp_80, eh⟩ : ∃ y : zHp, y = va_up hp_68 a_77 (some (.inl (g.2.1 2, n_78, .inl (va_up f_79 x3.toNatClampNeg (vp_nar .byte x_76.toInt8.toInt32))))) := ⟨_, rfl⟩
      have hw := hw hp_80 eh
      refine zw_bast hk hH hz hS er he hi hA eh dX0_fills_91 (fun H locs hH hz hS => ?_)
      refine zr_aload_n (r := r2) hx hb dX0_fills_92 rfl (lv_at hl 2 rfl) ?_
      obtain ⟨a_81, ci_82, fs_83, r_84, er, he, hc, hv, hw⟩ := zgR_e hw
      refine zw_get hk hH er he hv (fk_X0_232 hc) dX0_fills_93 ?_
      refine lv_iload_n hx hb dX0_fills_96 rfl (lv_at hl 3 rfl) ?_
      refine zr_aload_n (r := some h0) hx hb dX0_fills_97 rfl (lv_at hl 0 rfl) ?_
      obtain ⟨a_85, ci_86, fs_87, x_88, er, he, hc, hv, hw⟩ := zgI_e hw
      refine zw_get hk hH er he hv (fk_X0_41 hc) dX0_fills_98 ?_
      refine lv_i2b hx hb dX0_fills_101 rfl ?_
      obtain ⟨a_89, n_90, f_91, er, he, hi, hA, hw⟩ := zaI_e hw
      obtain ⟨hp_92, eh⟩ : ∃ y : zHp, y = va_up hp_80 a_89 (some (.inl (g.2.1 2, n_90, .inl (va_up f_91 x3.toNatClampNeg (vp_nar .byte x_88.toInt8.toInt32))))) := ⟨_, rfl⟩
      have hw := hw hp_92 eh
      refine zw_bast hk hH hz hS er he hi hA eh dX0_fills_102 (fun H locs hH hz hS => ?_)
      refine zr_aload_n (r := r2) hx hb dX0_fills_103 rfl (lv_at hl 2 rfl) ?_
      obtain ⟨a_93, ci_94, fs_95, r_96, er, he, hc, hv, hw⟩ := zgR_e hw
      refine zw_get hk hH er he hv (fk_X0_217 hc) dX0_fills_104 ?_
      refine lv_iload_n hx hb dX0_fills_107 rfl (lv_at hl 3 rfl) ?_
      refine zr_aload_n (r := r2) hx hb dX0_fills_108 rfl (lv_at hl 2 rfl) ?_
      obtain ⟨a_97, ci_98, fs_99, x_100, er, he, hc, hv, hw⟩ := zgI_e hw
      refine zw_get hk hH er he hv (fk_X0_220 hc) dX0_fills_109 ?_
      obtain ⟨a_101, n_102, f_103, er, he, hi, hA, hw⟩ := zaI_e hw
      obtain ⟨hp_104, eh⟩ : ∃ y : zHp, y = va_up hp_92 a_101 (some (.inl (g.2.1 0, n_102, .inl (va_up f_103 x3.toNatClampNeg x_100)))) := ⟨_, rfl⟩
      have hw := hw hp_104 eh
      refine zw_iast hk hH hz hS er he hi hA eh dX0_fills_112 (fun H locs hH hz hS => ?_)
      refine zr_aload_n (r := some h0) hx hb dX0_fills_113 rfl (lv_at hl 0 rfl) ?_
      refine lv_iload hx hb dX0_fills_114 (lv_at hl 4 rfl) ?_
      obtain ⟨a_105, ci_106, fs_107, hp_108, er, he, hc, hA, hkl, eh, hw⟩ := zpt_e hw
      refine zw_put hk hH hz hS er he hA hkl eh (fp_X0_138 hc) rfl rfl dX0_fills_116 (fun H locs hH hz hS => ?_)
      refine zr_aload_n (r := some h0) hx hb dX0_fills_119 rfl (lv_at hl 0 rfl) ?_
      refine lv_iload hx hb dX0_fills_120 (lv_at hl 5 rfl) ?_
      obtain ⟨a_109, ci_110, fs_111, hp_112, er, he, hc, hA, hkl, eh, hw⟩ := zpt_e hw
      refine zw_put hk hH hz hS er he hA hkl eh (fp_X0_41 hc) rfl rfl dX0_fills_122 (fun H locs hH hz hS => ?_)
      refine zr_aload_n (r := some h0) hx hb dX0_fills_125 rfl (lv_at hl 0 rfl) ?_
      refine lv_iload hx hb dX0_fills_126 (lv_at hl 6 rfl) ?_
      obtain ⟨a_113, ci_114, fs_115, hp_116, er, he, hc, hA, hkl, eh, hw⟩ := zpt_e hw
      refine zw_put hk hH hz hS er he hA hkl eh (fp_X0_141 hc) rfl rfl dX0_fills_128 (fun H locs hH hz hS => ?_)
      refine lv_goto (tgt := 157) hx hb dX0_fills_131 (by decide) ?_
      exact zr_vret hk hr hH hz hS hw (Nat.le_of_ble_eq_true rfl) (Nat.le_of_ble_eq_true rfl) dX0_fills_157
    refine lv_if_ne (tgt := 79) hx hb dX0_fills_67 (by decide) (fun hc => ?_) (fun hc => ?_)
    · have hw := hw.2 hc
      refine lv_dconst0 hx hb dX0_fills_79 ?_
      exact hJ_80 x_4 x_8 x_12 x_47 r_51 x3 FP.dconst0 hp_45 nx_46 _ _ _ hw (lv_sub hl [4, 5, 6, 7, 3, 2, 1, 0] rfl) hH hz hS
    · have hw := hw.1 hc
      refine zr_aload_n (r := r1) hx hb dX0_fills_70 rfl (lv_at hl 5 rfl) ?_
      refine lv_dload hx hb dX0_fills_71 (lv_at hl 0 rfl) ?_
      obtain ⟨a_120, ci_121, fs_122, er, he, hc, PP_123, hPP, hw⟩ := zo_e hw
      have hC : ∀ (x_119 : UInt64) (hp_117 : zHp) (nx_118 : Nat), PP_123 x_119 hp_117 nx_118 → ∀ (H : Heap) (locs : List Loc), zHd g hp_117 H → H.size = nx_118 → va_S (zAd g) s.heap H locs → W p l e (zrm (d + 1) 0 0) s m ([.ref h0, va_rf r1, va_rf r2, .int x3] : List Value).toArray below meth c H locs (0 + 0) (0 + 0) (MQ below (zQv g Post) ([.ref h0, va_rf r1, va_rf r2, .int x3] : List Value).toArray s 0 0 (zAd g)) (F0 m 76 ls [.double x_119, .int x3, va_rf r_51]) := by
        intro x_119 hp_117 nx_118 hw H locs hH hz hS
        have hw := hPP x_119 hp_117 nx_118 hw
        refine lv_goto (tgt := 80) hx hb dX0_fills_76 (by decide) ?_
        exact hJ_80 x_4 x_8 x_12 x_47 r_51 x3 x_119 hp_117 nx_118 _ _ _ hw (lv_sub hl [4, 5, 6, 7, 3, 2, 1, 0] rfl) hH hz hS
      simp only [List.mem_cons, List.not_mem_nil, or_false] at hc
      rcases hc with rfl | rfl | rfl | rfl | rfl | rfl
      · exact zr_calld (zw_runV (As := [.double x_47]) hk hH hz hS hl.1 er (hw) (cwV 1 hts (lw_V q1980 q1981 q1982 q152 q1989) rfl rfl rfl (by decide +kernel) (z_room (Nat.le_of_ble_eq_true rfl))) he rfl rfl rfl (by simp only [List.map_cons, List.map_nil, z_cat]; exact Nat.le_of_ble_eq_true rfl) dX0_fills_73 ⟨Nat.le_of_ble_eq_true rfl, Nat.le_of_ble_eq_true rfl⟩) hS hC
      · exact zr_calld (zw_runU (As := [.double x_47]) hk hH hz hS hl.1 er (hw) (va_cwU 1 hts (z_U q1980 q1983 q1988 q1981 q152 q1989) rfl rfl rfl rfl (by decide +kernel) (z_room (Nat.le_of_ble_eq_true rfl))) he rfl rfl rfl (by simp only [List.map_cons, List.map_nil, z_cat]; exact Nat.le_of_ble_eq_true rfl) dX0_fills_73 ⟨Nat.le_of_ble_eq_true rfl, Nat.le_of_ble_eq_true rfl⟩) hS hC
      · exact zr_calld (zw_runU (As := [.double x_47]) hk hH hz hS hl.1 er (hw) (va_cwU 1 hts (z_U q1980 q1983 q1985 q1981 q152 q1989) rfl rfl rfl rfl (by decide +kernel) (z_room (Nat.le_of_ble_eq_true rfl))) he rfl rfl rfl (by simp only [List.map_cons, List.map_nil, z_cat]; exact Nat.le_of_ble_eq_true rfl) dX0_fills_73 ⟨Nat.le_of_ble_eq_true rfl, Nat.le_of_ble_eq_true rfl⟩) hS hC
      · exact zr_calld (zw_runU (As := [.double x_47]) hk hH hz hS hl.1 er (hw) (va_cwU 1 hts (z_U q1980 q1983 q1986 q1981 q152 q1989) rfl rfl rfl rfl (by decide +kernel) (z_room (Nat.le_of_ble_eq_true rfl))) he rfl rfl rfl (by simp only [List.map_cons, List.map_nil, z_cat]; exact Nat.le_of_ble_eq_true rfl) dX0_fills_73 ⟨Nat.le_of_ble_eq_true rfl, Nat.le_of_ble_eq_true rfl⟩) hS hC
      · exact zr_calld (zw_runU (As := [.double x_47]) hk hH hz hS hl.1 er (hw) (va_cwU 1 hts (z_U q1980 q1983 q1987 q1981 q152 q1989) rfl rfl rfl rfl (by decide +kernel) (z_room (Nat.le_of_ble_eq_true rfl))) he rfl rfl rfl (by simp only [List.map_cons, List.map_nil, z_cat]; exact Nat.le_of_ble_eq_true rfl) dX0_fills_73 ⟨Nat.le_of_ble_eq_true rfl, Nat.le_of_ble_eq_true rfl⟩) hS hC
      · exact zr_calld (zw_runU (As := [.double x_47]) hk hH hz hS hl.1 er (hw) (va_cwU 1 hts (z_U q1980 q1983 q1984 q1981 q152 q1989) rfl rfl rfl rfl (by decide +kernel) (z_room (Nat.le_of_ble_eq_true rfl))) he rfl rfl rfl (by simp only [List.map_cons, List.map_nil, z_cat]; exact Nat.le_of_ble_eq_true rfl) dX0_fills_73 ⟨Nat.le_of_ble_eq_true rfl, Nat.le_of_ble_eq_true rfl⟩) hS hC
  simp only [List.mem_cons, List.not_mem_nil, or_false] at hc
  rcases hc with rfl | rfl | rfl | rfl | rfl | rfl | rfl | rfl | rfl | rfl | rfl | rfl | rfl | rfl
  · exact zr_calld (zw_runU (As := []) hk hH hz hS hl.1 er (hw.1 rfl) (va_cwA 0 hts (z_U q2144 q2146 q2288 q2242 q177 q2243) rfl rfl rfl (hk.2.2.1.1 _ q2145 rfl) (by decide +kernel) (z_room (Nat.le_of_ble_eq_true rfl))) he rfl rfl rfl (Nat.le_of_ble_eq_true rfl) dX0_fills_53 ⟨Nat.le_of_ble_eq_true rfl, Nat.le_of_ble_eq_true rfl⟩) hS hC
  · exact zr_calld (zw_runU (As := []) hk hH hz hS hl.1 er (hw.2.1 rfl) (va_cwA 0 hts (z_U q2144 q2146 q2282 q2231 q178 q2232) rfl rfl rfl (hk.2.2.1.1 _ q2145 rfl) (by decide +kernel) (z_room (Nat.le_of_ble_eq_true rfl))) he rfl rfl rfl (Nat.le_of_ble_eq_true rfl) dX0_fills_53 ⟨Nat.le_of_ble_eq_true rfl, Nat.le_of_ble_eq_true rfl⟩) hS hC
  · exact zr_calld (zw_runU (As := []) hk hH hz hS hl.1 er (hw.2.2.1 rfl) (va_cwA 0 hts (z_U q2144 q2146 q2280 q2231 q178 q2232) rfl rfl rfl (hk.2.2.1.1 _ q2145 rfl) (by decide +kernel) (z_room (Nat.le_of_ble_eq_true rfl))) he rfl rfl rfl (Nat.le_of_ble_eq_true rfl) dX0_fills_53 ⟨Nat.le_of_ble_eq_true rfl, Nat.le_of_ble_eq_true rfl⟩) hS hC
  · exact zr_calld (zw_runU (As := []) hk hH hz hS hl.1 er (hw.2.2.2.1 rfl) (va_cwA 0 hts (z_U q2144 q2146 q2147 q2148 q182 q2149) rfl rfl rfl (hk.2.2.1.1 _ q2145 rfl) (by decide +kernel) (z_room (Nat.le_of_ble_eq_true rfl))) he rfl rfl rfl (Nat.le_of_ble_eq_true rfl) dX0_fills_53 ⟨Nat.le_of_ble_eq_true rfl, Nat.le_of_ble_eq_true rfl⟩) hS hC
  · exact zr_calld (zw_runU (As := []) hk hH hz hS hl.1 er (hw.2.2.2.2.1 rfl) (va_cwA 0 hts (z_U q2144 q2146 q2283 q2148 q182 q2149) rfl rfl rfl (hk.2.2.1.1 _ q2145 rfl) (by decide +kernel) (z_room (Nat.le_of_ble_eq_true rfl))) he rfl rfl rfl (Nat.le_of_ble_eq_true rfl) dX0_fills_53 ⟨Nat.le_of_ble_eq_true rfl, Nat.le_of_ble_eq_true rfl⟩) hS hC
  · exact zr_calld (zw_runU (As := []) hk hH hz hS hl.1 er (hw.2.2.2.2.2.1 rfl) (va_cwA 0 hts (z_U q2144 q2146 q2281 q2148 q182 q2149) rfl rfl rfl (hk.2.2.1.1 _ q2145 rfl) (by decide +kernel) (z_room (Nat.le_of_ble_eq_true rfl))) he rfl rfl rfl (Nat.le_of_ble_eq_true rfl) dX0_fills_53 ⟨Nat.le_of_ble_eq_true rfl, Nat.le_of_ble_eq_true rfl⟩) hS hC
  · exact zr_calld (zw_runU (As := []) hk hH hz hS hl.1 er (hw.2.2.2.2.2.2.1 rfl) (va_cwA 0 hts (z_U q2144 q2146 q2285 q2148 q182 q2149) rfl rfl rfl (hk.2.2.1.1 _ q2145 rfl) (by decide +kernel) (z_room (Nat.le_of_ble_eq_true rfl))) he rfl rfl rfl (Nat.le_of_ble_eq_true rfl) dX0_fills_53 ⟨Nat.le_of_ble_eq_true rfl, Nat.le_of_ble_eq_true rfl⟩) hS hC
  · exact zr_calld (zw_runU (As := []) hk hH hz hS hl.1 er (hw.2.2.2.2.2.2.2.1 rfl) (va_cwA 0 hts (z_U q2144 q2146 q2279 q2148 q182 q2149) rfl rfl rfl (hk.2.2.1.1 _ q2145 rfl) (by decide +kernel) (z_room (Nat.le_of_ble_eq_true rfl))) he rfl rfl rfl (Nat.le_of_ble_eq_true rfl) dX0_fills_53 ⟨Nat.le_of_ble_eq_true rfl, Nat.le_of_ble_eq_true rfl⟩) hS hC
  · exact zr_calld (zw_runU (As := []) hk hH hz hS hl.1 er (hw.2.2.2.2.2.2.2.2.1 rfl) (va_cwA 0 hts (z_U q2144 q2146 q2286 q2237 q187 q2238) rfl rfl rfl (hk.2.2.1.1 _ q2145 rfl) (by decide +kernel) (z_room (Nat.le_of_ble_eq_true rfl))) he rfl rfl rfl (Nat.le_of_ble_eq_true rfl) dX0_fills_53 ⟨Nat.le_of_ble_eq_true rfl, Nat.le_of_ble_eq_true rfl⟩) hS hC
  · exact zr_calld (zw_runU (As := []) hk hH hz hS hl.1 er (hw.2.2.2.2.2.2.2.2.2.1 rfl) (va_cwA 0 hts (z_U q2144 q2146 q2287 q2240 q188 q2241) rfl rfl rfl (hk.2.2.1.1 _ q2145 rfl) (by decide +kernel) (z_room (Nat.le_of_ble_eq_true rfl))) he rfl rfl rfl (Nat.le_of_ble_eq_true rfl) dX0_fills_53 ⟨Nat.le_of_ble_eq_true rfl, Nat.le_of_ble_eq_true rfl⟩) hS hC
  · exact zr_calld (zw_runU (As := []) hk hH hz hS hl.1 er (hw.2.2.2.2.2.2.2.2.2.2.1 rfl) (va_cwA 0 hts (z_U q2144 q2146 q2284 q2234 q189 q2235) rfl rfl rfl (hk.2.2.1.1 _ q2145 rfl) (by decide +kernel) (z_room (Nat.le_of_ble_eq_true rfl))) he rfl rfl rfl (Nat.le_of_ble_eq_true rfl) dX0_fills_53 ⟨Nat.le_of_ble_eq_true rfl, Nat.le_of_ble_eq_true rfl⟩) hS hC
  · exact zr_calld (zw_runU (As := []) hk hH hz hS hl.1 er (hw.2.2.2.2.2.2.2.2.2.2.2.1 rfl) (va_cwA 0 hts (z_U q2144 q2146 q2289 q2245 q190 q2246) rfl rfl rfl (hk.2.2.1.1 _ q2145 rfl) (by decide +kernel) (z_room (Nat.le_of_ble_eq_true rfl))) he rfl rfl rfl (Nat.le_of_ble_eq_true rfl) dX0_fills_53 ⟨Nat.le_of_ble_eq_true rfl, Nat.le_of_ble_eq_true rfl⟩) hS hC
  · exact zr_calld (zw_runU (As := []) hk hH hz hS hl.1 er (hw.2.2.2.2.2.2.2.2.2.2.2.2.1 rfl) (va_cwA 0 hts (z_U q2144 q2146 q2290 q2245 q190 q2246) rfl rfl rfl (hk.2.2.1.1 _ q2145 rfl) (by decide +kernel) (z_room (Nat.le_of_ble_eq_true rfl))) he rfl rfl rfl (Nat.le_of_ble_eq_true rfl) dX0_fills_53 ⟨Nat.le_of_ble_eq_true rfl, Nat.le_of_ble_eq_true rfl⟩) hS hC
  · exact zr_calld (zw_runU (As := []) hk hH hz hS hl.1 er (hw.2.2.2.2.2.2.2.2.2.2.2.2.2 rfl) (va_cwA 0 hts (z_U q2144 q2146 q2230 q2231 q178 q2232) rfl rfl rfl (hk.2.2.1.1 _ q2145 rfl) (by decide +kernel) (z_room (Nat.le_of_ble_eq_true rfl))) he rfl rfl rfl (Nat.le_of_ble_eq_true rfl) dX0_fills_53 ⟨Nat.le_of_ble_eq_true rfl, Nat.le_of_ble_eq_true rfl⟩) hS hC
def wp_X0_faults (l : Launch) (g : zG) (d : Nat) (h0 : Nat) (x1 : Int32) (hp : zHp) (nx : Nat) (Post : zHp → Nat → Prop) : Prop :=
  (zgI hp (some h0) [0] 2 fun x_4 =>
  ((x_4 = 0 →
  (zpt g hp (some h0) [0] 2 (.int x1) fun hp_8 =>
  (zgI hp_8 (some h0) [0] 4 fun x_12 =>
  (zpt g hp_8 (some h0) [0] 3 (.int x_12) fun hp_16 =>
  (Post hp_16 nx))))) ∧
  (¬ x_4 = 0 →
  (Post hp nx))))
set_option maxHeartbeats 40000000 in
theorem met_X0_faults {l : Launch} {g : zG} {d : Nat} {h0 : Nat} {x1 : Int32} {hp : zHp} {nx : Nat} {Post : zHp → Nat → Prop} (hw : wp_X0_faults l g d h0 x1 hp nx Post) : zMt l g yX0_faults cX0_faults 2 none (d + 1) 0 0 [.ref h0, .int x1] hp nx (zQv g Post) := by
  refine z_start (by decide) (Nat.le_of_ble_eq_true rfl) ?_
  intro p e s m below meth c hk hr hin hH hz ls hl
  have hx := hk.1.1
  have hb := hk.1.2.1
  have hown := hk.1.2.2.2.1
  have hts := hk.1.2.2.2.2
  have hS : va_S (zAd g) s.heap s.heap [] := va_S.rf
  have hl : lv_has ls 2 [(0, va_rf (some h0)), (1, .int x1)] := hl
  unfold wp_X0_faults at hw
  refine zr_aload_n (r := some h0) hx hb dX0_faults_0 rfl (lv_at hl 0 rfl) ?_
  obtain ⟨a_1, ci_2, fs_3, x_4, er, he, hc, hv, hw⟩ := zgI_e hw
  refine zw_get hk hH er he hv (fk_X0_138 hc) dX0_faults_1 ?_
  refine lv_if_eq (tgt := 8) hx hb dX0_faults_4 (by decide) (fun hc => ?_) (fun hc => ?_)
  · have hw := hw.1 hc
    refine zr_aload_n (r := some h0) hx hb dX0_faults_8 rfl (lv_at hl 0 rfl) ?_
    refine lv_iload_n hx hb dX0_faults_9 rfl (lv_at hl 1 rfl) ?_
    obtain ⟨a_5, ci_6, fs_7, hp_8, er, he, hc, hA, hkl, eh, hw⟩ := zpt_e hw
    refine zw_put hk hH hz hS er he hA hkl eh (fp_X0_138 hc) rfl rfl dX0_faults_10 (fun H locs hH hz hS => ?_)
    refine zr_aload_n (r := some h0) hx hb dX0_faults_13 rfl (lv_at hl 0 rfl) ?_
    refine zr_aload_n (r := some h0) hx hb dX0_faults_14 rfl (lv_at hl 0 rfl) ?_
    obtain ⟨a_9, ci_10, fs_11, x_12, er, he, hc, hv, hw⟩ := zgI_e hw
    refine zw_get hk hH er he hv (fk_X0_141 hc) dX0_faults_15 ?_
    obtain ⟨a_13, ci_14, fs_15, hp_16, er, he, hc, hA, hkl, eh, hw⟩ := zpt_e hw
    refine zw_put hk hH hz hS er he hA hkl eh (fp_X0_41 hc) rfl rfl dX0_faults_18 (fun H locs hH hz hS => ?_)
    exact zr_vret hk hr hH hz hS hw (Nat.le_of_ble_eq_true rfl) (Nat.le_of_ble_eq_true rfl) dX0_faults_21
  · have hw := hw.2 hc
    exact zr_vret hk hr hH hz hS hw (Nat.le_of_ble_eq_true rfl) (Nat.le_of_ble_eq_true rfl) dX0_faults_7
def wp_X0_runsAll (l : Launch) (g : zG) (d : Nat) (h0 : Nat) (r1 : Option Nat) (hp : zHp) (nx : Nat) (Post : zHp → Nat → Prop) : Prop :=
  (zo hp (some h0) [0] fun a_3 ci_4 fs_5 => zMtW l g yX0_runs cX0_runs 18 none [(103, 128, 269, 0), (178, 217, 269, 0), (269, 271, 269, 0)] d 0 0 (.ref a_3 :: [va_rf r1, .int (-1 : Int32), .int (0 : Int32)]) hp nx (zQv g fun hp_1 nx_2 =>
  (Post hp_1 nx_2)))
set_option maxHeartbeats 40000000 in
theorem met_X0_runsAll {l : Launch} {g : zG} {d : Nat} {h0 : Nat} {r1 : Option Nat} {hp : zHp} {nx : Nat} {Post : zHp → Nat → Prop} (hw : wp_X0_runsAll l g d h0 r1 hp nx Post) : zMt l g yX0_runsAll cX0_runsAll 2 none (d + 1) 0 0 [.ref h0, va_rf r1] hp nx (zQv g Post) := by
  refine z_start (by decide) (by cases r1 <;> exact Nat.le_of_ble_eq_true rfl) ?_
  intro p e s m below meth c hk hr hin hH hz ls hl
  have hx := hk.1.1
  have hb := hk.1.2.1
  have hown := hk.1.2.2.2.1
  have hts := hk.1.2.2.2.2
  have hS : va_S (zAd g) s.heap s.heap [] := va_S.rf
  have hl : lv_has ls 2 [(0, va_rf (some h0)), (1, va_rf r1)] := by cases r1 <;> exact hl
  unfold wp_X0_runsAll at hw
  refine zr_aload_n (r := some h0) hx hb dX0_runsAll_0 rfl (lv_at hl 0 rfl) ?_
  refine zr_aload_n (r := r1) hx hb dX0_runsAll_1 rfl (lv_at hl 1 rfl) ?_
  refine lv_iconst (v := (-1 : Int32)) hx hb dX0_runsAll_2 (by decide) ?_
  refine lv_iconst (v := (0 : Int32)) hx hb dX0_runsAll_3 (by decide) ?_
  obtain ⟨a_3, ci_4, fs_5, er, he, hc, hw⟩ := zo_e hw
  obtain rfl := List.mem_singleton.mp hc
  refine zr_callv (zw_runVW (As := [va_rf r1, .int (-1 : Int32), .int (0 : Int32)]) hk hH hz hS hl.1 er hw (vx_cwVW 3 hts (lw_VW q2158 q2160 qs46 q131 q2161) rfl rfl rfl (by decide +kernel) (z_room (Nat.le_of_ble_eq_true rfl))) he rfl rfl rfl (Nat.le_of_ble_eq_true rfl) dX0_runsAll_4 ⟨Nat.le_of_ble_eq_true rfl, Nat.le_of_ble_eq_true rfl⟩) hS (fun hp_1 nx_2 hw H locs hH hz hS => ?_)
  exact zr_vret hk hr hH hz hS hw (Nat.le_of_ble_eq_true rfl) (Nat.le_of_ble_eq_true rfl) dX0_runsAll_7
theorem fp_X0_187 {ci : Nat} (h : ci ∈ [0]) : zFp "WhatIfSheet" 187 ci 8 .int := by
  simp only [List.mem_cons, List.not_mem_nil, or_false] at h
  rcases h with rfl
  · exact ⟨RX0, TX0, 30, rfl, by decide, q1218, rfl, by decide +kernel⟩
theorem fp_X0_196 {ci : Nat} (h : ci ∈ [0]) : zFp "WhatIfSheet" 196 ci 9 .int := by
  simp only [List.mem_cons, List.not_mem_nil, or_false] at h
  rcases h with rfl
  · exact ⟨RX0, TX0, 30, rfl, by decide, q1219, rfl, by decide +kernel⟩
def wp_X0_runs (l : Launch) (g : zG) (d : Nat) (h0 : Nat) (r1 : Option Nat) (x2 : Int32) (x3 : Int32) (hp : zHp) (nx : Nat) (Post : zHp → Nat → Prop) : Prop :=
  (zgR hp (some h0) [0] 0 fun r_4 =>
  (zgR hp r1 [31] 2 fun r_8 =>
  (zgI hp r_8 [32] 0 fun x_12 =>
  (zaR (g.2.1 7) hp r_4 fun a_13 n_14 f_15 => vp_in x_12 n_14 ∧ ∀ r_16 : Option Nat, r_16 = f_15 x_12.toNatClampNeg →
  (zgR hp r1 [31] 3 fun r_20 =>
  (∃ P_37 : (Option Nat) → (Option Nat) → zHp → Nat → Prop, (∀ (r_21 : Option Nat) (r_22 : Option Nat) (hp_23 : zHp) (nx_24 : Nat), P_37 r_21 r_22 hp_23 nx_24 →
  (zgD hp_23 r_21 [2, 6, 7, 8, 9, 10] 2 fun x_28 =>
  (∃ P_60 : (Option Nat) → (Option Nat) → UInt64 → UInt64 → zHp → Nat → Prop, (∀ (r_29 : Option Nat) (r_30 : Option Nat) (x_31 : UInt64) (x_32 : UInt64) (hp_33 : zHp) (nx_34 : Nat), P_60 r_29 r_30 x_31 x_32 hp_33 nx_34 →
  (zgR hp_33 (some h0) [0] 7 fun r_38 =>
  (zgI hp_33 (some h0) [0] 8 fun x_42 =>
  (zgI hp_33 (some h0) [0] 9 fun x_46 =>
  (zgI hp_33 (some h0) [0] 2 fun x_50 =>
  (zgI hp_33 (some h0) [0] 3 fun x_54 =>
  (zgR hp_33 (some h0) [0] 5 fun r_58 =>
  (zgI hp_33 r1 [31] 0 fun x_62 =>
  (zaR (g.2.1 9) hp_33 r_58 fun a_63 n_64 f_65 => vp_in x_62 n_64 ∧ ∀ r_66 : Option Nat, r_66 = f_65 x_62.toNatClampNeg →
  (zo hp_33 (some h0) [0] fun a_199 ci_200 fs_201 => zMt l g yX0_opens cX0_opens 3 none d 0 0 (.ref a_199 :: [va_rf r1, va_rf r_66]) hp_33 nx_34 (zQv g fun hp_67 nx_68 =>
  (zpt g hp_67 (some h0) [0] 7 (va_rf r1) fun hp_72 =>
  ((x2 < 0 →
  (∃ I_181 : Nat → (Option Nat) → (Option Nat) → UInt64 → UInt64 → (Option Nat) → Int32 → Int32 → Int32 → Int32 → (Option Nat) → Int32 → zHp → Nat → Prop, (∃ n_153, I_181 n_153 r_29 r_30 x_31 x_32 r_38 x_42 x_46 x_50 x_54 r_66 (0 : Int32) hp_72 nx_68) ∧ ∀ (n_86 : Nat) (r_73 : Option Nat) (r_74 : Option Nat) (x_75 : UInt64) (x_76 : UInt64) (r_77 : Option Nat) (x_78 : Int32) (x_79 : Int32) (x_80 : Int32) (x_81 : Int32) (r_82 : Option Nat) (x_83 : Int32) (hp_84 : zHp) (nx_85 : Nat), I_181 n_86 r_73 r_74 x_75 x_76 r_77 x_78 x_79 x_80 x_81 r_82 x_83 hp_84 nx_85 →
  (zo hp_84 r1 [31] fun a_150 ci_151 fs_152 => zMt l g yX31_cases cX31_cases 1 (some .int) d 0 0 (.ref a_150 :: []) hp_84 nx_85 (zQi g fun x_89 hp_87 nx_88 =>
  ((x_89 ≤ x_83 →
  (zpt g hp_87 r_73 [2, 6, 7, 8, 9, 10] 2 (.double x_75) fun hp_93 =>
  (∃ P_236 : (Option Nat) → (Option Nat) → UInt64 → UInt64 → (Option Nat) → Int32 → Int32 → Int32 → Int32 → (Option Nat) → Int32 → zHp → Nat → Prop, (∀ (r_94 : Option Nat) (r_95 : Option Nat) (x_96 : UInt64) (x_97 : UInt64) (r_98 : Option Nat) (x_99 : Int32) (x_100 : Int32) (x_101 : Int32) (x_102 : Int32) (r_103 : Option Nat) (x_104 : Int32) (hp_105 : zHp) (nx_106 : Nat), P_236 r_94 r_95 x_96 x_97 r_98 x_99 x_100 x_101 x_102 r_103 x_104 hp_105 nx_106 →
  (zpt g hp_105 (some h0) [0] 7 (va_rf r_98) fun hp_110 =>
  (zpt g hp_110 (some h0) [0] 8 (.int x_99) fun hp_114 =>
  (zpt g hp_114 (some h0) [0] 9 (.int x_100) fun hp_118 =>
  (zpt g hp_118 (some h0) [0] 2 (.int x_101) fun hp_122 =>
  (zpt g hp_122 (some h0) [0] 3 (.int x_102) fun hp_126 =>
  (Post hp_126 nx_106))))))) ∧
  ((r_74 = none →
  P_236 r_73 r_74 x_75 x_76 r_77 x_78 x_79 x_80 x_81 r_82 x_83 hp_93 nx_88) ∧
  (¬ r_74 = none →
  (zpt g hp_93 r_74 [2, 6, 7, 8, 9, 10] 2 (.double x_76) fun hp_130 =>
  P_236 r_73 r_74 x_75 x_76 r_77 x_78 x_79 x_80 x_81 r_82 x_83 hp_130 nx_88)))))) ∧
  (¬ x_89 ≤ x_83 →
  (zo hp_87 r1 [31] fun a_147 ci_148 fs_149 => zMt l g yX31_many cX31_many 1 (some .int) d 0 0 (.ref a_147 :: []) hp_87 nx_88 (zQi g fun x_133 hp_131 nx_132 =>
  (¬ x_133 = 0 ∧ (zo hp_131 r1 [31] fun a_144 ci_145 fs_146 => zMt l g yX31_many cX31_many 1 (some .int) d 0 0 (.ref a_144 :: []) hp_131 nx_132 (zQi g fun x_136 hp_134 nx_135 =>
  (¬ x_136 = 0 ∧ (zo hp_134 (some h0) [0] fun a_141 ci_142 fs_143 => zMt l g yX0_binds cX0_binds 6 none d 0 0 (.ref a_141 :: [va_rf r1, va_rf r_82, .int (x_83 / x_133), .int (x_83 - x_83 / x_136 * x_136)]) hp_134 nx_135 (zQv g fun hp_137 nx_138 =>
  (∀ x_139 : Int32, x_139 = x_83 + (1 : Int32) →
  (∃ k_140, k_140 < n_86 ∧ I_181 k_140 r_73 r_74 x_75 x_76 r_77 x_78 x_79 x_80 x_81 r_82 x_139 hp_137 nx_138)))))))))))))))) ∧
  (¬ x2 < 0 →
  (zo hp_72 (some h0) [0] fun a_196 ci_197 fs_198 => zMt l g yX0_binds cX0_binds 6 none d 0 0 (.ref a_196 :: [va_rf r1, va_rf r_66, .int x2, .int x3]) hp_72 nx_68 (zQv g fun hp_154 nx_155 =>
  (zpt g hp_154 r_29 [2, 6, 7, 8, 9, 10] 2 (.double x_31) fun hp_159 =>
  (∃ P_147 : (Option Nat) → (Option Nat) → UInt64 → UInt64 → (Option Nat) → Int32 → Int32 → Int32 → Int32 → (Option Nat) → zHp → Nat → Prop, (∀ (r_160 : Option Nat) (r_161 : Option Nat) (x_162 : UInt64) (x_163 : UInt64) (r_164 : Option Nat) (x_165 : Int32) (x_166 : Int32) (x_167 : Int32) (x_168 : Int32) (r_169 : Option Nat) (hp_170 : zHp) (nx_171 : Nat), P_147 r_160 r_161 x_162 x_163 r_164 x_165 x_166 x_167 x_168 r_169 hp_170 nx_171 →
  (zpt g hp_170 (some h0) [0] 7 (va_rf r_164) fun hp_175 =>
  (zpt g hp_175 (some h0) [0] 8 (.int x_165) fun hp_179 =>
  (zpt g hp_179 (some h0) [0] 9 (.int x_166) fun hp_183 =>
  (zpt g hp_183 (some h0) [0] 2 (.int x_167) fun hp_187 =>
  (zpt g hp_187 (some h0) [0] 3 (.int x_168) fun hp_191 =>
  (Post hp_191 nx_171))))))) ∧
  ((r_30 = none →
  P_147 r_29 r_30 x_31 x_32 r_38 x_42 x_46 x_50 x_54 r_66 hp_159 nx_155) ∧
  (¬ r_30 = none →
  (zpt g hp_159 r_30 [2, 6, 7, 8, 9, 10] 2 (.double x_32) fun hp_195 =>
  P_147 r_29 r_30 x_31 x_32 r_38 x_42 x_46 x_50 x_54 r_66 hp_195 nx_155))))))))))))))))))))) ∧
  ((r_22 = none →
  P_60 r_21 r_22 x_28 FP.dconst0 hp_23 nx_24) ∧
  (¬ r_22 = none →
  (zgD hp_23 r_22 [2, 6, 7, 8, 9, 10] 2 fun x_205 =>
  P_60 r_21 r_22 x_28 x_205 hp_23 nx_24)))))) ∧
  ((r_20 = none →
  P_37 r_16 none hp nx) ∧
  (¬ r_20 = none →
  (zgR hp (some h0) [0] 0 fun r_209 =>
  (zgR hp r1 [31] 3 fun r_213 =>
  (zgI hp r_213 [32] 0 fun x_217 =>
  (zaR (g.2.1 7) hp r_209 fun a_218 n_219 f_220 => vp_in x_217 n_219 ∧ ∀ r_221 : Option Nat, r_221 = f_220 x_217.toNatClampNeg →
  P_37 r_16 r_221 hp nx))))))))))))
set_option maxHeartbeats 40000000 in
theorem met_X0_runs {l : Launch} {g : zG} {d : Nat} {h0 : Nat} {r1 : Option Nat} {x2 : Int32} {x3 : Int32} {hp : zHp} {nx : Nat} {Post : zHp → Nat → Prop} (hw : wp_X0_runs l g d h0 r1 x2 x3 hp nx Post) : zMtW l g yX0_runs cX0_runs 18 none [(103, 128, 269, 0), (178, 217, 269, 0), (269, 271, 269, 0)] (d + 1) 0 0 [.ref h0, va_rf r1, .int x2, .int x3] hp nx (zQv g Post) := by
  refine z_startW (by decide) (by cases r1 <;> exact Nat.le_of_ble_eq_true rfl) ?_
  intro p e s m below meth c hk hr hin hH hz ls hl
  have hx := hk.1.1
  have hb := hk.1.2.1
  have hown := hk.1.2.2.2.1
  have hts := hk.1.2.2.2.2
  have hS : va_S (zAd g) s.heap s.heap [] := va_S.rf
  have hl : lv_has ls 18 [(0, va_rf (some h0)), (1, va_rf r1), (2, .int x2), (3, .int x3)] := by cases r1 <;> exact hl
  unfold wp_X0_runs at hw
  refine zr_aload_n (r := some h0) hx hb dX0_runs_0 rfl (lv_at hl 0 rfl) ?_
  obtain ⟨a_1, ci_2, fs_3, r_4, er, he, hc, hv, hw⟩ := zgR_e hw
  refine zw_get hk hH er he hv (fk_X0_31 hc) dX0_runs_1 ?_
  refine zr_aload_n (r := r1) hx hb dX0_runs_4 rfl (lv_at hl 1 rfl) ?_
  obtain ⟨a_5, ci_6, fs_7, r_8, er, he, hc, hv, hw⟩ := zgR_e hw
  refine zw_get hk hH er he hv (fk_X0_171 hc) dX0_runs_5 ?_
  obtain ⟨a_9, ci_10, fs_11, x_12, er, he, hc, hv, hw⟩ := zgI_e hw
  refine zw_get hk hH er he hv (fk_X0_175 hc) dX0_runs_8 ?_
  obtain ⟨a_13, n_14, f_15, er, he, hi, hw⟩ := zaR_e hw
  have hw := hw _ rfl
  refine zw_aald hk hH 7 er he rfl rfl hi dX0_runs_11 ?_
  generalize f_15 x_12.toNatClampNeg = r_16 at hw ⊢
  refine zr_astore (r := r_16) (lv' := [(4, va_rf r_16), (0, va_rf (some h0)), (1, va_rf r1), (2, .int x2), (3, .int x3)]) hx hb dX0_runs_12 hl (by decide) (by first | rfl | simp [List.filter_cons, z_cat, z_catI, z_catJ, z_catF, z_catD]) (fun ls hl => ?_)
  refine zr_aload_n (r := r1) hx hb dX0_runs_14 rfl (lv_at hl 2 rfl) ?_
  obtain ⟨a_17, ci_18, fs_19, r_20, er, he, hc, hv, hw⟩ := zgR_e hw
  refine zw_get hk hH er he hv (fk_X0_190 hc) dX0_runs_15 ?_
  obtain ⟨P_37, hP_37, hw⟩ := hw
  have hJ_37 : ∀ (r_21 : Option Nat) (r_22 : Option Nat) (hp_23 : zHp) (nx_24 : Nat) (H : Heap) (locs : List Loc) (ls : Array Slot), P_37 r_21 r_22 hp_23 nx_24 → lv_has ls 18 [(0, va_rf (some h0)), (1, va_rf r1), (2, .int x2), (3, .int x3), (4, va_rf r_21)] → zHd g hp_23 H → H.size = nx_24 → va_S (zAd g) s.heap H locs → W p l e (zrm (d + 1) 0 0) s m ([.ref h0, va_rf r1, .int x2, .int x3] : List Value).toArray below meth c H locs 0 0 (MQ below (zQv g Post) ([.ref h0, va_rf r1, .int x2, .int x3] : List Value).toArray s 0 0 (zAd g)) (F0 m 37 ls [va_rf r_22]) := by
    intro r_21 r_22 hp_23 nx_24 H locs ls hw hl hH hz hS
    have hw := hP_37 r_21 r_22 hp_23 nx_24 hw
    refine zr_astore (r := r_22) (lv' := [(5, va_rf r_22), (0, va_rf (some h0)), (1, va_rf r1), (2, .int x2), (3, .int x3), (4, va_rf r_21)]) hx hb dX0_runs_37 hl (by decide) (by first | rfl | simp [List.filter_cons, z_cat, z_catI, z_catJ, z_catF, z_catD]) (fun ls hl => ?_)
    refine zr_aload (r := r_21) hx hb dX0_runs_39 (lv_at hl 5 rfl) ?_
    obtain ⟨a_25, ci_26, fs_27, x_28, er, he, hc, hv, hw⟩ := zgD_e hw
    refine zw_get hk hH er he hv (fk_X0_209 hc) dX0_runs_41 ?_
    refine lv_dstore (lv' := [(6, .double x_28), (5, va_rf r_22), (0, va_rf (some h0)), (1, va_rf r1), (2, .int x2), (3, .int x3), (4, va_rf r_21)]) hx hb dX0_runs_44 hl (by decide) (by first | rfl | simp [List.filter_cons, z_cat, z_catI, z_catJ, z_catF, z_catD]) (fun ls hl => ?_)
    refine zr_aload (r := r_22) hx hb dX0_runs_46 (lv_at hl 1 rfl) ?_
    obtain ⟨P_60, hP_60, hw⟩ := hw
    have hJ_60 : ∀ (r_29 : Option Nat) (r_30 : Option Nat) (x_31 : UInt64) (x_32 : UInt64) (hp_33 : zHp) (nx_34 : Nat) (H : Heap) (locs : List Loc) (ls : Array Slot), P_60 r_29 r_30 x_31 x_32 hp_33 nx_34 → lv_has ls 18 [(0, va_rf (some h0)), (1, va_rf r1), (2, .int x2), (3, .int x3), (4, va_rf r_29), (5, va_rf r_30), (6, .double x_31)] → zHd g hp_33 H → H.size = nx_34 → va_S (zAd g) s.heap H locs → W p l e (zrm (d + 1) 0 0) s m ([.ref h0, va_rf r1, .int x2, .int x3] : List Value).toArray below meth c H locs 0 0 (MQ below (zQv g Post) ([.ref h0, va_rf r1, .int x2, .int x3] : List Value).toArray s 0 0 (zAd g)) (F0 m 60 ls [.double x_32]) := by
      intro r_29 r_30 x_31 x_32 hp_33 nx_34 H locs ls hw hl hH hz hS
      have hw := hP_60 r_29 r_30 x_31 x_32 hp_33 nx_34 hw
      refine lv_dstore (lv' := [(8, .double x_32), (0, va_rf (some h0)), (1, va_rf r1), (2, .int x2), (3, .int x3), (4, va_rf r_29), (5, va_rf r_30), (6, .double x_31)]) hx hb dX0_runs_60 hl (by decide) (by first | rfl | simp [List.filter_cons, z_cat, z_catI, z_catJ, z_catF, z_catD]) (fun ls hl => ?_)
      refine zr_aload_n (r := some h0) hx hb dX0_runs_62 rfl (lv_at hl 1 rfl) ?_
      obtain ⟨a_35, ci_36, fs_37, r_38, er, he, hc, hv, hw⟩ := zgR_e hw
      refine zw_get hk hH er he hv (fk_X0_167 hc) dX0_runs_63 ?_
      refine zr_astore (r := r_38) (lv' := [(10, va_rf r_38), (8, .double x_32), (0, va_rf (some h0)), (1, va_rf r1), (2, .int x2), (3, .int x3), (4, va_rf r_29), (5, va_rf r_30), (6, .double x_31)]) hx hb dX0_runs_66 hl (by decide) (by first | rfl | simp [List.filter_cons, z_cat, z_catI, z_catJ, z_catF, z_catD]) (fun ls hl => ?_)
      refine zr_aload_n (r := some h0) hx hb dX0_runs_68 rfl (lv_at hl 2 rfl) ?_
      obtain ⟨a_39, ci_40, fs_41, x_42, er, he, hc, hv, hw⟩ := zgI_e hw
      refine zw_get hk hH er he hv (fk_X0_187 hc) dX0_runs_69 ?_
      refine lv_istore (lv' := [(11, .int x_42), (10, va_rf r_38), (8, .double x_32), (0, va_rf (some h0)), (1, va_rf r1), (2, .int x2), (3, .int x3), (4, va_rf r_29), (5, va_rf r_30), (6, .double x_31)]) hx hb dX0_runs_72 hl (by decide) (by first | rfl | simp [List.filter_cons, z_cat, z_catI, z_catJ, z_catF, z_catD]) (fun ls hl => ?_)
      refine zr_aload_n (r := some h0) hx hb dX0_runs_74 rfl (lv_at hl 3 rfl) ?_
      obtain ⟨a_43, ci_44, fs_45, x_46, er, he, hc, hv, hw⟩ := zgI_e hw
      refine zw_get hk hH er he hv (fk_X0_196 hc) dX0_runs_75 ?_
      refine lv_istore (lv' := [(12, .int x_46), (11, .int x_42), (10, va_rf r_38), (8, .double x_32), (0, va_rf (some h0)), (1, va_rf r1), (2, .int x2), (3, .int x3), (4, va_rf r_29), (5, va_rf r_30), (6, .double x_31)]) hx hb dX0_runs_78 hl (by decide) (by first | rfl | simp [List.filter_cons, z_cat, z_catI, z_catJ, z_catF, z_catD]) (fun ls hl => ?_)
      refine zr_aload_n (r := some h0) hx hb dX0_runs_80 rfl (lv_at hl 4 rfl) ?_
      obtain ⟨a_47, ci_48, fs_49, x_50, er, he, hc, hv, hw⟩ := zgI_e hw
      refine zw_get hk hH er he hv (fk_X0_138 hc) dX0_runs_81 ?_
      refine lv_istore (lv' := [(13, .int x_50), (12, .int x_46), (11, .int x_42), (10, va_rf r_38), (8, .double x_32), (0, va_rf (some h0)), (1, va_rf r1), (2, .int x2), (3, .int x3), (4, va_rf r_29), (5, va_rf r_30), (6, .double x_31)]) hx hb dX0_runs_84 hl (by decide) (by first | rfl | simp [List.filter_cons, z_cat, z_catI, z_catJ, z_catF, z_catD]) (fun ls hl => ?_)
      refine zr_aload_n (r := some h0) hx hb dX0_runs_86 rfl (lv_at hl 5 rfl) ?_
      obtain ⟨a_51, ci_52, fs_53, x_54, er, he, hc, hv, hw⟩ := zgI_e hw
      refine zw_get hk hH er he hv (fk_X0_41 hc) dX0_runs_87 ?_
      refine lv_istore (lv' := [(14, .int x_54), (13, .int x_50), (12, .int x_46), (11, .int x_42), (10, va_rf r_38), (8, .double x_32), (0, va_rf (some h0)), (1, va_rf r1), (2, .int x2), (3, .int x3), (4, va_rf r_29), (5, va_rf r_30), (6, .double x_31)]) hx hb dX0_runs_90 hl (by decide) (by first | rfl | simp [List.filter_cons, z_cat, z_catI, z_catJ, z_catF, z_catD]) (fun ls hl => ?_)
      refine zr_aload_n (r := some h0) hx hb dX0_runs_92 rfl (lv_at hl 6 rfl) ?_
      obtain ⟨a_55, ci_56, fs_57, r_58, er, he, hc, hv, hw⟩ := zgR_e hw
      refine zw_get hk hH er he hv (fk_X0_47 hc) dX0_runs_93 ?_
      refine zr_aload_n (r := r1) hx hb dX0_runs_96 rfl (lv_at hl 7 rfl) ?_
      obtain ⟨a_59, ci_60, fs_61, x_62, er, he, hc, hv, hw⟩ := zgI_e hw
      refine zw_get hk hH er he hv (fk_X0_151 hc) dX0_runs_97 ?_
      obtain ⟨a_63, n_64, f_65, er, he, hi, hw⟩ := zaR_e hw
      have hw := hw _ rfl
      refine zw_aald hk hH 9 er he rfl rfl hi dX0_runs_100 ?_
      generalize f_65 x_62.toNatClampNeg = r_66 at hw ⊢
      refine zr_astore (r := r_66) (lv' := [(15, va_rf r_66), (14, .int x_54), (13, .int x_50), (12, .int x_46), (11, .int x_42), (10, va_rf r_38), (8, .double x_32), (0, va_rf (some h0)), (1, va_rf r1), (2, .int x2), (3, .int x3), (4, va_rf r_29), (5, va_rf r_30), (6, .double x_31)]) hx hb dX0_runs_101 hl (by decide) (by first | rfl | simp [List.filter_cons, z_cat, z_catI, z_catJ, z_catF, z_catD]) (fun ls hl => ?_)
      refine zr_aload_n (r := some h0) hx hb dX0_runs_103 rfl (lv_at hl 7 rfl) ?_
      refine zr_aload_n (r := r1) hx hb dX0_runs_104 rfl (lv_at hl 8 rfl) ?_
      refine zr_aload (r := r_66) hx hb dX0_runs_105 (lv_at hl 0 rfl) ?_
      obtain ⟨a_199, ci_200, fs_201, er, he, hc, hw⟩ := zo_e hw
      obtain rfl := List.mem_singleton.mp hc
      refine zr_callv (zw_runV (As := [va_rf r1, va_rf r_66]) hk hH hz hS hl.1 er hw (cwV 2 hts (lw_V q2162 q2164 qs47 q131 q2165) rfl rfl rfl (by decide +kernel) (z_room (Nat.le_of_ble_eq_true rfl))) he rfl rfl rfl (Nat.le_of_ble_eq_true rfl) dX0_runs_107 ⟨Nat.le_of_ble_eq_true rfl, Nat.le_of_ble_eq_true rfl⟩) hS (fun hp_67 nx_68 hw H locs hH hz hS => ?_)
      refine zr_aload_n (r := some h0) hx hb dX0_runs_110 rfl (lv_at hl 7 rfl) ?_
      refine zr_aload_n (r := r1) hx hb dX0_runs_111 rfl (lv_at hl 8 rfl) ?_
      obtain ⟨a_69, ci_70, fs_71, hp_72, er, he, hc, hA, hkl, eh, hw⟩ := zpt_e hw
      refine zw_put hk hH hz hS er he hA hkl eh (fp_X0_167 hc) (z_narR _ _) (z_fitR _ _) dX0_runs_112 (fun H locs hH hz hS => ?_)
      refine lv_iload_n hx hb dX0_runs_115 rfl (lv_at hl 9 rfl) ?_
      refine lv_if_lt (tgt := 178) hx hb dX0_runs_116 (by decide) (fun hc => ?_) (fun hc => ?_)
      · have hw := hw.1 hc
        refine lv_iconst (v := (0 : Int32)) hx hb dX0_runs_178 (by decide) ?_
        refine lv_istore (lv' := [(16, .int (0 : Int32)), (15, va_rf r_66), (14, .int x_54), (13, .int x_50), (12, .int x_46), (11, .int x_42), (10, va_rf r_38), (8, .double x_32), (0, va_rf (some h0)), (1, va_rf r1), (2, .int x2), (3, .int x3), (4, va_rf r_29), (5, va_rf r_30), (6, .double x_31)]) hx hb dX0_runs_179 hl (by decide) (by first | rfl | simp [List.filter_cons, z_cat, z_catI, z_catJ, z_catF, z_catD]) (fun ls hl => ?_)
        obtain ⟨I_181, ⟨n_153, hI⟩, hB_181⟩ := hw
        have hL_181 : ∀ (n_86 : Nat) (r_73 : Option Nat) (r_74 : Option Nat) (x_75 : UInt64) (x_76 : UInt64) (r_77 : Option Nat) (x_78 : Int32) (x_79 : Int32) (x_80 : Int32) (x_81 : Int32) (r_82 : Option Nat) (x_83 : Int32) (hp_84 : zHp) (nx_85 : Nat) (H : Heap) (locs : List Loc) (ls : Array Slot), I_181 n_86 r_73 r_74 x_75 x_76 r_77 x_78 x_79 x_80 x_81 r_82 x_83 hp_84 nx_85 → lv_has ls 18 [(0, va_rf (some h0)), (1, va_rf r1), (2, .int x2), (3, .int x3), (4, va_rf r_73), (5, va_rf r_74), (6, .double x_75), (8, .double x_76), (10, va_rf r_77), (11, .int x_78), (12, .int x_79), (13, .int x_80), (14, .int x_81), (15, va_rf r_82), (16, .int x_83)] → zHd g hp_84 H → H.size = nx_85 → va_S (zAd g) s.heap H locs → W p l e (zrm (d + 1) 0 0) s m ([.ref h0, va_rf r1, .int x2, .int x3] : List Value).toArray below meth c H locs 0 0 (MQ below (zQv g Post) ([.ref h0, va_rf r1, .int x2, .int x3] : List Value).toArray s 0 0 (zAd g)) (F0 m 181 ls []) := by
          intro n_86
          induction n_86 using Nat.strongRecOn with
          | _ n_86 ih_181 =>
            intro r_73 r_74 x_75 x_76 r_77 x_78 x_79 x_80 x_81 r_82 x_83 hp_84 nx_85 H locs ls hw hl hH hz hS
            have hw := hB_181 n_86 r_73 r_74 x_75 x_76 r_77 x_78 x_79 x_80 x_81 r_82 x_83 hp_84 nx_85 hw
            refine lv_iload hx hb dX0_runs_181 (lv_at hl 14 rfl) ?_
            refine zr_aload_n (r := r1) hx hb dX0_runs_183 rfl (lv_at hl 1 rfl) ?_
            obtain ⟨a_150, ci_151, fs_152, er, he, hc, hw⟩ := zo_e hw
            obtain rfl := List.mem_singleton.mp hc
            refine zr_calli (zw_runV (As := []) hk hH hz hS hl.1 er hw (cwV 0 hts (lw_V q1168 q1169 q1170 q195 q1171) rfl rfl rfl (by decide +kernel) (z_room (Nat.le_of_ble_eq_true rfl))) he rfl rfl rfl (Nat.le_of_ble_eq_true rfl) dX0_runs_184 ⟨Nat.le_of_ble_eq_true rfl, Nat.le_of_ble_eq_true rfl⟩) hS (fun x_89 hp_87 nx_88 hw H locs hH hz hS => ?_)
            refine lv_icmp_ge (tgt := 217) hx hb dX0_runs_187 (by decide) (fun hc => ?_) (fun hc => ?_)
            · have hw := hw.1 hc
              refine zr_aload (r := r_73) hx hb dX0_runs_217 (lv_at hl 4 rfl) ?_
              refine lv_dload hx hb dX0_runs_219 (lv_at hl 6 rfl) ?_
              obtain ⟨a_90, ci_91, fs_92, hp_93, er, he, hc, hA, hkl, eh, hw⟩ := zpt_e hw
              refine zw_put hk hH hz hS er he hA hkl eh (fp_X0_209 hc) rfl rfl dX0_runs_221 (fun H locs hH hz hS => ?_)
              refine zr_aload (r := r_74) hx hb dX0_runs_224 (lv_at hl 5 rfl) ?_
              obtain ⟨P_236, hP_236, hw⟩ := hw
              have hJ_236 : ∀ (r_94 : Option Nat) (r_95 : Option Nat) (x_96 : UInt64) (x_97 : UInt64) (r_98 : Option Nat) (x_99 : Int32) (x_100 : Int32) (x_101 : Int32) (x_102 : Int32) (r_103 : Option Nat) (x_104 : Int32) (hp_105 : zHp) (nx_106 : Nat) (H : Heap) (locs : List Loc) (ls : Array Slot), P_236 r_94 r_95 x_96 x_97 r_98 x_99 x_100 x_101 x_102 r_103 x_104 hp_105 nx_106 → lv_has ls 18 [(0, va_rf (some h0)), (1, va_rf r1), (2, .int x2), (3, .int x3), (4, va_rf r_94), (5, va_rf r_95), (6, .double x_96), (8, .double x_97), (10, va_rf r_98), (11, .int x_99), (12, .int x_100), (13, .int x_101), (14, .int x_102), (15, va_rf r_103), (16, .int x_104)] → zHd g hp_105 H → H.size = nx_106 → va_S (zAd g) s.heap H locs → W p l e (zrm (d + 1) 0 0) s m ([.ref h0, va_rf r1, .int x2, .int x3] : List Value).toArray below meth c H locs 0 0 (MQ below (zQv g Post) ([.ref h0, va_rf r1, .int x2, .int x3] : List Value).toArray s 0 0 (zAd g)) (F0 m 236 ls []) := by
                intro r_94 r_95 x_96 x_97 r_98 x_99 x_100 x_101 x_102 r_103 x_104 hp_105 nx_106 H locs ls hw hl hH hz hS
                have hw := hP_236 r_94 r_95 x_96 x_97 r_98 x_99 x_100 x_101 x_102 r_103 x_104 hp_105 nx_106 hw
                refine zr_aload_n (r := some h0) hx hb dX0_runs_236 rfl (lv_at hl 0 rfl) ?_
                refine zr_aload (r := r_98) hx hb dX0_runs_237 (lv_at hl 8 rfl) ?_
                obtain ⟨a_107, ci_108, fs_109, hp_110, er, he, hc, hA, hkl, eh, hw⟩ := zpt_e hw
                refine zw_put hk hH hz hS er he hA hkl eh (fp_X0_167 hc) (z_narR _ _) (z_fitR _ _) dX0_runs_239 (fun H locs hH hz hS => ?_)
                refine zr_aload_n (r := some h0) hx hb dX0_runs_242 rfl (lv_at hl 0 rfl) ?_
                refine lv_iload hx hb dX0_runs_243 (lv_at hl 9 rfl) ?_
                obtain ⟨a_111, ci_112, fs_113, hp_114, er, he, hc, hA, hkl, eh, hw⟩ := zpt_e hw
                refine zw_put hk hH hz hS er he hA hkl eh (fp_X0_187 hc) rfl rfl dX0_runs_245 (fun H locs hH hz hS => ?_)
                refine zr_aload_n (r := some h0) hx hb dX0_runs_248 rfl (lv_at hl 0 rfl) ?_
                refine lv_iload hx hb dX0_runs_249 (lv_at hl 10 rfl) ?_
                obtain ⟨a_115, ci_116, fs_117, hp_118, er, he, hc, hA, hkl, eh, hw⟩ := zpt_e hw
                refine zw_put hk hH hz hS er he hA hkl eh (fp_X0_196 hc) rfl rfl dX0_runs_251 (fun H locs hH hz hS => ?_)
                refine zr_aload_n (r := some h0) hx hb dX0_runs_254 rfl (lv_at hl 0 rfl) ?_
                refine lv_iload hx hb dX0_runs_255 (lv_at hl 11 rfl) ?_
                obtain ⟨a_119, ci_120, fs_121, hp_122, er, he, hc, hA, hkl, eh, hw⟩ := zpt_e hw
                refine zw_put hk hH hz hS er he hA hkl eh (fp_X0_138 hc) rfl rfl dX0_runs_257 (fun H locs hH hz hS => ?_)
                refine zr_aload_n (r := some h0) hx hb dX0_runs_260 rfl (lv_at hl 0 rfl) ?_
                refine lv_iload hx hb dX0_runs_261 (lv_at hl 12 rfl) ?_
                obtain ⟨a_123, ci_124, fs_125, hp_126, er, he, hc, hA, hkl, eh, hw⟩ := zpt_e hw
                refine zw_put hk hH hz hS er he hA hkl eh (fp_X0_41 hc) rfl rfl dX0_runs_263 (fun H locs hH hz hS => ?_)
                refine lv_goto (tgt := 323) hx hb dX0_runs_266 (by decide) ?_
                exact zr_vret hk hr hH hz hS hw (Nat.le_of_ble_eq_true rfl) (Nat.le_of_ble_eq_true rfl) dX0_runs_323
              refine zr_ifnull (r := r_74) (tgt := 236) hx hb dX0_runs_226 (by decide) (fun hc => ?_) (fun hc => ?_)
              · have hw := hw.1 hc
                exact hJ_236 r_73 r_74 x_75 x_76 r_77 x_78 x_79 x_80 x_81 r_82 x_83 hp_93 nx_88 _ _ _ hw hl hH hz hS
              · have hw := hw.2 hc
                refine zr_aload (r := r_74) hx hb dX0_runs_229 (lv_at hl 5 rfl) ?_
                refine lv_dload hx hb dX0_runs_231 (lv_at hl 7 rfl) ?_
                obtain ⟨a_127, ci_128, fs_129, hp_130, er, he, hc, hA, hkl, eh, hw⟩ := zpt_e hw
                refine zw_put hk hH hz hS er he hA hkl eh (fp_X0_209 hc) rfl rfl dX0_runs_233 (fun H locs hH hz hS => ?_)
                exact hJ_236 r_73 r_74 x_75 x_76 r_77 x_78 x_79 x_80 x_81 r_82 x_83 hp_130 nx_88 _ _ _ hw hl hH hz hS
            · have hw := hw.2 hc
              refine zr_aload_n (r := some h0) hx hb dX0_runs_190 rfl (lv_at hl 0 rfl) ?_
              refine zr_aload_n (r := r1) hx hb dX0_runs_191 rfl (lv_at hl 1 rfl) ?_
              refine zr_aload (r := r_82) hx hb dX0_runs_192 (lv_at hl 13 rfl) ?_
              refine lv_iload hx hb dX0_runs_194 (lv_at hl 14 rfl) ?_
              refine zr_aload_n (r := r1) hx hb dX0_runs_196 rfl (lv_at hl 1 rfl) ?_
              obtain ⟨a_147, ci_148, fs_149, er, he, hc, hw⟩ := zo_e hw
              obtain rfl := List.mem_singleton.mp hc
              refine zr_calli (zw_runV (As := []) hk hH hz hS hl.1 er hw (cwV 0 hts (lw_V q2175 q1177 q1178 q195 q1179) rfl rfl rfl (by decide +kernel) (z_room (Nat.le_of_ble_eq_true rfl))) he rfl rfl rfl (by simp only [List.map_cons, List.map_nil, z_cat]; exact Nat.le_of_ble_eq_true rfl) dX0_runs_197 ⟨Nat.le_of_ble_eq_true rfl, Nat.le_of_ble_eq_true rfl⟩) hS (fun x_133 hp_131 nx_132 hw H locs hH hz hS => ?_)
              obtain ⟨hne, hw⟩ := hw
              refine lv_idiv hx hb dX0_runs_200 hne ?_
              refine lv_iload hx hb dX0_runs_201 (lv_at hl 14 rfl) ?_
              refine zr_aload_n (r := r1) hx hb dX0_runs_203 rfl (lv_at hl 1 rfl) ?_
              obtain ⟨a_144, ci_145, fs_146, er, he, hc, hw⟩ := zo_e hw
              obtain rfl := List.mem_singleton.mp hc
              refine zr_calli (zw_runV (As := []) hk hH hz hS hl.1 er hw (cwV 0 hts (lw_V q2175 q1177 q1178 q195 q1179) rfl rfl rfl (by decide +kernel) (z_room (Nat.le_of_ble_eq_true rfl))) he rfl rfl rfl (by simp only [List.map_cons, List.map_nil, z_cat]; exact Nat.le_of_ble_eq_true rfl) dX0_runs_204 ⟨Nat.le_of_ble_eq_true rfl, Nat.le_of_ble_eq_true rfl⟩) hS (fun x_136 hp_134 nx_135 hw H locs hH hz hS => ?_)
              obtain ⟨hne, hw⟩ := hw
              refine lv_irem hx hb dX0_runs_207 hne ?_
              obtain ⟨a_141, ci_142, fs_143, er, he, hc, hw⟩ := zo_e hw
              obtain rfl := List.mem_singleton.mp hc
              refine zr_callv (zw_runV (As := [va_rf r1, va_rf r_82, .int (x_83 / x_133), .int (x_83 - x_83 / x_136 * x_136)]) hk hH hz hS hl.1 er hw (cwV 4 hts (lw_V q2171 q2173 qs48 q131 q2174) rfl rfl rfl (by decide +kernel) (z_room (Nat.le_of_ble_eq_true rfl))) he rfl rfl rfl (Nat.le_of_ble_eq_true rfl) dX0_runs_208 ⟨Nat.le_of_ble_eq_true rfl, Nat.le_of_ble_eq_true rfl⟩) hS (fun hp_137 nx_138 hw H locs hH hz hS => ?_)
              obtain ⟨x_139, ex_139⟩ : ∃ y : Int32, y = x_83 + (1 : Int32) := ⟨_, rfl⟩
              have hw := hw x_139 ex_139
              refine lv_iinc (v := x_139) (lv' := [(16, .int x_139), (0, va_rf (some h0)), (1, va_rf r1), (2, .int x2), (3, .int x3), (4, va_rf r_73), (5, va_rf r_74), (6, .double x_75), (8, .double x_76), (10, va_rf r_77), (11, .int x_78), (12, .int x_79), (13, .int x_80), (14, .int x_81), (15, va_rf r_82)]) hx hb dX0_runs_211 hl (k := 14) rfl (by rw [ex_139]; rfl) (by decide) (by first | rfl | simp [List.filter_cons, z_cat, z_catI, z_catJ, z_catF, z_catD]) (fun ls hl => ?_)
              refine lv_goto (tgt := 181) hx hb dX0_runs_214 (by decide) ?_
              obtain ⟨k_140, hlt, hw⟩ := hw
              exact ih_181 k_140 hlt r_73 r_74 x_75 x_76 r_77 x_78 x_79 x_80 x_81 r_82 x_139 hp_137 nx_138 _ _ _ hw (lv_sub hl [1, 2, 3, 4, 5, 6, 7, 8, 9, 10, 11, 12, 13, 14, 0] rfl) hH hz hS
        exact hL_181 n_153 r_29 r_30 x_31 x_32 r_38 x_42 x_46 x_50 x_54 r_66 (0 : Int32) hp_72 nx_68 _ _ _ hI (lv_sub hl [8, 9, 10, 11, 12, 13, 14, 7, 6, 5, 4, 3, 2, 1, 0] rfl) hH hz hS
      · have hw := hw.2 hc
        refine zr_aload_n (r := some h0) hx hb dX0_runs_119 rfl (lv_at hl 7 rfl) ?_
        refine zr_aload_n (r := r1) hx hb dX0_runs_120 rfl (lv_at hl 8 rfl) ?_
        refine zr_aload (r := r_66) hx hb dX0_runs_121 (lv_at hl 0 rfl) ?_
        refine lv_iload_n hx hb dX0_runs_123 rfl (lv_at hl 9 rfl) ?_
        refine lv_iload_n hx hb dX0_runs_124 rfl (lv_at hl 10 rfl) ?_
        obtain ⟨a_196, ci_197, fs_198, er, he, hc, hw⟩ := zo_e hw
        obtain rfl := List.mem_singleton.mp hc
        refine zr_callv (zw_runV (As := [va_rf r1, va_rf r_66, .int x2, .int x3]) hk hH hz hS hl.1 er hw (cwV 4 hts (lw_V q2171 q2173 qs48 q131 q2174) rfl rfl rfl (by decide +kernel) (z_room (Nat.le_of_ble_eq_true rfl))) he rfl rfl rfl (Nat.le_of_ble_eq_true rfl) dX0_runs_125 ⟨Nat.le_of_ble_eq_true rfl, Nat.le_of_ble_eq_true rfl⟩) hS (fun hp_154 nx_155 hw H locs hH hz hS => ?_)
        refine zr_aload (r := r_29) hx hb dX0_runs_128 (lv_at hl 11 rfl) ?_
        refine lv_dload hx hb dX0_runs_130 (lv_at hl 13 rfl) ?_
        obtain ⟨a_156, ci_157, fs_158, hp_159, er, he, hc, hA, hkl, eh, hw⟩ := zpt_e hw
        refine zw_put hk hH hz hS er he hA hkl eh (fp_X0_209 hc) rfl rfl dX0_runs_132 (fun H locs hH hz hS => ?_)
        refine zr_aload (r := r_30) hx hb dX0_runs_135 (lv_at hl 12 rfl) ?_
        obtain ⟨P_147, hP_147, hw⟩ := hw
        have hJ_147 : ∀ (r_160 : Option Nat) (r_161 : Option Nat) (x_162 : UInt64) (x_163 : UInt64) (r_164 : Option Nat) (x_165 : Int32) (x_166 : Int32) (x_167 : Int32) (x_168 : Int32) (r_169 : Option Nat) (hp_170 : zHp) (nx_171 : Nat) (H : Heap) (locs : List Loc) (ls : Array Slot), P_147 r_160 r_161 x_162 x_163 r_164 x_165 x_166 x_167 x_168 r_169 hp_170 nx_171 → lv_has ls 18 [(0, va_rf (some h0)), (1, va_rf r1), (2, .int x2), (3, .int x3), (4, va_rf r_160), (5, va_rf r_161), (6, .double x_162), (8, .double x_163), (10, va_rf r_164), (11, .int x_165), (12, .int x_166), (13, .int x_167), (14, .int x_168), (15, va_rf r_169)] → zHd g hp_170 H → H.size = nx_171 → va_S (zAd g) s.heap H locs → W p l e (zrm (d + 1) 0 0) s m ([.ref h0, va_rf r1, .int x2, .int x3] : List Value).toArray below meth c H locs 0 0 (MQ below (zQv g Post) ([.ref h0, va_rf r1, .int x2, .int x3] : List Value).toArray s 0 0 (zAd g)) (F0 m 147 ls []) := by
          intro r_160 r_161 x_162 x_163 r_164 x_165 x_166 x_167 x_168 r_169 hp_170 nx_171 H locs ls hw hl hH hz hS
          have hw := hP_147 r_160 r_161 x_162 x_163 r_164 x_165 x_166 x_167 x_168 r_169 hp_170 nx_171 hw
          refine zr_aload_n (r := some h0) hx hb dX0_runs_147 rfl (lv_at hl 0 rfl) ?_
          refine zr_aload (r := r_164) hx hb dX0_runs_148 (lv_at hl 8 rfl) ?_
          obtain ⟨a_172, ci_173, fs_174, hp_175, er, he, hc, hA, hkl, eh, hw⟩ := zpt_e hw
          refine zw_put hk hH hz hS er he hA hkl eh (fp_X0_167 hc) (z_narR _ _) (z_fitR _ _) dX0_runs_150 (fun H locs hH hz hS => ?_)
          refine zr_aload_n (r := some h0) hx hb dX0_runs_153 rfl (lv_at hl 0 rfl) ?_
          refine lv_iload hx hb dX0_runs_154 (lv_at hl 9 rfl) ?_
          obtain ⟨a_176, ci_177, fs_178, hp_179, er, he, hc, hA, hkl, eh, hw⟩ := zpt_e hw
          refine zw_put hk hH hz hS er he hA hkl eh (fp_X0_187 hc) rfl rfl dX0_runs_156 (fun H locs hH hz hS => ?_)
          refine zr_aload_n (r := some h0) hx hb dX0_runs_159 rfl (lv_at hl 0 rfl) ?_
          refine lv_iload hx hb dX0_runs_160 (lv_at hl 10 rfl) ?_
          obtain ⟨a_180, ci_181, fs_182, hp_183, er, he, hc, hA, hkl, eh, hw⟩ := zpt_e hw
          refine zw_put hk hH hz hS er he hA hkl eh (fp_X0_196 hc) rfl rfl dX0_runs_162 (fun H locs hH hz hS => ?_)
          refine zr_aload_n (r := some h0) hx hb dX0_runs_165 rfl (lv_at hl 0 rfl) ?_
          refine lv_iload hx hb dX0_runs_166 (lv_at hl 11 rfl) ?_
          obtain ⟨a_184, ci_185, fs_186, hp_187, er, he, hc, hA, hkl, eh, hw⟩ := zpt_e hw
          refine zw_put hk hH hz hS er he hA hkl eh (fp_X0_138 hc) rfl rfl dX0_runs_168 (fun H locs hH hz hS => ?_)
          refine zr_aload_n (r := some h0) hx hb dX0_runs_171 rfl (lv_at hl 0 rfl) ?_
          refine lv_iload hx hb dX0_runs_172 (lv_at hl 12 rfl) ?_
          obtain ⟨a_188, ci_189, fs_190, hp_191, er, he, hc, hA, hkl, eh, hw⟩ := zpt_e hw
          refine zw_put hk hH hz hS er he hA hkl eh (fp_X0_41 hc) rfl rfl dX0_runs_174 (fun H locs hH hz hS => ?_)
          exact zr_vret hk hr hH hz hS hw (Nat.le_of_ble_eq_true rfl) (Nat.le_of_ble_eq_true rfl) dX0_runs_177
        refine zr_ifnull (r := r_30) (tgt := 147) hx hb dX0_runs_137 (by decide) (fun hc => ?_) (fun hc => ?_)
        · have hw := hw.1 hc
          exact hJ_147 r_29 r_30 x_31 x_32 r_38 x_42 x_46 x_50 x_54 r_66 hp_159 nx_155 _ _ _ hw (lv_sub hl [7, 8, 9, 10, 11, 12, 13, 6, 5, 4, 3, 2, 1, 0] rfl) hH hz hS
        · have hw := hw.2 hc
          refine zr_aload (r := r_30) hx hb dX0_runs_140 (lv_at hl 12 rfl) ?_
          refine lv_dload hx hb dX0_runs_142 (lv_at hl 6 rfl) ?_
          obtain ⟨a_192, ci_193, fs_194, hp_195, er, he, hc, hA, hkl, eh, hw⟩ := zpt_e hw
          refine zw_put hk hH hz hS er he hA hkl eh (fp_X0_209 hc) rfl rfl dX0_runs_144 (fun H locs hH hz hS => ?_)
          exact hJ_147 r_29 r_30 x_31 x_32 r_38 x_42 x_46 x_50 x_54 r_66 hp_195 nx_155 _ _ _ hw (lv_sub hl [7, 8, 9, 10, 11, 12, 13, 6, 5, 4, 3, 2, 1, 0] rfl) hH hz hS
    refine zr_ifnonnull (r := r_22) (tgt := 55) hx hb dX0_runs_48 (by decide) (fun hc => ?_) (fun hc => ?_)
    · have hw := hw.2 hc
      refine zr_aload (r := r_22) hx hb dX0_runs_55 (lv_at hl 1 rfl) ?_
      obtain ⟨a_202, ci_203, fs_204, x_205, er, he, hc, hv, hw⟩ := zgD_e hw
      refine zw_get hk hH er he hv (fk_X0_209 hc) dX0_runs_57 ?_
      exact hJ_60 r_21 r_22 x_28 x_205 hp_23 nx_24 _ _ _ hw (lv_sub hl [2, 3, 4, 5, 6, 1, 0] rfl) hH hz hS
    · have hw := hw.1 hc
      refine lv_dconst0 hx hb dX0_runs_51 ?_
      refine lv_goto (tgt := 60) hx hb dX0_runs_52 (by decide) ?_
      exact hJ_60 r_21 r_22 x_28 FP.dconst0 hp_23 nx_24 _ _ _ hw (lv_sub hl [2, 3, 4, 5, 6, 1, 0] rfl) hH hz hS
  refine zr_ifnonnull (r := r_20) (tgt := 25) hx hb dX0_runs_18 (by decide) (fun hc => ?_) (fun hc => ?_)
  · have hw := hw.2 hc
    refine zr_aload_n (r := some h0) hx hb dX0_runs_25 rfl (lv_at hl 1 rfl) ?_
    obtain ⟨a_206, ci_207, fs_208, r_209, er, he, hc, hv, hw⟩ := zgR_e hw
    refine zw_get hk hH er he hv (fk_X0_31 hc) dX0_runs_26 ?_
    refine zr_aload_n (r := r1) hx hb dX0_runs_29 rfl (lv_at hl 2 rfl) ?_
    obtain ⟨a_210, ci_211, fs_212, r_213, er, he, hc, hv, hw⟩ := zgR_e hw
    refine zw_get hk hH er he hv (fk_X0_190 hc) dX0_runs_30 ?_
    obtain ⟨a_214, ci_215, fs_216, x_217, er, he, hc, hv, hw⟩ := zgI_e hw
    refine zw_get hk hH er he hv (fk_X0_175 hc) dX0_runs_33 ?_
    obtain ⟨a_218, n_219, f_220, er, he, hi, hw⟩ := zaR_e hw
    have hw := hw _ rfl
    refine zw_aald hk hH 7 er he rfl rfl hi dX0_runs_36 ?_
    generalize f_220 x_217.toNatClampNeg = r_221 at hw ⊢
    exact hJ_37 r_16 r_221 hp nx _ _ _ hw (lv_sub hl [1, 2, 3, 4, 0] rfl) hH hz hS
  · have hw := hw.1 hc
    refine zx_null hx hb dX0_runs_21 ?_
    refine lv_goto (tgt := 37) hx hb dX0_runs_22 (by decide) ?_
    exact hJ_37 r_16 none hp nx _ _ _ hw (lv_sub hl [1, 2, 3, 4, 0] rfl) hH hz hS
theorem fk_X0_256 {ci : Nat} (h : ci ∈ [1]) : zFk "WhatIfSheet" 256 ci 8 := by
  simp only [List.mem_cons, List.not_mem_nil, or_false] at h
  rcases h with rfl
  · exact ⟨RX1, TX1, 13, rfl, by decide, q240⟩
theorem fk_X0_263 {ci : Nat} (h : ci ∈ [1]) : zFk "WhatIfSheet" 263 ci 9 := by
  simp only [List.mem_cons, List.not_mem_nil, or_false] at h
  rcases h with rfl
  · exact ⟨RX1, TX1, 13, rfl, by decide, q242⟩
def wp_X0_opens (l : Launch) (g : zG) (d : Nat) (h0 : Nat) (r1 : Option Nat) (r2 : Option Nat) (hp : zHp) (nx : Nat) (Post : zHp → Nat → Prop) : Prop :=
  (zgI hp r2 [1] 12 fun x_4 =>
  (zpt g hp r2 [1] 12 (.int (x_4 + (1 : Int32))) fun hp_8 =>
  (zgR hp_8 r1 [31] 2 fun r_12 =>
  (zgR hp_8 (some h0) [0] 0 fun r_16 =>
  (zgR hp_8 r1 [31] 2 fun r_20 =>
  (zgI hp_8 r_20 [32] 0 fun x_24 =>
  (zaR (g.2.1 7) hp_8 r_16 fun a_25 n_26 f_27 => vp_in x_24 n_26 ∧ ∀ r_28 : Option Nat, r_28 = f_27 x_24.toNatClampNeg →
  (zgR hp_8 r2 [1] 8 fun r_32 =>
  (zgR hp_8 r2 [1] 10 fun r_36 =>
  (zMt l g yX1_keeps cX1_keeps 7 (some .int) d 0 0 [va_rf r_12, va_rf r_28, va_rf r_32, va_rf r_36] hp_8 nx (zQi g fun x_39 hp_37 nx_38 =>
  (zgR hp_37 r1 [31] 3 fun r_43 =>
  (∃ P_73 : zHp → Nat → Prop, (∀ (hp_44 : zHp) (nx_45 : Nat), P_73 hp_44 nx_45 →
  (Post hp_44 nx_45)) ∧
  ((r_43 = none →
  P_73 hp_37 nx_38) ∧
  (¬ r_43 = none →
  (zgR hp_37 r1 [31] 3 fun r_49 =>
  (zgR hp_37 (some h0) [0] 0 fun r_53 =>
  (zgR hp_37 r1 [31] 3 fun r_57 =>
  (zgI hp_37 r_57 [32] 0 fun x_61 =>
  (zaR (g.2.1 7) hp_37 r_53 fun a_62 n_63 f_64 => vp_in x_61 n_63 ∧ ∀ r_65 : Option Nat, r_65 = f_64 x_61.toNatClampNeg →
  (zgR hp_37 r2 [1] 9 fun r_69 =>
  (zgR hp_37 r2 [1] 11 fun r_73 =>
  (zMt l g yX1_keeps cX1_keeps 7 (some .int) d 0 0 [va_rf r_49, va_rf r_65, va_rf r_69, va_rf r_73] hp_37 nx_38 (zQi g fun x_76 hp_74 nx_75 =>
  P_73 hp_74 nx_75))))))))))))))))))))))))
set_option maxHeartbeats 40000000 in
theorem met_X0_opens {l : Launch} {g : zG} {d : Nat} {h0 : Nat} {r1 : Option Nat} {r2 : Option Nat} {hp : zHp} {nx : Nat} {Post : zHp → Nat → Prop} (hw : wp_X0_opens l g d h0 r1 r2 hp nx Post) : zMt l g yX0_opens cX0_opens 3 none (d + 1) 0 0 [.ref h0, va_rf r1, va_rf r2] hp nx (zQv g Post) := by
  refine z_start (by decide) (by cases r1 <;> cases r2 <;> exact Nat.le_of_ble_eq_true rfl) ?_
  intro p e s m below meth c hk hr hin hH hz ls hl
  have hx := hk.1.1
  have hb := hk.1.2.1
  have hown := hk.1.2.2.2.1
  have hts := hk.1.2.2.2.2
  have hS : va_S (zAd g) s.heap s.heap [] := va_S.rf
  have hl : lv_has ls 3 [(0, va_rf (some h0)), (1, va_rf r1), (2, va_rf r2)] := by cases r1 <;> cases r2 <;> exact hl
  unfold wp_X0_opens at hw
  refine zr_aload_n (r := r2) hx hb dX0_opens_0 rfl (lv_at hl 2 rfl) ?_
  refine lv_dup hx hb dX0_opens_1 (z_cat _) ?_
  obtain ⟨a_1, ci_2, fs_3, x_4, er, he, hc, hv, hw⟩ := zgI_e hw
  refine zw_get hk hH er he hv (fk_X0_220 hc) dX0_opens_2 ?_
  refine lv_iconst (v := (1 : Int32)) hx hb dX0_opens_5 (by decide) ?_
  refine lv_iadd hx hb dX0_opens_6 ?_
  obtain ⟨a_5, ci_6, fs_7, hp_8, er, he, hc, hA, hkl, eh, hw⟩ := zpt_e hw
  refine zw_put hk hH hz hS er he hA hkl eh (fp_X0_220 hc) rfl rfl dX0_opens_7 (fun H locs hH hz hS => ?_)
  refine zr_aload_n (r := r1) hx hb dX0_opens_10 rfl (lv_at hl 1 rfl) ?_
  obtain ⟨a_9, ci_10, fs_11, r_12, er, he, hc, hv, hw⟩ := zgR_e hw
  refine zw_get hk hH er he hv (fk_X0_171 hc) dX0_opens_11 ?_
  refine zr_aload_n (r := some h0) hx hb dX0_opens_14 rfl (lv_at hl 0 rfl) ?_
  obtain ⟨a_13, ci_14, fs_15, r_16, er, he, hc, hv, hw⟩ := zgR_e hw
  refine zw_get hk hH er he hv (fk_X0_31 hc) dX0_opens_15 ?_
  refine zr_aload_n (r := r1) hx hb dX0_opens_18 rfl (lv_at hl 1 rfl) ?_
  obtain ⟨a_17, ci_18, fs_19, r_20, er, he, hc, hv, hw⟩ := zgR_e hw
  refine zw_get hk hH er he hv (fk_X0_171 hc) dX0_opens_19 ?_
  obtain ⟨a_21, ci_22, fs_23, x_24, er, he, hc, hv, hw⟩ := zgI_e hw
  refine zw_get hk hH er he hv (fk_X0_175 hc) dX0_opens_22 ?_
  obtain ⟨a_25, n_26, f_27, er, he, hi, hw⟩ := zaR_e hw
  have hw := hw _ rfl
  refine zw_aald hk hH 7 er he rfl rfl hi dX0_opens_25 ?_
  generalize f_27 x_24.toNatClampNeg = r_28 at hw ⊢
  refine zr_aload_n (r := r2) hx hb dX0_opens_26 rfl (lv_at hl 2 rfl) ?_
  obtain ⟨a_29, ci_30, fs_31, r_32, er, he, hc, hv, hw⟩ := zgR_e hw
  refine zw_get hk hH er he hv (fk_X0_256 hc) dX0_opens_27 ?_
  refine zr_aload_n (r := r2) hx hb dX0_opens_30 rfl (lv_at hl 2 rfl) ?_
  obtain ⟨a_33, ci_34, fs_35, r_36, er, he, hc, hv, hw⟩ := zgR_e hw
  refine zw_get hk hH er he hv (fk_X0_184 hc) dX0_opens_31 ?_
  refine zr_calli (zr_runS (As := [va_rf r_12, va_rf r_28, va_rf r_32, va_rf r_36]) hk hH hz hS hl.1 hw (va_cwS 4 hts (lw_S q2166 q2167 q132 q2168) rfl rfl rfl (by decide +kernel) (z_room (Nat.le_of_ble_eq_true rfl))) rfl rfl (Nat.le_of_ble_eq_true rfl) dX0_opens_34 ⟨Nat.le_of_ble_eq_true rfl, Nat.le_of_ble_eq_true rfl⟩) hS (fun x_39 hp_37 nx_38 hw H locs hH hz hS => ?_)
  refine lv_pop hx hb dX0_opens_37 rfl ?_
  refine zr_aload_n (r := r1) hx hb dX0_opens_38 rfl (lv_at hl 1 rfl) ?_
  obtain ⟨a_40, ci_41, fs_42, r_43, er, he, hc, hv, hw⟩ := zgR_e hw
  refine zw_get hk hH er he hv (fk_X0_190 hc) dX0_opens_39 ?_
  obtain ⟨P_73, hP_73, hw⟩ := hw
  have hJ_73 : ∀ (hp_44 : zHp) (nx_45 : Nat) (H : Heap) (locs : List Loc) (ls : Array Slot), P_73 hp_44 nx_45 → lv_has ls 3 [(0, va_rf (some h0)), (1, va_rf r1), (2, va_rf r2)] → zHd g hp_44 H → H.size = nx_45 → va_S (zAd g) s.heap H locs → W p l e (zrm (d + 1) 0 0) s m ([.ref h0, va_rf r1, va_rf r2] : List Value).toArray below meth c H locs 0 0 (MQ below (zQv g Post) ([.ref h0, va_rf r1, va_rf r2] : List Value).toArray s 0 0 (zAd g)) (F0 m 73 ls []) := by
    intro hp_44 nx_45 H locs ls hw hl hH hz hS
    have hw := hP_73 hp_44 nx_45 hw
    exact zr_vret hk hr hH hz hS hw (Nat.le_of_ble_eq_true rfl) (Nat.le_of_ble_eq_true rfl) dX0_opens_73
  refine zr_ifnull (r := r_43) (tgt := 73) hx hb dX0_opens_42 (by decide) (fun hc => ?_) (fun hc => ?_)
  · have hw := hw.1 hc
    exact hJ_73 hp_37 nx_38 _ _ _ hw hl hH hz hS
  · have hw := hw.2 hc
    refine zr_aload_n (r := r1) hx hb dX0_opens_45 rfl (lv_at hl 1 rfl) ?_
    obtain ⟨a_46, ci_47, fs_48, r_49, er, he, hc, hv, hw⟩ := zgR_e hw
    refine zw_get hk hH er he hv (fk_X0_190 hc) dX0_opens_46 ?_
    refine zr_aload_n (r := some h0) hx hb dX0_opens_49 rfl (lv_at hl 0 rfl) ?_
    obtain ⟨a_50, ci_51, fs_52, r_53, er, he, hc, hv, hw⟩ := zgR_e hw
    refine zw_get hk hH er he hv (fk_X0_31 hc) dX0_opens_50 ?_
    refine zr_aload_n (r := r1) hx hb dX0_opens_53 rfl (lv_at hl 1 rfl) ?_
    obtain ⟨a_54, ci_55, fs_56, r_57, er, he, hc, hv, hw⟩ := zgR_e hw
    refine zw_get hk hH er he hv (fk_X0_190 hc) dX0_opens_54 ?_
    obtain ⟨a_58, ci_59, fs_60, x_61, er, he, hc, hv, hw⟩ := zgI_e hw
    refine zw_get hk hH er he hv (fk_X0_175 hc) dX0_opens_57 ?_
    obtain ⟨a_62, n_63, f_64, er, he, hi, hw⟩ := zaR_e hw
    have hw := hw _ rfl
    refine zw_aald hk hH 7 er he rfl rfl hi dX0_opens_60 ?_
    generalize f_64 x_61.toNatClampNeg = r_65 at hw ⊢
    refine zr_aload_n (r := r2) hx hb dX0_opens_61 rfl (lv_at hl 2 rfl) ?_
    obtain ⟨a_66, ci_67, fs_68, r_69, er, he, hc, hv, hw⟩ := zgR_e hw
    refine zw_get hk hH er he hv (fk_X0_263 hc) dX0_opens_62 ?_
    refine zr_aload_n (r := r2) hx hb dX0_opens_65 rfl (lv_at hl 2 rfl) ?_
    obtain ⟨a_70, ci_71, fs_72, r_73, er, he, hc, hv, hw⟩ := zgR_e hw
    refine zw_get hk hH er he hv (fk_X0_193 hc) dX0_opens_66 ?_
    refine zr_calli (zr_runS (As := [va_rf r_49, va_rf r_65, va_rf r_69, va_rf r_73]) hk hH hz hS hl.1 hw (va_cwS 4 hts (lw_S q2166 q2167 q132 q2168) rfl rfl rfl (by decide +kernel) (z_room (Nat.le_of_ble_eq_true rfl))) rfl rfl (Nat.le_of_ble_eq_true rfl) dX0_opens_69 ⟨Nat.le_of_ble_eq_true rfl, Nat.le_of_ble_eq_true rfl⟩) hS (fun x_76 hp_74 nx_75 hw H locs hH hz hS => ?_)
    refine lv_pop hx hb dX0_opens_72 rfl ?_
    exact hJ_73 hp_74 nx_75 _ _ _ hw hl hH hz hS
theorem fk_X0_160 {ci : Nat} (h : ci ∈ [1]) : zFk "WhatIfSheet" 160 ci 2 := by
  simp only [List.mem_cons, List.not_mem_nil, or_false] at h
  rcases h with rfl
  · exact ⟨RX1, TX1, 13, rfl, by decide, q225⟩
theorem fk_X0_157 {ci : Nat} (h : ci ∈ [1]) : zFk "WhatIfSheet" 157 ci 6 := by
  simp only [List.mem_cons, List.not_mem_nil, or_false] at h
  rcases h with rfl
  · exact ⟨RX1, TX1, 13, rfl, by decide, q236⟩
theorem fk_X0_276 {ci : Nat} (h : ci ∈ [1]) : zFk "WhatIfSheet" 276 ci 7 := by
  simp only [List.mem_cons, List.not_mem_nil, or_false] at h
  rcases h with rfl
  · exact ⟨RX1, TX1, 13, rfl, by decide, q238⟩
def wp_X0_binds (l : Launch) (g : zG) (d : Nat) (h0 : Nat) (r1 : Option Nat) (r2 : Option Nat) (x3 : Int32) (x4 : Int32) (hp : zHp) (nx : Nat) (Post : zHp → Nat → Prop) : Prop :=
  (zpt g hp (some h0) [0] 8 (.int x3) fun hp_4 =>
  (zpt g hp_4 (some h0) [0] 9 (.int x4) fun hp_8 =>
  (zgR hp_8 (some h0) [0] 0 fun r_12 =>
  (zgR hp_8 r1 [31] 2 fun r_16 =>
  (zgI hp_8 r_16 [32] 0 fun x_20 =>
  (zaR (g.2.1 7) hp_8 r_12 fun a_21 n_22 f_23 => vp_in x_20 n_22 ∧ ∀ r_24 : Option Nat, r_24 = f_23 x_20.toNatClampNeg →
  (zgR hp_8 r2 [1] 8 fun r_28 =>
  (zaD (g.2.1 1) hp_8 r_28 fun a_29 n_30 f_31 => vp_in x3 n_30 ∧ ∀ x_32 : UInt64, x_32 = f_31 x3.toNatClampNeg →
  (zpt g hp_8 r_24 [2, 6, 7, 8, 9, 10] 2 (.double x_32) fun hp_36 =>
  (zgR hp_36 r1 [31] 3 fun r_40 =>
  (∃ P_61 : zHp → Nat → Prop, (∀ (hp_41 : zHp) (nx_42 : Nat), P_61 hp_41 nx_42 →
  (zpt g hp_41 (some h0) [0] 2 (.int (0 : Int32)) fun hp_46 =>
  (zpt g hp_46 (some h0) [0] 3 (.int (-1 : Int32)) fun hp_50 =>
  (zo hp_50 r1 [31] fun a_97 ci_98 fs_99 => zMt l g yX31_many cX31_many 1 (some .int) d 0 0 (.ref a_97 :: []) hp_50 nx_42 (zQi g fun x_53 hp_51 nx_52 =>
  (∀ x_54 : Int32, x_54 = (x_53 * x3) + x4 →
  (zgR hp_51 r2 [1] 2 fun r_58 =>
  (zgI hp_51 r1 [31] 1 fun x_62 =>
  (zo hp_51 (some h0) [0] fun a_94 ci_95 fs_96 => zMt l g yX0_tell cX0_tell 5 (some .double) d 0 0 (.ref a_94 :: [.int x_62]) hp_51 nx_52 (zQd g fun x_65 hp_63 nx_64 =>
  (zaD (g.2.1 1) hp_63 r_58 fun a_66 n_67 f_68 => vp_in x_54 n_67 ∧ zB g ≤ a_66 ∧ ∀ hp_69 : zHp, hp_69 = va_up hp_63 a_66 (some (.inl (g.2.1 1, n_67, .inr (.inr (.inr (.inl (va_up f_68 x_54.toNatClampNeg x_65))))))) →
  (zgR hp_69 r2 [1] 6 fun r_73 =>
  (zgI hp_69 (some h0) [0] 2 fun x_77 =>
  (zaI (g.2.1 2) hp_69 r_73 fun a_78 n_79 f_80 => vp_in x_54 n_79 ∧ zB g ≤ a_78 ∧ ∀ hp_81 : zHp, hp_81 = va_up hp_69 a_78 (some (.inl (g.2.1 2, n_79, .inl (va_up f_80 x_54.toNatClampNeg (vp_nar .byte x_77.toInt8.toInt32))))) →
  (zgR hp_81 r2 [1] 7 fun r_85 =>
  (zgI hp_81 (some h0) [0] 3 fun x_89 =>
  (zaI (g.2.1 2) hp_81 r_85 fun a_90 n_91 f_92 => vp_in x_54 n_91 ∧ zB g ≤ a_90 ∧ ∀ hp_93 : zHp, hp_93 = va_up hp_81 a_90 (some (.inl (g.2.1 2, n_91, .inl (va_up f_92 x_54.toNatClampNeg (vp_nar .byte x_89.toInt8.toInt32))))) →
  (Post hp_93 nx_64)))))))))))))))))) ∧
  ((r_40 = none →
  P_61 hp_36 nx) ∧
  (¬ r_40 = none →
  (zgR hp_36 (some h0) [0] 0 fun r_103 =>
  (zgR hp_36 r1 [31] 3 fun r_107 =>
  (zgI hp_36 r_107 [32] 0 fun x_111 =>
  (zaR (g.2.1 7) hp_36 r_103 fun a_112 n_113 f_114 => vp_in x_111 n_113 ∧ ∀ r_115 : Option Nat, r_115 = f_114 x_111.toNatClampNeg →
  (zgR hp_36 r2 [1] 9 fun r_119 =>
  (zaD (g.2.1 1) hp_36 r_119 fun a_120 n_121 f_122 => vp_in x4 n_121 ∧ ∀ x_123 : UInt64, x_123 = f_122 x4.toNatClampNeg →
  (zpt g hp_36 r_115 [2, 6, 7, 8, 9, 10] 2 (.double x_123) fun hp_127 =>
  P_61 hp_127 nx))))))))))))))))))))
set_option maxHeartbeats 40000000 in
theorem met_X0_binds {l : Launch} {g : zG} {d : Nat} {h0 : Nat} {r1 : Option Nat} {r2 : Option Nat} {x3 : Int32} {x4 : Int32} {hp : zHp} {nx : Nat} {Post : zHp → Nat → Prop} (hw : wp_X0_binds l g d h0 r1 r2 x3 x4 hp nx Post) : zMt l g yX0_binds cX0_binds 6 none (d + 1) 0 0 [.ref h0, va_rf r1, va_rf r2, .int x3, .int x4] hp nx (zQv g Post) := by
  refine z_start (by decide) (by cases r1 <;> cases r2 <;> exact Nat.le_of_ble_eq_true rfl) ?_
  intro p e s m below meth c hk hr hin hH hz ls hl
  have hx := hk.1.1
  have hb := hk.1.2.1
  have hown := hk.1.2.2.2.1
  have hts := hk.1.2.2.2.2
  have hS : va_S (zAd g) s.heap s.heap [] := va_S.rf
  have hl : lv_has ls 6 [(0, va_rf (some h0)), (1, va_rf r1), (2, va_rf r2), (3, .int x3), (4, .int x4)] := by cases r1 <;> cases r2 <;> exact hl
  unfold wp_X0_binds at hw
  refine zr_aload_n (r := some h0) hx hb dX0_binds_0 rfl (lv_at hl 0 rfl) ?_
  refine lv_iload_n hx hb dX0_binds_1 rfl (lv_at hl 3 rfl) ?_
  obtain ⟨a_1, ci_2, fs_3, hp_4, er, he, hc, hA, hkl, eh, hw⟩ := zpt_e hw
  refine zw_put hk hH hz hS er he hA hkl eh (fp_X0_187 hc) rfl rfl dX0_binds_2 (fun H locs hH hz hS => ?_)
  refine zr_aload_n (r := some h0) hx hb dX0_binds_5 rfl (lv_at hl 0 rfl) ?_
  refine lv_iload hx hb dX0_binds_6 (lv_at hl 4 rfl) ?_
  obtain ⟨a_5, ci_6, fs_7, hp_8, er, he, hc, hA, hkl, eh, hw⟩ := zpt_e hw
  refine zw_put hk hH hz hS er he hA hkl eh (fp_X0_196 hc) rfl rfl dX0_binds_8 (fun H locs hH hz hS => ?_)
  refine zr_aload_n (r := some h0) hx hb dX0_binds_11 rfl (lv_at hl 0 rfl) ?_
  obtain ⟨a_9, ci_10, fs_11, r_12, er, he, hc, hv, hw⟩ := zgR_e hw
  refine zw_get hk hH er he hv (fk_X0_31 hc) dX0_binds_12 ?_
  refine zr_aload_n (r := r1) hx hb dX0_binds_15 rfl (lv_at hl 1 rfl) ?_
  obtain ⟨a_13, ci_14, fs_15, r_16, er, he, hc, hv, hw⟩ := zgR_e hw
  refine zw_get hk hH er he hv (fk_X0_171 hc) dX0_binds_16 ?_
  obtain ⟨a_17, ci_18, fs_19, x_20, er, he, hc, hv, hw⟩ := zgI_e hw
  refine zw_get hk hH er he hv (fk_X0_175 hc) dX0_binds_19 ?_
  obtain ⟨a_21, n_22, f_23, er, he, hi, hw⟩ := zaR_e hw
  have hw := hw _ rfl
  refine zw_aald hk hH 7 er he rfl rfl hi dX0_binds_22 ?_
  generalize f_23 x_20.toNatClampNeg = r_24 at hw ⊢
  refine zr_aload_n (r := r2) hx hb dX0_binds_23 rfl (lv_at hl 2 rfl) ?_
  obtain ⟨a_25, ci_26, fs_27, r_28, er, he, hc, hv, hw⟩ := zgR_e hw
  refine zw_get hk hH er he hv (fk_X0_256 hc) dX0_binds_24 ?_
  refine lv_iload_n hx hb dX0_binds_27 rfl (lv_at hl 3 rfl) ?_
  obtain ⟨a_29, n_30, f_31, er, he, hi, hw⟩ := zaD_e hw
  have hw := hw _ rfl
  refine zw_dald hk hH er he hi dX0_binds_28 ?_
  generalize f_31 x3.toNatClampNeg = x_32 at hw ⊢
  obtain ⟨a_33, ci_34, fs_35, hp_36, er, he, hc, hA, hkl, eh, hw⟩ := zpt_e hw
  refine zw_put hk hH hz hS er he hA hkl eh (fp_X0_209 hc) rfl rfl dX0_binds_29 (fun H locs hH hz hS => ?_)
  refine zr_aload_n (r := r1) hx hb dX0_binds_32 rfl (lv_at hl 1 rfl) ?_
  obtain ⟨a_37, ci_38, fs_39, r_40, er, he, hc, hv, hw⟩ := zgR_e hw
  refine zw_get hk hH er he hv (fk_X0_190 hc) dX0_binds_33 ?_
  obtain ⟨P_61, hP_61, hw⟩ := hw
  have hJ_61 : ∀ (hp_41 : zHp) (nx_42 : Nat) (H : Heap) (locs : List Loc) (ls : Array Slot), P_61 hp_41 nx_42 → lv_has ls 6 [(0, va_rf (some h0)), (1, va_rf r1), (2, va_rf r2), (3, .int x3), (4, .int x4)] → zHd g hp_41 H → H.size = nx_42 → va_S (zAd g) s.heap H locs → W p l e (zrm (d + 1) 0 0) s m ([.ref h0, va_rf r1, va_rf r2, .int x3, .int x4] : List Value).toArray below meth c H locs 0 0 (MQ below (zQv g Post) ([.ref h0, va_rf r1, va_rf r2, .int x3, .int x4] : List Value).toArray s 0 0 (zAd g)) (F0 m 61 ls []) := by
    intro hp_41 nx_42 H locs ls hw hl hH hz hS
    have hw := hP_61 hp_41 nx_42 hw
    refine zr_aload_n (r := some h0) hx hb dX0_binds_61 rfl (lv_at hl 0 rfl) ?_
    refine lv_iconst (v := (0 : Int32)) hx hb dX0_binds_62 (by decide) ?_
    obtain ⟨a_43, ci_44, fs_45, hp_46, er, he, hc, hA, hkl, eh, hw⟩ := zpt_e hw
    refine zw_put hk hH hz hS er he hA hkl eh (fp_X0_138 hc) rfl rfl dX0_binds_63 (fun H locs hH hz hS => ?_)
    refine zr_aload_n (r := some h0) hx hb dX0_binds_66 rfl (lv_at hl 0 rfl) ?_
    refine lv_iconst (v := (-1 : Int32)) hx hb dX0_binds_67 (by decide) ?_
    obtain ⟨a_47, ci_48, fs_49, hp_50, er, he, hc, hA, hkl, eh, hw⟩ := zpt_e hw
    refine zw_put hk hH hz hS er he hA hkl eh (fp_X0_41 hc) rfl rfl dX0_binds_68 (fun H locs hH hz hS => ?_)
    refine zr_aload_n (r := r1) hx hb dX0_binds_71 rfl (lv_at hl 1 rfl) ?_
    obtain ⟨a_97, ci_98, fs_99, er, he, hc, hw⟩ := zo_e hw
    obtain rfl := List.mem_singleton.mp hc
    refine zr_calli (zw_runV (As := []) hk hH hz hS hl.1 er hw (cwV 0 hts (lw_V q2175 q1177 q1178 q195 q1179) rfl rfl rfl (by decide +kernel) (z_room (Nat.le_of_ble_eq_true rfl))) he rfl rfl rfl (Nat.le_of_ble_eq_true rfl) dX0_binds_72 ⟨Nat.le_of_ble_eq_true rfl, Nat.le_of_ble_eq_true rfl⟩) hS (fun x_53 hp_51 nx_52 hw H locs hH hz hS => ?_)
    refine lv_iload_n hx hb dX0_binds_75 rfl (lv_at hl 3 rfl) ?_
    refine lv_imul hx hb dX0_binds_76 ?_
    refine lv_iload hx hb dX0_binds_77 (lv_at hl 4 rfl) ?_
    refine lv_iadd hx hb dX0_binds_79 ?_
    refine lv_topi (fun x_54 ex_54 => ?_)
    have hw := hw x_54 ex_54
    refine lv_istore (lv' := [(5, .int x_54), (0, va_rf (some h0)), (1, va_rf r1), (2, va_rf r2), (3, .int x3), (4, .int x4)]) hx hb dX0_binds_80 hl (by decide) (by first | rfl | simp [List.filter_cons, z_cat, z_catI, z_catJ, z_catF, z_catD]) (fun ls hl => ?_)
    refine zr_aload_n (r := r2) hx hb dX0_binds_82 rfl (lv_at hl 3 rfl) ?_
    obtain ⟨a_55, ci_56, fs_57, r_58, er, he, hc, hv, hw⟩ := zgR_e hw
    refine zw_get hk hH er he hv (fk_X0_160 hc) dX0_binds_83 ?_
    refine lv_iload hx hb dX0_binds_86 (lv_at hl 0 rfl) ?_
    refine zr_aload_n (r := some h0) hx hb dX0_binds_88 rfl (lv_at hl 1 rfl) ?_
    refine zr_aload_n (r := r1) hx hb dX0_binds_89 rfl (lv_at hl 2 rfl) ?_
    obtain ⟨a_59, ci_60, fs_61, x_62, er, he, hc, hv, hw⟩ := zgI_e hw
    refine zw_get hk hH er he hv (fk_X0_269 hc) dX0_binds_90 ?_
    obtain ⟨a_94, ci_95, fs_96, er, he, hc, hw⟩ := zo_e hw
    obtain rfl := List.mem_singleton.mp hc
    refine zr_calld (zw_runV (As := [.int x_62]) hk hH hz hS hl.1 er hw (cwV 1 hts (lw_V q2131 q2133 qs41 q131 q2134) rfl rfl rfl (by decide +kernel) (z_room (Nat.le_of_ble_eq_true rfl))) he rfl rfl rfl (by simp only [List.map_cons, List.map_nil, z_cat]; exact Nat.le_of_ble_eq_true rfl) dX0_binds_93 ⟨Nat.le_of_ble_eq_true rfl, Nat.le_of_ble_eq_true rfl⟩) hS (fun x_65 hp_63 nx_64 hw H locs hH hz hS => ?_)
    obtain ⟨a_66, n_67, f_68, er, he, hi, hA, hw⟩ := zaD_e hw
    obtain ⟨hp_69, eh⟩ : ∃ y : zHp, y = va_up hp_63 a_66 (some (.inl (g.2.1 1, n_67, .inr (.inr (.inr (.inl (va_up f_68 x_54.toNatClampNeg x_65))))))) := ⟨_, rfl⟩
    have hw := hw hp_69 eh
    refine zw_dast hk hH hz hS er he hi hA eh dX0_binds_96 (fun H locs hH hz hS => ?_)
    refine zr_aload_n (r := r2) hx hb dX0_binds_97 rfl (lv_at hl 3 rfl) ?_
    obtain ⟨a_70, ci_71, fs_72, r_73, er, he, hc, hv, hw⟩ := zgR_e hw
    refine zw_get hk hH er he hv (fk_X0_157 hc) dX0_binds_98 ?_
    refine lv_iload hx hb dX0_binds_101 (lv_at hl 0 rfl) ?_
    refine zr_aload_n (r := some h0) hx hb dX0_binds_103 rfl (lv_at hl 1 rfl) ?_
    obtain ⟨a_74, ci_75, fs_76, x_77, er, he, hc, hv, hw⟩ := zgI_e hw
    refine zw_get hk hH er he hv (fk_X0_138 hc) dX0_binds_104 ?_
    refine lv_i2b hx hb dX0_binds_107 rfl ?_
    obtain ⟨a_78, n_79, f_80, er, he, hi, hA, hw⟩ := zaI_e hw
    obtain ⟨hp_81, eh⟩ : ∃ y : zHp, y = va_up hp_69 a_78 (some (.inl (g.2.1 2, n_79, .inl (va_up f_80 x_54.toNatClampNeg (vp_nar .byte x_77.toInt8.toInt32))))) := ⟨_, rfl⟩
    have hw := hw hp_81 eh
    refine zw_bast hk hH hz hS er he hi hA eh dX0_binds_108 (fun H locs hH hz hS => ?_)
    refine zr_aload_n (r := r2) hx hb dX0_binds_109 rfl (lv_at hl 3 rfl) ?_
    obtain ⟨a_82, ci_83, fs_84, r_85, er, he, hc, hv, hw⟩ := zgR_e hw
    refine zw_get hk hH er he hv (fk_X0_276 hc) dX0_binds_110 ?_
    refine lv_iload hx hb dX0_binds_113 (lv_at hl 0 rfl) ?_
    refine zr_aload_n (r := some h0) hx hb dX0_binds_115 rfl (lv_at hl 1 rfl) ?_
    obtain ⟨a_86, ci_87, fs_88, x_89, er, he, hc, hv, hw⟩ := zgI_e hw
    refine zw_get hk hH er he hv (fk_X0_41 hc) dX0_binds_116 ?_
    refine lv_i2b hx hb dX0_binds_119 rfl ?_
    obtain ⟨a_90, n_91, f_92, er, he, hi, hA, hw⟩ := zaI_e hw
    obtain ⟨hp_93, eh⟩ : ∃ y : zHp, y = va_up hp_81 a_90 (some (.inl (g.2.1 2, n_91, .inl (va_up f_92 x_54.toNatClampNeg (vp_nar .byte x_89.toInt8.toInt32))))) := ⟨_, rfl⟩
    have hw := hw hp_93 eh
    refine zw_bast hk hH hz hS er he hi hA eh dX0_binds_120 (fun H locs hH hz hS => ?_)
    exact zr_vret hk hr hH hz hS hw (Nat.le_of_ble_eq_true rfl) (Nat.le_of_ble_eq_true rfl) dX0_binds_121
  refine zr_ifnull (r := r_40) (tgt := 61) hx hb dX0_binds_36 (by decide) (fun hc => ?_) (fun hc => ?_)
  · have hw := hw.1 hc
    exact hJ_61 hp_36 nx _ _ _ hw hl hH hz hS
  · have hw := hw.2 hc
    refine zr_aload_n (r := some h0) hx hb dX0_binds_39 rfl (lv_at hl 0 rfl) ?_
    obtain ⟨a_100, ci_101, fs_102, r_103, er, he, hc, hv, hw⟩ := zgR_e hw
    refine zw_get hk hH er he hv (fk_X0_31 hc) dX0_binds_40 ?_
    refine zr_aload_n (r := r1) hx hb dX0_binds_43 rfl (lv_at hl 1 rfl) ?_
    obtain ⟨a_104, ci_105, fs_106, r_107, er, he, hc, hv, hw⟩ := zgR_e hw
    refine zw_get hk hH er he hv (fk_X0_190 hc) dX0_binds_44 ?_
    obtain ⟨a_108, ci_109, fs_110, x_111, er, he, hc, hv, hw⟩ := zgI_e hw
    refine zw_get hk hH er he hv (fk_X0_175 hc) dX0_binds_47 ?_
    obtain ⟨a_112, n_113, f_114, er, he, hi, hw⟩ := zaR_e hw
    have hw := hw _ rfl
    refine zw_aald hk hH 7 er he rfl rfl hi dX0_binds_50 ?_
    generalize f_114 x_111.toNatClampNeg = r_115 at hw ⊢
    refine zr_aload_n (r := r2) hx hb dX0_binds_51 rfl (lv_at hl 2 rfl) ?_
    obtain ⟨a_116, ci_117, fs_118, r_119, er, he, hc, hv, hw⟩ := zgR_e hw
    refine zw_get hk hH er he hv (fk_X0_263 hc) dX0_binds_52 ?_
    refine lv_iload hx hb dX0_binds_55 (lv_at hl 4 rfl) ?_
    obtain ⟨a_120, n_121, f_122, er, he, hi, hw⟩ := zaD_e hw
    have hw := hw _ rfl
    refine zw_dald hk hH er he hi dX0_binds_57 ?_
    generalize f_122 x4.toNatClampNeg = x_123 at hw ⊢
    obtain ⟨a_124, ci_125, fs_126, hp_127, er, he, hc, hA, hkl, eh, hw⟩ := zpt_e hw
    refine zw_put hk hH hz hS er he hA hkl eh (fp_X0_209 hc) rfl rfl dX0_binds_58 (fun H locs hH hz hS => ?_)
    exact hJ_61 hp_127 nx _ _ _ hw hl hH hz hS
def wp_X0_sum (l : Launch) (g : zG) (d : Nat) (h0 : Nat) (r1 : Option Nat) (hp : zHp) (nx : Nat) (Post : UInt64 → zHp → Nat → Prop) : Prop :=
  (zgR hp (some h0) [0] 5 fun r_4 =>
  (zgI hp r1 [31] 0 fun x_8 =>
  (zaR (g.2.1 9) hp r_4 fun a_9 n_10 f_11 => vp_in x_8 n_10 ∧ ∀ r_12 : Option Nat, r_12 = f_11 x_8.toNatClampNeg →
  (∀ x_13 : UInt64, x_13 = FP.dconst0 →
  (∃ I_15 : Nat → (Option Nat) → UInt64 → Int32 → zHp → Nat → Prop, (∃ n_55, I_15 n_55 r_12 x_13 (0 : Int32) hp nx) ∧ ∀ (n_19 : Nat) (r_14 : Option Nat) (x_15 : UInt64) (x_16 : Int32) (hp_17 : zHp) (nx_18 : Nat), I_15 n_19 r_14 x_15 x_16 hp_17 nx_18 →
  (zo hp_17 r1 [31] fun a_52 ci_53 fs_54 => zMt l g yX31_cases cX31_cases 1 (some .int) d 0 0 (.ref a_52 :: []) hp_17 nx_18 (zQi g fun x_22 hp_20 nx_21 =>
  ((x_22 ≤ x_16 →
  (Post x_15 hp_20 nx_21)) ∧
  (¬ x_22 ≤ x_16 →
  (zgR hp_20 r_14 [1] 6 fun r_26 =>
  (zaI (g.2.1 2) hp_20 r_26 fun a_27 n_28 f_29 => vp_in x_16 n_28 ∧ ∀ x_30 : Int32, x_30 = f_29 x_16.toNatClampNeg →
  (∃ P_48 : (Option Nat) → UInt64 → Int32 → zHp → Nat → Prop, (∀ (r_31 : Option Nat) (x_32 : UInt64) (x_33 : Int32) (hp_34 : zHp) (nx_35 : Nat), P_48 r_31 x_32 x_33 hp_34 nx_35 →
  (∀ x_36 : Int32, x_36 = x_33 + (1 : Int32) →
  (∃ k_37, k_37 < n_19 ∧ I_15 k_37 r_31 x_32 x_36 hp_34 nx_35))) ∧
  ((x_30 = 0 →
  (zgR hp_20 r_14 [1] 2 fun r_41 =>
  (zaD (g.2.1 1) hp_20 r_41 fun a_42 n_43 f_44 => vp_in x_16 n_43 ∧ ∀ x_45 : UInt64, x_45 = f_44 x_16.toNatClampNeg →
  (vf_n64 (FP.dadd x_15 x_45) ∧ (zo hp_20 (some h0) [0] fun a_49 ci_50 fs_51 => zMt l g yX0_near cX0_near 3 (some .double) d 0 0 (.ref a_49 :: [.double (FP.dadd x_15 x_45)]) hp_20 nx_21 (zQd g fun x_48 hp_46 nx_47 =>
  P_48 r_14 x_48 x_16 hp_46 nx_47)))))) ∧
  (¬ x_30 = 0 →
  P_48 r_14 x_15 x_16 hp_20 nx_21))))))))))))))
set_option maxHeartbeats 40000000 in
theorem met_X0_sum {l : Launch} {g : zG} {d : Nat} {h0 : Nat} {r1 : Option Nat} {hp : zHp} {nx : Nat} {Post : UInt64 → zHp → Nat → Prop} (hw : wp_X0_sum l g d h0 r1 hp nx Post) : zMt l g yX0_sum cX0_sum 6 (some .double) (d + 1) 0 0 [.ref h0, va_rf r1] hp nx (zQd g Post) := by
  refine z_start (by decide) (by cases r1 <;> exact Nat.le_of_ble_eq_true rfl) ?_
  intro p e s m below meth c hk hr hin hH hz ls hl
  have hx := hk.1.1
  have hb := hk.1.2.1
  have hown := hk.1.2.2.2.1
  have hts := hk.1.2.2.2.2
  have hS : va_S (zAd g) s.heap s.heap [] := va_S.rf
  have hl : lv_has ls 6 [(0, va_rf (some h0)), (1, va_rf r1)] := by cases r1 <;> exact hl
  unfold wp_X0_sum at hw
  refine zr_aload_n (r := some h0) hx hb dX0_sum_0 rfl (lv_at hl 0 rfl) ?_
  obtain ⟨a_1, ci_2, fs_3, r_4, er, he, hc, hv, hw⟩ := zgR_e hw
  refine zw_get hk hH er he hv (fk_X0_47 hc) dX0_sum_1 ?_
  refine zr_aload_n (r := r1) hx hb dX0_sum_4 rfl (lv_at hl 1 rfl) ?_
  obtain ⟨a_5, ci_6, fs_7, x_8, er, he, hc, hv, hw⟩ := zgI_e hw
  refine zw_get hk hH er he hv (fk_X0_151 hc) dX0_sum_5 ?_
  obtain ⟨a_9, n_10, f_11, er, he, hi, hw⟩ := zaR_e hw
  have hw := hw _ rfl
  refine zw_aald hk hH 9 er he rfl rfl hi dX0_sum_8 ?_
  generalize f_11 x_8.toNatClampNeg = r_12 at hw ⊢
  refine zr_astore_n (r := r_12) (i := 2) (lv' := [(2, va_rf r_12), (0, va_rf (some h0)), (1, va_rf r1)]) hx hb dX0_sum_9 rfl hl (by decide) (by first | rfl | simp [List.filter_cons, z_cat, z_catI, z_catJ, z_catF, z_catD]) (fun ls hl => ?_)
  refine lv_dconst0 hx hb dX0_sum_10 ?_
  refine lv_topd (fun x_13 ex_13 => ?_)
  have hw := hw x_13 ex_13
  refine lv_dstore_n (i := 3) (lv' := [(3, .double x_13), (2, va_rf r_12), (0, va_rf (some h0)), (1, va_rf r1)]) hx hb dX0_sum_11 rfl hl (by decide) (by first | rfl | simp [List.filter_cons, z_cat, z_catI, z_catJ, z_catF, z_catD]) (fun ls hl => ?_)
  refine lv_iconst (v := (0 : Int32)) hx hb dX0_sum_12 (by decide) ?_
  refine lv_istore (lv' := [(5, .int (0 : Int32)), (3, .double x_13), (2, va_rf r_12), (0, va_rf (some h0)), (1, va_rf r1)]) hx hb dX0_sum_13 hl (by decide) (by first | rfl | simp [List.filter_cons, z_cat, z_catI, z_catJ, z_catF, z_catD]) (fun ls hl => ?_)
  obtain ⟨I_15, ⟨n_55, hI⟩, hB_15⟩ := hw
  have hL_15 : ∀ (n_19 : Nat) (r_14 : Option Nat) (x_15 : UInt64) (x_16 : Int32) (hp_17 : zHp) (nx_18 : Nat) (H : Heap) (locs : List Loc) (ls : Array Slot), I_15 n_19 r_14 x_15 x_16 hp_17 nx_18 → lv_has ls 6 [(0, va_rf (some h0)), (1, va_rf r1), (2, va_rf r_14), (3, .double x_15), (5, .int x_16)] → zHd g hp_17 H → H.size = nx_18 → va_S (zAd g) s.heap H locs → W p l e (zrm (d + 1) 0 0) s m ([.ref h0, va_rf r1] : List Value).toArray below meth c H locs 0 0 (MQ below (zQd g Post) ([.ref h0, va_rf r1] : List Value).toArray s 0 0 (zAd g)) (F0 m 15 ls []) := by
    intro n_19
    induction n_19 using Nat.strongRecOn with
    | _ n_19 ih_15 =>
      intro r_14 x_15 x_16 hp_17 nx_18 H locs ls hw hl hH hz hS
      have hw := hB_15 n_19 r_14 x_15 x_16 hp_17 nx_18 hw
      refine lv_iload hx hb dX0_sum_15 (lv_at hl 4 rfl) ?_
      refine zr_aload_n (r := r1) hx hb dX0_sum_17 rfl (lv_at hl 1 rfl) ?_
      obtain ⟨a_52, ci_53, fs_54, er, he, hc, hw⟩ := zo_e hw
      obtain rfl := List.mem_singleton.mp hc
      refine zr_calli (zw_runV (As := []) hk hH hz hS hl.1 er hw (cwV 0 hts (lw_V q1168 q1169 q1170 q195 q1171) rfl rfl rfl (by decide +kernel) (z_room (Nat.le_of_ble_eq_true rfl))) he rfl rfl rfl (Nat.le_of_ble_eq_true rfl) dX0_sum_18 ⟨Nat.le_of_ble_eq_true rfl, Nat.le_of_ble_eq_true rfl⟩) hS (fun x_22 hp_20 nx_21 hw H locs hH hz hS => ?_)
      refine lv_icmp_ge (tgt := 54) hx hb dX0_sum_21 (by decide) (fun hc => ?_) (fun hc => ?_)
      · have hw := hw.1 hc
        refine lv_dload_n hx hb dX0_sum_54 rfl (lv_at hl 3 rfl) ?_
        exact zr_dret hk hr hH hz hS hw (Nat.le_of_ble_eq_true rfl) (Nat.le_of_ble_eq_true rfl) dX0_sum_55
      · have hw := hw.2 hc
        refine zr_aload_n (r := r_14) hx hb dX0_sum_24 rfl (lv_at hl 2 rfl) ?_
        obtain ⟨a_23, ci_24, fs_25, r_26, er, he, hc, hv, hw⟩ := zgR_e hw
        refine zw_get hk hH er he hv (fk_X0_157 hc) dX0_sum_25 ?_
        refine lv_iload hx hb dX0_sum_28 (lv_at hl 4 rfl) ?_
        obtain ⟨a_27, n_28, f_29, er, he, hi, hw⟩ := zaI_e hw
        have hw := hw _ rfl
        refine zw_bald hk hH er he hi dX0_sum_30 ?_
        generalize f_29 x_16.toNatClampNeg = x_30 at hw ⊢
        obtain ⟨P_48, hP_48, hw⟩ := hw
        have hJ_48 : ∀ (r_31 : Option Nat) (x_32 : UInt64) (x_33 : Int32) (hp_34 : zHp) (nx_35 : Nat) (H : Heap) (locs : List Loc) (ls : Array Slot), P_48 r_31 x_32 x_33 hp_34 nx_35 → lv_has ls 6 [(0, va_rf (some h0)), (1, va_rf r1), (2, va_rf r_31), (3, .double x_32), (5, .int x_33)] → zHd g hp_34 H → H.size = nx_35 → va_S (zAd g) s.heap H locs → W p l e (zrm (d + 1) 0 0) s m ([.ref h0, va_rf r1] : List Value).toArray below meth c H locs 0 0 (MQ below (zQd g Post) ([.ref h0, va_rf r1] : List Value).toArray s 0 0 (zAd g)) (F0 m 48 ls []) := by
          intro r_31 x_32 x_33 hp_34 nx_35 H locs ls hw hl hH hz hS
          have hw := hP_48 r_31 x_32 x_33 hp_34 nx_35 hw
          obtain ⟨x_36, ex_36⟩ : ∃ y : Int32, y = x_33 + (1 : Int32) := ⟨_, rfl⟩
          have hw := hw x_36 ex_36
          refine lv_iinc (v := x_36) (lv' := [(5, .int x_36), (0, va_rf (some h0)), (1, va_rf r1), (2, va_rf r_31), (3, .double x_32)]) hx hb dX0_sum_48 hl (k := 4) rfl (by rw [ex_36]; rfl) (by decide) (by first | rfl | simp [List.filter_cons, z_cat, z_catI, z_catJ, z_catF, z_catD]) (fun ls hl => ?_)
          refine lv_goto (tgt := 15) hx hb dX0_sum_51 (by decide) ?_
          obtain ⟨k_37, hlt, hw⟩ := hw
          exact ih_15 k_37 hlt r_31 x_32 x_36 hp_34 nx_35 _ _ _ hw (lv_sub hl [1, 2, 3, 4, 0] rfl) hH hz hS
        refine lv_if_ne (tgt := 48) hx hb dX0_sum_31 (by decide) (fun hc => ?_) (fun hc => ?_)
        · have hw := hw.2 hc
          exact hJ_48 r_14 x_15 x_16 hp_20 nx_21 _ _ _ hw hl hH hz hS
        · have hw := hw.1 hc
          refine zr_aload_n (r := some h0) hx hb dX0_sum_34 rfl (lv_at hl 0 rfl) ?_
          refine lv_dload_n hx hb dX0_sum_35 rfl (lv_at hl 3 rfl) ?_
          refine zr_aload_n (r := r_14) hx hb dX0_sum_36 rfl (lv_at hl 2 rfl) ?_
          obtain ⟨a_38, ci_39, fs_40, r_41, er, he, hc, hv, hw⟩ := zgR_e hw
          refine zw_get hk hH er he hv (fk_X0_160 hc) dX0_sum_37 ?_
          refine lv_iload hx hb dX0_sum_40 (lv_at hl 4 rfl) ?_
          obtain ⟨a_42, n_43, f_44, er, he, hi, hw⟩ := zaD_e hw
          have hw := hw _ rfl
          refine zw_dald hk hH er he hi dX0_sum_42 ?_
          generalize f_44 x_16.toNatClampNeg = x_45 at hw ⊢
          obtain ⟨hne, hw⟩ := hw
          refine lv_dadd hx hb dX0_sum_43 hne ?_
          obtain ⟨a_49, ci_50, fs_51, er, he, hc, hw⟩ := zo_e hw
          obtain rfl := List.mem_singleton.mp hc
          refine zr_calld (zw_runV (As := [.double (FP.dadd x_15 x_45)]) hk hH hz hS hl.1 er hw (cwV 1 hts (lw_V q2223 q2225 qs50 q131 q2226) rfl rfl rfl (by decide +kernel) (z_room (Nat.le_of_ble_eq_true rfl))) he rfl rfl rfl (Nat.le_of_ble_eq_true rfl) dX0_sum_44 ⟨Nat.le_of_ble_eq_true rfl, Nat.le_of_ble_eq_true rfl⟩) hS (fun x_48 hp_46 nx_47 hw H locs hH hz hS => ?_)
          refine lv_dstore_n (i := 3) (lv' := [(3, .double x_48), (0, va_rf (some h0)), (1, va_rf r1), (2, va_rf r_14), (5, .int x_16)]) hx hb dX0_sum_47 rfl hl (by decide) (by first | rfl | simp [List.filter_cons, z_cat, z_catI, z_catJ, z_catF, z_catD]) (fun ls hl => ?_)
          exact hJ_48 r_14 x_48 x_16 hp_46 nx_47 _ _ _ hw (lv_sub hl [1, 2, 3, 0, 4] rfl) hH hz hS
  exact hL_15 n_55 r_12 x_13 (0 : Int32) hp nx _ _ _ hI (lv_sub hl [3, 4, 2, 1, 0] rfl) hH hz hS
def wp_X0_near (l : Launch) (g : zG) (d : Nat) (h0 : Nat) (x1 : UInt64) (hp : zHp) (nx : Nat) (Post : UInt64 → zHp → Nat → Prop) : Prop :=
  (∃ P_18 : zHp → Nat → Prop, (∀ (hp_1 : zHp) (nx_2 : Nat), P_18 hp_1 nx_2 →
  (zo hp_1 (some h0) [0] fun a_5 ci_6 fs_7 => zMt l g yX0_faults cX0_faults 2 none d 0 0 (.ref a_5 :: [.int (3 : Int32)]) hp_1 nx_2 (zQv g fun hp_3 nx_4 =>
  (Post FP.dconst0 hp_3 nx_4)))) ∧
  ((0 < (Op.cmpValue (FP.dcmp x1 (4786511204640096256 : UInt64)) .g) →
  P_18 hp nx) ∧
  (¬ 0 < (Op.cmpValue (FP.dcmp x1 (4786511204640096256 : UInt64)) .g) →
  (((Op.cmpValue (FP.dcmp x1 (14009883241494872064 : UInt64)) .l) < 0 →
  P_18 hp nx) ∧
  (¬ (Op.cmpValue (FP.dcmp x1 (14009883241494872064 : UInt64)) .l) < 0 →
  (Post x1 hp nx))))))
set_option maxHeartbeats 40000000 in
theorem met_X0_near {l : Launch} {g : zG} {d : Nat} {h0 : Nat} {x1 : UInt64} {hp : zHp} {nx : Nat} {Post : UInt64 → zHp → Nat → Prop} (hw : wp_X0_near l g d h0 x1 hp nx Post) : zMt l g yX0_near cX0_near 3 (some .double) (d + 1) 0 0 [.ref h0, .double x1] hp nx (zQd g Post) := by
  refine z_start (by decide) (Nat.le_of_ble_eq_true rfl) ?_
  intro p e s m below meth c hk hr hin hH hz ls hl
  have hx := hk.1.1
  have hb := hk.1.2.1
  have hown := hk.1.2.2.2.1
  have hts := hk.1.2.2.2.2
  have hS : va_S (zAd g) s.heap s.heap [] := va_S.rf
  have hl : lv_has ls 3 [(0, va_rf (some h0)), (1, .double x1)] := hl
  unfold wp_X0_near at hw
  refine lv_dload_n hx hb dX0_near_0 rfl (lv_at hl 1 rfl) ?_
  refine lv_ldc2d hx hb hown (hts _ q2227) dX0_near_1 ?_
  refine lv_dcmp hx hb dX0_near_4 ?_
  obtain ⟨P_18, hP_18, hw⟩ := hw
  have hJ_18 : ∀ (hp_1 : zHp) (nx_2 : Nat) (H : Heap) (locs : List Loc) (ls : Array Slot), P_18 hp_1 nx_2 → lv_has ls 3 [(0, va_rf (some h0)), (1, .double x1)] → zHd g hp_1 H → H.size = nx_2 → va_S (zAd g) s.heap H locs → W p l e (zrm (d + 1) 0 0) s m ([.ref h0, .double x1] : List Value).toArray below meth c H locs 0 0 (MQ below (zQd g Post) ([.ref h0, .double x1] : List Value).toArray s 0 0 (zAd g)) (F0 m 18 ls []) := by
    intro hp_1 nx_2 H locs ls hw hl hH hz hS
    have hw := hP_18 hp_1 nx_2 hw
    refine zr_aload_n (r := some h0) hx hb dX0_near_18 rfl (lv_at hl 0 rfl) ?_
    refine lv_iconst (v := (3 : Int32)) hx hb dX0_near_19 (by decide) ?_
    obtain ⟨a_5, ci_6, fs_7, er, he, hc, hw⟩ := zo_e hw
    obtain rfl := List.mem_singleton.mp hc
    refine zr_callv (zw_runV (As := [.int (3 : Int32)]) hk hH hz hS hl.1 er hw (cwV 1 hts (lw_V q2229 q2152 qs44 q131 q2153) rfl rfl rfl (by decide +kernel) (z_room (Nat.le_of_ble_eq_true rfl))) he rfl rfl rfl (Nat.le_of_ble_eq_true rfl) dX0_near_20 ⟨Nat.le_of_ble_eq_true rfl, Nat.le_of_ble_eq_true rfl⟩) hS (fun hp_3 nx_4 hw H locs hH hz hS => ?_)
    refine lv_dconst0 hx hb dX0_near_23 ?_
    exact zr_dret hk hr hH hz hS hw (Nat.le_of_ble_eq_true rfl) (Nat.le_of_ble_eq_true rfl) dX0_near_24
  refine lv_if_gt (tgt := 18) hx hb dX0_near_5 (by decide) (fun hc => ?_) (fun hc => ?_)
  · have hw := hw.1 hc
    exact hJ_18 hp nx _ _ _ hw hl hH hz hS
  · have hw := hw.2 hc
    refine lv_dload_n hx hb dX0_near_8 rfl (lv_at hl 1 rfl) ?_
    refine lv_ldc2d hx hb hown (hts _ q2228) dX0_near_9 ?_
    refine lv_dcmp hx hb dX0_near_12 ?_
    refine lv_if_lt (tgt := 18) hx hb dX0_near_13 (by decide) (fun hc => ?_) (fun hc => ?_)
    · have hw := hw.1 hc
      exact hJ_18 hp nx _ _ _ hw hl hH hz hS
    · have hw := hw.2 hc
      refine lv_dload_n hx hb dX0_near_16 rfl (lv_at hl 1 rfl) ?_
      exact zr_dret hk hr hH hz hS hw (Nat.le_of_ble_eq_true rfl) (Nat.le_of_ble_eq_true rfl) dX0_near_17
def wp_X0_value (l : Launch) (g : zG) (d : Nat) (h0 : Nat) (x1 : Int32) (hp : zHp) (nx : Nat) (Post : Int64 → zHp → Nat → Prop) : Prop :=
  (zMt l g yX0_isCell cX0_isCell 1 (some .boolean) d 0 0 [.int x1] hp nx (zQi g fun x_3 hp_1 nx_2 =>
  (∃ P_22 : Int64 → zHp → Nat → Prop, (∀ (x_4 : Int64) (hp_5 : zHp) (nx_6 : Nat), P_22 x_4 hp_5 nx_6 →
  (Post x_4 hp_5 nx_6)) ∧
  ((x_3 = 0 →
  P_22 (-2 : Int64) hp_1 nx_2) ∧
  (¬ x_3 = 0 →
  (zo hp_1 (some h0) [0] fun a_16 ci_17 fs_18 => zMt l g yX0_asked cX0_asked 2 (some .double) d 0 0 (.ref a_16 :: [.int x1]) hp_1 nx_2 (zQd g fun x_9 hp_7 nx_8 =>
  (zo hp_7 (some h0) [0] fun a_13 ci_14 fs_15 => zMt l g yX0_answer cX0_answer 3 (some .long) d 0 0 (.ref a_13 :: [.double x_9]) hp_7 nx_8 (zQl g fun x_12 hp_10 nx_11 =>
  P_22 x_12 hp_10 nx_11)))))))))
set_option maxHeartbeats 40000000 in
theorem met_X0_value {l : Launch} {g : zG} {d : Nat} {h0 : Nat} {x1 : Int32} {hp : zHp} {nx : Nat} {Post : Int64 → zHp → Nat → Prop} (hw : wp_X0_value l g d h0 x1 hp nx Post) : zMt l g yX0_value cX0_value 2 (some .long) (d + 1) 0 0 [.ref h0, .int x1] hp nx (zQl g Post) := by
  refine z_start (by decide) (Nat.le_of_ble_eq_true rfl) ?_
  intro p e s m below meth c hk hr hin hH hz ls hl
  have hx := hk.1.1
  have hb := hk.1.2.1
  have hown := hk.1.2.2.2.1
  have hts := hk.1.2.2.2.2
  have hS : va_S (zAd g) s.heap s.heap [] := va_S.rf
  have hl : lv_has ls 2 [(0, va_rf (some h0)), (1, .int x1)] := hl
  unfold wp_X0_value at hw
  refine lv_iload_n hx hb dX0_value_0 rfl (lv_at hl 1 rfl) ?_
  refine zr_calli (zr_runS (As := [.int x1]) hk hH hz hS hl.1 hw (va_cwS 1 hts (lw_S q1317 q1318 q131 q1319) rfl rfl rfl (by decide +kernel) (z_room (Nat.le_of_ble_eq_true rfl))) rfl rfl (Nat.le_of_ble_eq_true rfl) dX0_value_1 ⟨Nat.le_of_ble_eq_true rfl, Nat.le_of_ble_eq_true rfl⟩) hS (fun x_3 hp_1 nx_2 hw H locs hH hz hS => ?_)
  obtain ⟨P_22, hP_22, hw⟩ := hw
  have hJ_22 : ∀ (x_4 : Int64) (hp_5 : zHp) (nx_6 : Nat) (H : Heap) (locs : List Loc) (ls : Array Slot), P_22 x_4 hp_5 nx_6 → lv_has ls 2 [(0, va_rf (some h0)), (1, .int x1)] → zHd g hp_5 H → H.size = nx_6 → va_S (zAd g) s.heap H locs → W p l e (zrm (d + 1) 0 0) s m ([.ref h0, .int x1] : List Value).toArray below meth c H locs 0 0 (MQ below (zQl g Post) ([.ref h0, .int x1] : List Value).toArray s 0 0 (zAd g)) (F0 m 22 ls [.long x_4]) := by
    intro x_4 hp_5 nx_6 H locs ls hw hl hH hz hS
    have hw := hP_22 x_4 hp_5 nx_6 hw
    exact zr_lret hk hr hH hz hS hw (Nat.le_of_ble_eq_true rfl) (Nat.le_of_ble_eq_true rfl) dX0_value_22
  refine lv_if_eq (tgt := 19) hx hb dX0_value_4 (by decide) (fun hc => ?_) (fun hc => ?_)
  · have hw := hw.1 hc
    refine lv_ldc2 hx hb hown (hts _ q2310) dX0_value_19 ?_
    exact hJ_22 (-2 : Int64) hp_1 nx_2 _ _ _ hw hl hH hz hS
  · have hw := hw.2 hc
    refine zr_aload_n (r := some h0) hx hb dX0_value_7 rfl (lv_at hl 0 rfl) ?_
    refine zr_aload_n (r := some h0) hx hb dX0_value_8 rfl (lv_at hl 0 rfl) ?_
    refine lv_iload_n hx hb dX0_value_9 rfl (lv_at hl 1 rfl) ?_
    obtain ⟨a_16, ci_17, fs_18, er, he, hc, hw⟩ := zo_e hw
    obtain rfl := List.mem_singleton.mp hc
    refine zr_calld (zw_runV (As := [.int x1]) hk hH hz hS hl.1 er hw (cwV 1 hts (lw_V q2127 q2129 qs40 q131 q2130) rfl rfl rfl (by decide +kernel) (z_room (Nat.le_of_ble_eq_true rfl))) he rfl rfl rfl (by simp only [List.map_cons, List.map_nil, z_cat]; exact Nat.le_of_ble_eq_true rfl) dX0_value_10 ⟨Nat.le_of_ble_eq_true rfl, Nat.le_of_ble_eq_true rfl⟩) hS (fun x_9 hp_7 nx_8 hw H locs hH hz hS => ?_)
    obtain ⟨a_13, ci_14, fs_15, er, he, hc, hw⟩ := zo_e hw
    obtain rfl := List.mem_singleton.mp hc
    refine zr_calll (zw_runV (As := [.double x_9]) hk hH hz hS hl.1 er hw (cwV 1 hts (lw_V q2295 q2297 qs51 q131 q2298) rfl rfl rfl (by decide +kernel) (z_room (Nat.le_of_ble_eq_true rfl))) he rfl rfl rfl (Nat.le_of_ble_eq_true rfl) dX0_value_13 ⟨Nat.le_of_ble_eq_true rfl, Nat.le_of_ble_eq_true rfl⟩) hS (fun x_12 hp_10 nx_11 hw H locs hH hz hS => ?_)
    refine lv_goto (tgt := 22) hx hb dX0_value_16 (by decide) ?_
    exact hJ_22 x_12 hp_10 nx_11 _ _ _ hw hl hH hz hS
def wp_X0_answer (l : Launch) (g : zG) (d : Nat) (h0 : Nat) (x1 : UInt64) (hp : zHp) (nx : Nat) (Post : Int64 → zHp → Nat → Prop) : Prop :=
  (zgI hp (some h0) [0] 2 fun x_4 =>
  (∃ P_23 : Int64 → zHp → Nat → Prop, (∀ (x_5 : Int64) (hp_6 : zHp) (nx_7 : Nat), P_23 x_5 hp_6 nx_7 →
  (Post x_5 hp_6 nx_7)) ∧
  ((x_4 = 0 →
  (zMt l g yJ23_doubleToLongBits cJ23_doubleToLongBits 2 (some .long) d 0 0 [.double x1] hp nx (zQl g fun x_10 hp_8 nx_9 =>
  P_23 x_10 hp_8 nx_9))) ∧
  (¬ x_4 = 0 →
  (zgI hp (some h0) [0] 2 fun x_14 =>
  P_23 ((-20 : Int64) - x_14.toInt64) hp nx)))))
set_option maxHeartbeats 40000000 in
theorem met_X0_answer {l : Launch} {g : zG} {d : Nat} {h0 : Nat} {x1 : UInt64} {hp : zHp} {nx : Nat} {Post : Int64 → zHp → Nat → Prop} (hw : wp_X0_answer l g d h0 x1 hp nx Post) : zMt l g yX0_answer cX0_answer 3 (some .long) (d + 1) 0 0 [.ref h0, .double x1] hp nx (zQl g Post) := by
  refine z_start (by decide) (Nat.le_of_ble_eq_true rfl) ?_
  intro p e s m below meth c hk hr hin hH hz ls hl
  have hx := hk.1.1
  have hb := hk.1.2.1
  have hown := hk.1.2.2.2.1
  have hts := hk.1.2.2.2.2
  have hS : va_S (zAd g) s.heap s.heap [] := va_S.rf
  have hl : lv_has ls 3 [(0, va_rf (some h0)), (1, .double x1)] := hl
  unfold wp_X0_answer at hw
  refine zr_aload_n (r := some h0) hx hb dX0_answer_0 rfl (lv_at hl 0 rfl) ?_
  obtain ⟨a_1, ci_2, fs_3, x_4, er, he, hc, hv, hw⟩ := zgI_e hw
  refine zw_get hk hH er he hv (fk_X0_138 hc) dX0_answer_1 ?_
  obtain ⟨P_23, hP_23, hw⟩ := hw
  have hJ_23 : ∀ (x_5 : Int64) (hp_6 : zHp) (nx_7 : Nat) (H : Heap) (locs : List Loc) (ls : Array Slot), P_23 x_5 hp_6 nx_7 → lv_has ls 3 [(0, va_rf (some h0)), (1, .double x1)] → zHd g hp_6 H → H.size = nx_7 → va_S (zAd g) s.heap H locs → W p l e (zrm (d + 1) 0 0) s m ([.ref h0, .double x1] : List Value).toArray below meth c H locs 0 0 (MQ below (zQl g Post) ([.ref h0, .double x1] : List Value).toArray s 0 0 (zAd g)) (F0 m 23 ls [.long x_5]) := by
    intro x_5 hp_6 nx_7 H locs ls hw hl hH hz hS
    have hw := hP_23 x_5 hp_6 nx_7 hw
    exact zr_lret hk hr hH hz hS hw (Nat.le_of_ble_eq_true rfl) (Nat.le_of_ble_eq_true rfl) dX0_answer_23
  refine lv_if_eq (tgt := 19) hx hb dX0_answer_4 (by decide) (fun hc => ?_) (fun hc => ?_)
  · have hw := hw.1 hc
    refine lv_dload_n hx hb dX0_answer_19 rfl (lv_at hl 1 rfl) ?_
    refine zr_calll (zr_runS (As := [.double x1]) hk hH hz hS hl.1 hw (va_cwS 1 hts (lw_S q2300 q2301 q168 q2302) rfl rfl rfl (by decide +kernel) (z_room (Nat.le_of_ble_eq_true rfl))) rfl rfl (Nat.le_of_ble_eq_true rfl) dX0_answer_20 ⟨Nat.le_of_ble_eq_true rfl, Nat.le_of_ble_eq_true rfl⟩) hS (fun x_10 hp_8 nx_9 hw H locs hH hz hS => ?_)
    exact hJ_23 x_10 hp_8 nx_9 _ _ _ hw hl hH hz hS
  · have hw := hw.2 hc
    refine lv_ldc2 hx hb hown (hts _ q2299) dX0_answer_7 ?_
    refine zr_aload_n (r := some h0) hx hb dX0_answer_10 rfl (lv_at hl 0 rfl) ?_
    obtain ⟨a_11, ci_12, fs_13, x_14, er, he, hc, hv, hw⟩ := zgI_e hw
    refine zw_get hk hH er he hv (fk_X0_138 hc) dX0_answer_11 ?_
    refine lv_i2l hx hb dX0_answer_14 rfl ?_
    refine lv_lsub hx hb dX0_answer_15 ?_
    refine lv_goto (tgt := 23) hx hb dX0_answer_16 (by decide) ?_
    exact hJ_23 ((-20 : Int64) - x_14.toInt64) hp nx _ _ _ hw hl hH hz hS
def wp_X0_would (l : Launch) (g : zG) (d : Nat) (h0 : Nat) (x1 : Int32) (x2 : Int32) (x3 : Int32) (hp : zHp) (nx : Nat) (Post : Int64 → zHp → Nat → Prop) : Prop :=
  (zMt l g yX0_isCell cX0_isCell 1 (some .boolean) d 0 0 [.int x1] hp nx (zQi g fun x_3 hp_1 nx_2 =>
  (∃ P_28 : zHp → Nat → Prop, (∀ (hp_4 : zHp) (nx_5 : Nat), P_28 hp_4 nx_5 →
  (Post (-2 : Int64) hp_4 nx_5)) ∧
  ((x_3 = 0 →
  P_28 hp_1 nx_2) ∧
  (¬ x_3 = 0 →
  (zMt l g yX0_isCell cX0_isCell 1 (some .boolean) d 0 0 [.int x3] hp_1 nx_2 (zQi g fun x_8 hp_6 nx_7 =>
  ((x_8 = 0 →
  P_28 hp_6 nx_7) ∧
  (¬ x_8 = 0 →
  (zMt l g yX0_in cX0_in 6 (some .boolean) d 0 0 [.long x2.toInt64, .long (-8000000 : Int64), .long (8000000 : Int64)] hp_6 nx_7 (zQi g fun x_11 hp_9 nx_10 =>
  ((x_11 = 0 →
  P_28 hp_9 nx_10) ∧
  (¬ x_11 = 0 →
  (zgR hp_9 (some h0) [0] 0 fun r_15 =>
  (zaR (g.2.1 7) hp_9 r_15 fun a_16 n_17 f_18 => vp_in x1 n_17 ∧ ∀ r_19 : Option Nat, r_19 = f_18 x1.toNatClampNeg →
  (zo hp_9 r_19 [2, 6, 7, 8, 9, 10] fun a_54 ci_55 fs_56 => ∃ PP_57 : Int32 → zHp → Nat → Prop, (∀ (x_22 : Int32) (hp_20 : zHp) (nx_21 : Nat), PP_57 x_22 hp_20 nx_21 →
  ((x_22 = 0 →
  (Post (-3 : Int64) hp_20 nx_21)) ∧
  (¬ x_22 = 0 →
  (zgD hp_20 r_19 [2, 6, 7, 8, 9, 10] 2 fun x_26 =>
  (vf_n64 (FP.ddiv (FP.i2d x2) (4620693217682128896 : UInt64)) ∧ (zo hp_20 r_19 [2, 6, 7, 8, 9, 10] fun a_50 ci_51 fs_52 => ∃ PP_53 : UInt64 → zHp → Nat → Prop, (∀ (x_29 : UInt64) (hp_27 : zHp) (nx_28 : Nat), PP_53 x_29 hp_27 nx_28 →
  (zpt g hp_27 r_19 [2, 6, 7, 8, 9, 10] 2 (.double x_29) fun hp_33 =>
  (zo hp_33 (some h0) [0] fun a_47 ci_48 fs_49 => zMt l g yX0_asked cX0_asked 2 (some .double) d 0 0 (.ref a_47 :: [.int x3]) hp_33 nx_28 (zQd g fun x_36 hp_34 nx_35 =>
  (zo hp_34 (some h0) [0] fun a_44 ci_45 fs_46 => zMt l g yX0_answer cX0_answer 3 (some .long) d 0 0 (.ref a_44 :: [.double x_36]) hp_34 nx_35 (zQl g fun x_39 hp_37 nx_38 =>
  (zpt g hp_37 r_19 [2, 6, 7, 8, 9, 10] 2 (.double x_26) fun hp_43 =>
  (Post x_39 hp_43 nx_38)))))))) ∧ zMt l g yX2_kept cX2_kept 5 (some .double) d 0 0 (.ref a_50 :: [.double (FP.ddiv (FP.i2d x2) (4620693217682128896 : UInt64))]) hp_20 nx_21 (zQd g PP_53))))))) ∧ zMt l g yX2_isInput cX2_isInput 1 (some .boolean) d 0 0 (.ref a_54 :: []) hp_9 nx_10 (zQi g PP_57)))))))))))))))))
set_option maxHeartbeats 40000000 in
theorem met_X0_would {l : Launch} {g : zG} {d : Nat} {h0 : Nat} {x1 : Int32} {x2 : Int32} {x3 : Int32} {hp : zHp} {nx : Nat} {Post : Int64 → zHp → Nat → Prop} (hw : wp_X0_would l g d h0 x1 x2 x3 hp nx Post) : zMtW l g yX0_would cX0_would 10 (some .long) [(59, 86, 96, 0), (96, 98, 96, 0)] (d + 1) 0 0 [.ref h0, .int x1, .int x2, .int x3] hp nx (zQl g Post) := by
  refine z_startW (by decide) (Nat.le_of_ble_eq_true rfl) ?_
  intro p e s m below meth c hk hr hin hH hz ls hl
  have hx := hk.1.1
  have hb := hk.1.2.1
  have hown := hk.1.2.2.2.1
  have hts := hk.1.2.2.2.2
  have hS : va_S (zAd g) s.heap s.heap [] := va_S.rf
  have hl : lv_has ls 10 [(0, va_rf (some h0)), (1, .int x1), (2, .int x2), (3, .int x3)] := hl
  unfold wp_X0_would at hw
  refine lv_iload_n hx hb dX0_would_0 rfl (lv_at hl 1 rfl) ?_
  refine zr_calli (zr_runS (As := [.int x1]) hk hH hz hS hl.1 hw (va_cwS 1 hts (lw_S q1317 q1318 q131 q1319) rfl rfl rfl (by decide +kernel) (z_room (Nat.le_of_ble_eq_true rfl))) rfl rfl (Nat.le_of_ble_eq_true rfl) dX0_would_1 ⟨Nat.le_of_ble_eq_true rfl, Nat.le_of_ble_eq_true rfl⟩) hS (fun x_3 hp_1 nx_2 hw H locs hH hz hS => ?_)
  obtain ⟨P_28, hP_28, hw⟩ := hw
  have hJ_28 : ∀ (hp_4 : zHp) (nx_5 : Nat) (H : Heap) (locs : List Loc) (ls : Array Slot), P_28 hp_4 nx_5 → lv_has ls 10 [(0, va_rf (some h0)), (1, .int x1), (2, .int x2), (3, .int x3)] → zHd g hp_4 H → H.size = nx_5 → va_S (zAd g) s.heap H locs → W p l e (zrm (d + 1) 0 0) s m ([.ref h0, .int x1, .int x2, .int x3] : List Value).toArray below meth c H locs 0 0 (MQ below (zQl g Post) ([.ref h0, .int x1, .int x2, .int x3] : List Value).toArray s 0 0 (zAd g)) (F0 m 28 ls []) := by
    intro hp_4 nx_5 H locs ls hw hl hH hz hS
    have hw := hP_28 hp_4 nx_5 hw
    refine lv_ldc2 hx hb hown (hts _ q2310) dX0_would_28 ?_
    exact zr_lret hk hr hH hz hS hw (Nat.le_of_ble_eq_true rfl) (Nat.le_of_ble_eq_true rfl) dX0_would_31
  refine lv_if_eq (tgt := 28) hx hb dX0_would_4 (by decide) (fun hc => ?_) (fun hc => ?_)
  · have hw := hw.1 hc
    exact hJ_28 hp_1 nx_2 _ _ _ hw hl hH hz hS
  · have hw := hw.2 hc
    refine lv_iload_n hx hb dX0_would_7 rfl (lv_at hl 3 rfl) ?_
    refine zr_calli (zr_runS (As := [.int x3]) hk hH hz hS hl.1 hw (va_cwS 1 hts (lw_S q1317 q1318 q131 q1319) rfl rfl rfl (by decide +kernel) (z_room (Nat.le_of_ble_eq_true rfl))) rfl rfl (Nat.le_of_ble_eq_true rfl) dX0_would_8 ⟨Nat.le_of_ble_eq_true rfl, Nat.le_of_ble_eq_true rfl⟩) hS (fun x_8 hp_6 nx_7 hw H locs hH hz hS => ?_)
    refine lv_if_eq (tgt := 28) hx hb dX0_would_11 (by decide) (fun hc => ?_) (fun hc => ?_)
    · have hw := hw.1 hc
      exact hJ_28 hp_6 nx_7 _ _ _ hw hl hH hz hS
    · have hw := hw.2 hc
      refine lv_iload_n hx hb dX0_would_14 rfl (lv_at hl 2 rfl) ?_
      refine lv_i2l hx hb dX0_would_15 rfl ?_
      refine lv_ldc2 hx hb hown (hts _ q1967) dX0_would_16 ?_
      refine lv_ldc2 hx hb hown (hts _ q1968) dX0_would_19 ?_
      refine zr_calli (zr_runS (As := [.long x2.toInt64, .long (-8000000 : Int64), .long (8000000 : Int64)]) hk hH hz hS hl.1 hw (va_cwS 3 hts (lw_S q1308 q1309 q131 q1310) rfl rfl rfl (by decide +kernel) (z_room (Nat.le_of_ble_eq_true rfl))) rfl rfl (Nat.le_of_ble_eq_true rfl) dX0_would_22 ⟨Nat.le_of_ble_eq_true rfl, Nat.le_of_ble_eq_true rfl⟩) hS (fun x_11 hp_9 nx_10 hw H locs hH hz hS => ?_)
      refine lv_if_ne (tgt := 32) hx hb dX0_would_25 (by decide) (fun hc => ?_) (fun hc => ?_)
      · have hw := hw.2 hc
        refine zr_aload_n (r := some h0) hx hb dX0_would_32 rfl (lv_at hl 0 rfl) ?_
        obtain ⟨a_12, ci_13, fs_14, r_15, er, he, hc, hv, hw⟩ := zgR_e hw
        refine zw_get hk hH er he hv (fk_X0_31 hc) dX0_would_33 ?_
        refine lv_iload_n hx hb dX0_would_36 rfl (lv_at hl 1 rfl) ?_
        obtain ⟨a_16, n_17, f_18, er, he, hi, hw⟩ := zaR_e hw
        have hw := hw _ rfl
        refine zw_aald hk hH 7 er he rfl rfl hi dX0_would_37 ?_
        generalize f_18 x1.toNatClampNeg = r_19 at hw ⊢
        refine zr_astore (r := r_19) (lv' := [(4, va_rf r_19), (0, va_rf (some h0)), (1, .int x1), (2, .int x2), (3, .int x3)]) hx hb dX0_would_38 hl (by decide) (by first | rfl | simp [List.filter_cons, z_cat, z_catI, z_catJ, z_catF, z_catD]) (fun ls hl => ?_)
        refine zr_aload (r := r_19) hx hb dX0_would_40 (lv_at hl 0 rfl) ?_
        obtain ⟨a_54, ci_55, fs_56, er, he, hc, PP_57, hPP, hw⟩ := zo_e hw
        have hC : ∀ (x_22 : Int32) (hp_20 : zHp) (nx_21 : Nat), PP_57 x_22 hp_20 nx_21 → ∀ (H : Heap) (locs : List Loc), zHd g hp_20 H → H.size = nx_21 → va_S (zAd g) s.heap H locs → W p l e (zrm (d + 1) 0 0) s m ([.ref h0, .int x1, .int x2, .int x3] : List Value).toArray below meth c H locs (0 + 0) (0 + 0) (MQ below (zQl g Post) ([.ref h0, .int x1, .int x2, .int x3] : List Value).toArray s 0 0 (zAd g)) (F0 m 45 ls [.int x_22]) := by
          intro x_22 hp_20 nx_21 hw H locs hH hz hS
          have hw := hPP x_22 hp_20 nx_21 hw
          refine lv_if_ne (tgt := 52) hx hb dX0_would_45 (by decide) (fun hc => ?_) (fun hc => ?_)
          · have hw := hw.2 hc
            refine zr_aload (r := r_19) hx hb dX0_would_52 (lv_at hl 0 rfl) ?_
            obtain ⟨a_23, ci_24, fs_25, x_26, er, he, hc, hv, hw⟩ := zgD_e hw
            refine zw_get hk hH er he hv (fk_X0_209 hc) dX0_would_54 ?_
            refine lv_dstore (lv' := [(5, .double x_26), (4, va_rf r_19), (0, va_rf (some h0)), (1, .int x1), (2, .int x2), (3, .int x3)]) hx hb dX0_would_57 hl (by decide) (by first | rfl | simp [List.filter_cons, z_cat, z_catI, z_catJ, z_catF, z_catD]) (fun ls hl => ?_)
            refine zr_aload (r := r_19) hx hb dX0_would_59 (lv_at hl 1 rfl) ?_
            refine zr_aload (r := r_19) hx hb dX0_would_61 (lv_at hl 1 rfl) ?_
            refine lv_iload_n hx hb dX0_would_63 rfl (lv_at hl 4 rfl) ?_
            refine lv_i2d hx hb dX0_would_64 ?_
            refine lv_ldc2d hx hb hown (hts _ q1979) dX0_would_65 ?_
            obtain ⟨hne, hw⟩ := hw
            refine lv_ddiv hx hb dX0_would_68 hne ?_
            obtain ⟨a_50, ci_51, fs_52, er, he, hc, PP_53, hPP, hw⟩ := zo_e hw
            have hC : ∀ (x_29 : UInt64) (hp_27 : zHp) (nx_28 : Nat), PP_53 x_29 hp_27 nx_28 → ∀ (H : Heap) (locs : List Loc), zHd g hp_27 H → H.size = nx_28 → va_S (zAd g) s.heap H locs → W p l e (zrm (d + 1) 0 0) s m ([.ref h0, .int x1, .int x2, .int x3] : List Value).toArray below meth c H locs (0 + 0) (0 + 0) (MQ below (zQl g Post) ([.ref h0, .int x1, .int x2, .int x3] : List Value).toArray s 0 0 (zAd g)) (F0 m 72 ls [.double x_29, va_rf r_19]) := by
              intro x_29 hp_27 nx_28 hw H locs hH hz hS
              have hw := hPP x_29 hp_27 nx_28 hw
              obtain ⟨a_30, ci_31, fs_32, hp_33, er, he, hc, hA, hkl, eh, hw⟩ := zpt_e hw
              refine zw_put hk hH hz hS er he hA hkl eh (fp_X0_209 hc) rfl rfl dX0_would_72 (fun H locs hH hz hS => ?_)
              refine zr_aload_n (r := some h0) hx hb dX0_would_75 rfl (lv_at hl 2 rfl) ?_
              refine zr_aload_n (r := some h0) hx hb dX0_would_76 rfl (lv_at hl 2 rfl) ?_
              refine lv_iload_n hx hb dX0_would_77 rfl (lv_at hl 5 rfl) ?_
              obtain ⟨a_47, ci_48, fs_49, er, he, hc, hw⟩ := zo_e hw
              obtain rfl := List.mem_singleton.mp hc
              refine zr_calld (zw_runV (As := [.int x3]) hk hH hz hS hl.1 er hw (cwV 1 hts (lw_V q2127 q2129 qs40 q131 q2130) rfl rfl rfl (by decide +kernel) (z_room (Nat.le_of_ble_eq_true rfl))) he rfl rfl rfl (by simp only [List.map_cons, List.map_nil, z_cat]; exact Nat.le_of_ble_eq_true rfl) dX0_would_78 ⟨Nat.le_of_ble_eq_true rfl, Nat.le_of_ble_eq_true rfl⟩) hS (fun x_36 hp_34 nx_35 hw H locs hH hz hS => ?_)
              obtain ⟨a_44, ci_45, fs_46, er, he, hc, hw⟩ := zo_e hw
              obtain rfl := List.mem_singleton.mp hc
              refine zr_calll (zw_runV (As := [.double x_36]) hk hH hz hS hl.1 er hw (cwV 1 hts (lw_V q2295 q2297 qs51 q131 q2298) rfl rfl rfl (by decide +kernel) (z_room (Nat.le_of_ble_eq_true rfl))) he rfl rfl rfl (Nat.le_of_ble_eq_true rfl) dX0_would_81 ⟨Nat.le_of_ble_eq_true rfl, Nat.le_of_ble_eq_true rfl⟩) hS (fun x_39 hp_37 nx_38 hw H locs hH hz hS => ?_)
              refine lv_lstore (lv' := [(7, .long x_39), (5, .double x_26), (4, va_rf r_19), (0, va_rf (some h0)), (1, .int x1), (2, .int x2), (3, .int x3)]) hx hb dX0_would_84 hl (by decide) (by first | rfl | simp [List.filter_cons, z_cat, z_catI, z_catJ, z_catF, z_catD]) (fun ls hl => ?_)
              refine zr_aload (r := r_19) hx hb dX0_would_86 (lv_at hl 2 rfl) ?_
              refine lv_dload hx hb dX0_would_88 (lv_at hl 1 rfl) ?_
              obtain ⟨a_40, ci_41, fs_42, hp_43, er, he, hc, hA, hkl, eh, hw⟩ := zpt_e hw
              refine zw_put hk hH hz hS er he hA hkl eh (fp_X0_209 hc) rfl rfl dX0_would_90 (fun H locs hH hz hS => ?_)
              refine lv_lload hx hb dX0_would_93 (lv_at hl 0 rfl) ?_
              exact zr_lret hk hr hH hz hS hw (Nat.le_of_ble_eq_true rfl) (Nat.le_of_ble_eq_true rfl) dX0_would_95
            simp only [List.mem_cons, List.not_mem_nil, or_false] at hc
            rcases hc with rfl | rfl | rfl | rfl | rfl | rfl
            · exact zr_calld (zw_runV (As := [.double (FP.ddiv (FP.i2d x2) (4620693217682128896 : UInt64))]) hk hH hz hS hl.1 er (hw) (cwV 1 hts (lw_V q1980 q1981 q1982 q152 q1989) rfl rfl rfl (by decide +kernel) (z_room (Nat.le_of_ble_eq_true rfl))) he rfl rfl rfl (by simp only [List.map_cons, List.map_nil, z_cat]; exact Nat.le_of_ble_eq_true rfl) dX0_would_69 ⟨Nat.le_of_ble_eq_true rfl, Nat.le_of_ble_eq_true rfl⟩) hS hC
            · exact zr_calld (zw_runU (As := [.double (FP.ddiv (FP.i2d x2) (4620693217682128896 : UInt64))]) hk hH hz hS hl.1 er (hw) (va_cwU 1 hts (z_U q1980 q1983 q1988 q1981 q152 q1989) rfl rfl rfl rfl (by decide +kernel) (z_room (Nat.le_of_ble_eq_true rfl))) he rfl rfl rfl (by simp only [List.map_cons, List.map_nil, z_cat]; exact Nat.le_of_ble_eq_true rfl) dX0_would_69 ⟨Nat.le_of_ble_eq_true rfl, Nat.le_of_ble_eq_true rfl⟩) hS hC
            · exact zr_calld (zw_runU (As := [.double (FP.ddiv (FP.i2d x2) (4620693217682128896 : UInt64))]) hk hH hz hS hl.1 er (hw) (va_cwU 1 hts (z_U q1980 q1983 q1985 q1981 q152 q1989) rfl rfl rfl rfl (by decide +kernel) (z_room (Nat.le_of_ble_eq_true rfl))) he rfl rfl rfl (by simp only [List.map_cons, List.map_nil, z_cat]; exact Nat.le_of_ble_eq_true rfl) dX0_would_69 ⟨Nat.le_of_ble_eq_true rfl, Nat.le_of_ble_eq_true rfl⟩) hS hC
            · exact zr_calld (zw_runU (As := [.double (FP.ddiv (FP.i2d x2) (4620693217682128896 : UInt64))]) hk hH hz hS hl.1 er (hw) (va_cwU 1 hts (z_U q1980 q1983 q1986 q1981 q152 q1989) rfl rfl rfl rfl (by decide +kernel) (z_room (Nat.le_of_ble_eq_true rfl))) he rfl rfl rfl (by simp only [List.map_cons, List.map_nil, z_cat]; exact Nat.le_of_ble_eq_true rfl) dX0_would_69 ⟨Nat.le_of_ble_eq_true rfl, Nat.le_of_ble_eq_true rfl⟩) hS hC
            · exact zr_calld (zw_runU (As := [.double (FP.ddiv (FP.i2d x2) (4620693217682128896 : UInt64))]) hk hH hz hS hl.1 er (hw) (va_cwU 1 hts (z_U q1980 q1983 q1987 q1981 q152 q1989) rfl rfl rfl rfl (by decide +kernel) (z_room (Nat.le_of_ble_eq_true rfl))) he rfl rfl rfl (by simp only [List.map_cons, List.map_nil, z_cat]; exact Nat.le_of_ble_eq_true rfl) dX0_would_69 ⟨Nat.le_of_ble_eq_true rfl, Nat.le_of_ble_eq_true rfl⟩) hS hC
            · exact zr_calld (zw_runU (As := [.double (FP.ddiv (FP.i2d x2) (4620693217682128896 : UInt64))]) hk hH hz hS hl.1 er (hw) (va_cwU 1 hts (z_U q1980 q1983 q1984 q1981 q152 q1989) rfl rfl rfl rfl (by decide +kernel) (z_room (Nat.le_of_ble_eq_true rfl))) he rfl rfl rfl (by simp only [List.map_cons, List.map_nil, z_cat]; exact Nat.le_of_ble_eq_true rfl) dX0_would_69 ⟨Nat.le_of_ble_eq_true rfl, Nat.le_of_ble_eq_true rfl⟩) hS hC
          · have hw := hw.1 hc
            refine lv_ldc2 hx hb hown (hts _ q2315) dX0_would_48 ?_
            exact zr_lret hk hr hH hz hS hw (Nat.le_of_ble_eq_true rfl) (Nat.le_of_ble_eq_true rfl) dX0_would_51
        simp only [List.mem_cons, List.not_mem_nil, or_false] at hc
        rcases hc with rfl | rfl | rfl | rfl | rfl | rfl
        · exact zr_calli (zw_runV (As := []) hk hH hz hS hl.1 er (hw) (cwV 0 hts (lw_V q1969 q1970 q1971 q152 q1978) rfl rfl rfl (by decide +kernel) (z_room (Nat.le_of_ble_eq_true rfl))) he rfl rfl rfl (Nat.le_of_ble_eq_true rfl) dX0_would_42 ⟨Nat.le_of_ble_eq_true rfl, Nat.le_of_ble_eq_true rfl⟩) hS hC
        · exact zr_calli (zw_runU (As := []) hk hH hz hS hl.1 er (hw) (va_cwU 0 hts (z_U q1969 q1972 q1977 q1970 q152 q1978) rfl rfl rfl rfl (by decide +kernel) (z_room (Nat.le_of_ble_eq_true rfl))) he rfl rfl rfl (Nat.le_of_ble_eq_true rfl) dX0_would_42 ⟨Nat.le_of_ble_eq_true rfl, Nat.le_of_ble_eq_true rfl⟩) hS hC
        · exact zr_calli (zw_runU (As := []) hk hH hz hS hl.1 er (hw) (va_cwU 0 hts (z_U q1969 q1972 q1974 q1970 q152 q1978) rfl rfl rfl rfl (by decide +kernel) (z_room (Nat.le_of_ble_eq_true rfl))) he rfl rfl rfl (Nat.le_of_ble_eq_true rfl) dX0_would_42 ⟨Nat.le_of_ble_eq_true rfl, Nat.le_of_ble_eq_true rfl⟩) hS hC
        · exact zr_calli (zw_runU (As := []) hk hH hz hS hl.1 er (hw) (va_cwU 0 hts (z_U q1969 q1972 q1975 q1970 q152 q1978) rfl rfl rfl rfl (by decide +kernel) (z_room (Nat.le_of_ble_eq_true rfl))) he rfl rfl rfl (Nat.le_of_ble_eq_true rfl) dX0_would_42 ⟨Nat.le_of_ble_eq_true rfl, Nat.le_of_ble_eq_true rfl⟩) hS hC
        · exact zr_calli (zw_runU (As := []) hk hH hz hS hl.1 er (hw) (va_cwU 0 hts (z_U q1969 q1972 q1976 q1970 q152 q1978) rfl rfl rfl rfl (by decide +kernel) (z_room (Nat.le_of_ble_eq_true rfl))) he rfl rfl rfl (Nat.le_of_ble_eq_true rfl) dX0_would_42 ⟨Nat.le_of_ble_eq_true rfl, Nat.le_of_ble_eq_true rfl⟩) hS hC
        · exact zr_calli (zw_runU (As := []) hk hH hz hS hl.1 er (hw) (va_cwU 0 hts (z_U q1969 q1972 q1973 q1970 q152 q1978) rfl rfl rfl rfl (by decide +kernel) (z_room (Nat.le_of_ble_eq_true rfl))) he rfl rfl rfl (Nat.le_of_ble_eq_true rfl) dX0_would_42 ⟨Nat.le_of_ble_eq_true rfl, Nat.le_of_ble_eq_true rfl⟩) hS hC
      · have hw := hw.1 hc
        exact hJ_28 hp_9 nx_10 _ _ _ hw hl hH hz hS
theorem no_X0_35 : zNo "WhatIfSheet" 35 31 := ⟨RX31, TX31, 4, rfl, q210, q2346, q195⟩
theorem no_X0_176 : zNo "WhatIfSheet" 176 32 := ⟨RX32, TX32, 2, rfl, q2347, q2348, q196⟩
def wp_X0_table (l : Launch) (g : zG) (d : Nat) (mc ms : Nat) (h0 : Nat) (x1 : Int32) (x2 : Int32) (x3 : Int32) (x4 : Int32) (hp : zHp) (nx : Nat) (Post : Int32 → zHp → Nat → Prop) : Prop :=
  (0 ≤ mc ∧ 0 ≤ ms ∧ zMt l g yX0_isTable cX0_isTable 1 (some .boolean) d 0 0 [.int x1] hp nx (zQi g fun x_3 hp_1 nx_2 =>
  (∃ P_41 : zHp → Nat → Nat → Nat → Prop, (∀ (hp_4 : zHp) (nx_5 : Nat) (kc_6 : Nat) (ks_7 : Nat), P_41 hp_4 nx_5 kc_6 ks_7 →
  (kc_6 ≤ mc ∧ ks_7 ≤ ms ∧ Post (-2 : Int32) hp_4 nx_5)) ∧
  ((x_3 = 0 →
  P_41 hp_1 nx_2 0 0) ∧
  (¬ x_3 = 0 →
  (0 ≤ mc ∧ 0 ≤ ms ∧ zMt l g yX0_isCell cX0_isCell 1 (some .boolean) d 0 0 [.int x2] hp_1 nx_2 (zQi g fun x_10 hp_8 nx_9 =>
  ((x_10 = 0 →
  P_41 hp_8 nx_9 0 0) ∧
  (¬ x_10 = 0 →
  (0 ≤ mc ∧ 0 ≤ ms ∧ zMt l g yX0_isCell cX0_isCell 1 (some .boolean) d 0 0 [.int x3] hp_8 nx_9 (zQi g fun x_13 hp_11 nx_12 =>
  ((x_13 = 0 →
  P_41 hp_11 nx_12 0 0) ∧
  (¬ x_13 = 0 →
  (∃ P_35 : zHp → Nat → Nat → Nat → Prop, (∀ (hp_14 : zHp) (nx_15 : Nat) (kc_16 : Nat) (ks_17 : Nat), P_35 hp_14 nx_15 kc_16 ks_17 →
  ((x3 = x4 →
  P_41 hp_14 nx_15 kc_16 ks_17) ∧
  (¬ x3 = x4 →
  (zgR hp_14 (some h0) [0] 0 fun r_21 =>
  (zaR (g.2.1 7) hp_14 r_21 fun a_22 n_23 f_24 => vp_in x3 n_23 ∧ ∀ r_25 : Option Nat, r_25 = f_24 x3.toNatClampNeg →
  (kc_16 ≤ mc ∧ ks_17 ≤ ms ∧ zo hp_14 r_25 [2, 6, 7, 8, 9, 10] fun a_108 ci_109 fs_110 => ∃ PP_111 : Int32 → zHp → Nat → Prop, (∀ (x_28 : Int32) (hp_26 : zHp) (nx_27 : Nat), PP_111 x_28 hp_26 nx_27 →
  (∃ P_75 : zHp → Nat → Nat → Nat → Prop, (∀ (hp_29 : zHp) (nx_30 : Nat) (kc_31 : Nat) (ks_32 : Nat), P_75 hp_29 nx_30 kc_31 ks_32 →
  (kc_31 ≤ mc ∧ ks_32 ≤ ms ∧ Post (-3 : Int32) hp_29 nx_30)) ∧
  ((x_28 = 0 →
  P_75 hp_26 nx_27 kc_16 ks_17) ∧
  (¬ x_28 = 0 →
  (∃ P_78 : zHp → Nat → Nat → Nat → Prop, (∀ (hp_33 : zHp) (nx_34 : Nat) (kc_35 : Nat) (ks_36 : Nat), P_78 hp_33 nx_34 kc_35 ks_36 →
  (znw g mc ms hp_33 nx_34 kc_35 ks_36 31 fun hp_37 =>
  ∀ nx_38 kc_39 ks_40 : Nat, nx_38 = (nx_34 + 1) → kc_39 = (kc_35 + 1) → ks_40 = (ks_36 + zNn 31) →
  (znw g mc ms hp_37 nx_38 kc_39 ks_40 32 fun hp_41 =>
  ∀ nx_42 kc_43 ks_44 : Nat, nx_42 = (nx_38 + 1) → kc_43 = (kc_39 + 1) → ks_44 = (ks_40 + zNn 32) →
  (zna g mc ms hp_41 nx_42 kc_43 ks_44 1 (1 : Int32) (.inr (.inr (.inr (.inl (fun _ => 0))))) fun hp_45 =>
  ∀ nx_46 kc_47 ks_48 : Nat, nx_46 = (nx_42 + 1) → kc_47 = (kc_43 + 1) → ks_48 = (ks_44 + (1 : Int32).toNatClampNeg) →
  (kc_47 ≤ mc ∧ ks_48 ≤ ms ∧ zMt l g yX32_init cX32_init 3 none d 0 0 (.ref nx_38 :: [.int x3, va_rf (some nx_42)]) hp_45 nx_46 (zQv g fun hp_49 nx_50 =>
  (∃ P_119 : (Option Nat) → Int32 → (Option Nat) → (Option Nat) → Int32 → Int32 → (Option Nat) → (Option Nat) → zHp → Nat → Nat → Nat → Prop, (∀ (r_51 : Option Nat) (x_52 : Int32) (r_53 : Option Nat) (r_54 : Option Nat) (x_55 : Int32) (x_56 : Int32) (r_57 : Option Nat) (r_58 : Option Nat) (hp_59 : zHp) (nx_60 : Nat) (kc_61 : Nat) (ks_62 : Nat), P_119 r_51 x_52 r_53 r_54 x_55 x_56 r_57 r_58 hp_59 nx_60 kc_61 ks_62 →
  (zsm r_54 fun a_63 =>
  (kc_61 ≤ mc ∧ ks_62 ≤ ms ∧ zMt l g yX31_init cX31_init 5 none d 0 0 (.ref a_63 :: [.int x_55, .int x_56, va_rf r_57, va_rf r_58]) hp_59 nx_60 (zQv g fun hp_64 nx_65 =>
  (∃ c_66 s_67 : Nat, kc_61 + c_66 ≤ mc ∧ ks_62 + s_67 ≤ ms ∧ zo hp_64 r_51 [0] fun a_71 ci_72 fs_73 => zMtW l g yX0_lays cX0_lays 7 (some .int) [(10, 27, 48, 0), (48, 50, 48, 0)] d c_66 s_67 (.ref a_71 :: [.int x_52, va_rf r_53]) hp_64 nx_65 (zQi g fun x_70 hp_68 nx_69 =>
  ((kc_61 + c_66) ≤ mc ∧ (ks_62 + s_67) ≤ ms ∧ Post x_70 hp_68 nx_69))))))) ∧
  ((x4 = (-1 : Int32) →
  P_119 (some h0) x1 (some nx_34) (some nx_34) x1 x2 (some nx_38) none hp_49 nx_50 kc_47 ks_48) ∧
  (¬ x4 = (-1 : Int32) →
  (znw g mc ms hp_49 nx_50 kc_47 ks_48 32 fun hp_77 =>
  ∀ nx_78 kc_79 ks_80 : Nat, nx_78 = (nx_50 + 1) → kc_79 = (kc_47 + 1) → ks_80 = (ks_48 + zNn 32) →
  (zna g mc ms hp_77 nx_78 kc_79 ks_80 1 (1 : Int32) (.inr (.inr (.inr (.inl (fun _ => 0))))) fun hp_81 =>
  ∀ nx_82 kc_83 ks_84 : Nat, nx_82 = (nx_78 + 1) → kc_83 = (kc_79 + 1) → ks_84 = (ks_80 + (1 : Int32).toNatClampNeg) →
  (kc_83 ≤ mc ∧ ks_84 ≤ ms ∧ zMt l g yX32_init cX32_init 3 none d 0 0 (.ref nx_50 :: [.int x4, va_rf (some nx_78)]) hp_81 nx_82 (zQv g fun hp_85 nx_86 =>
  P_119 (some h0) x1 (some nx_34) (some nx_34) x1 x2 (some nx_38) (some nx_50) hp_85 nx_86 kc_83 ks_84))))))))))))) ∧
  ((x4 = (-1 : Int32) →
  P_78 hp_26 nx_27 kc_16 ks_17) ∧
  (¬ x4 = (-1 : Int32) →
  (zgR hp_26 (some h0) [0] 0 fun r_96 =>
  (zaR (g.2.1 7) hp_26 r_96 fun a_97 n_98 f_99 => vp_in x4 n_98 ∧ ∀ r_100 : Option Nat, r_100 = f_99 x4.toNatClampNeg →
  (kc_16 ≤ mc ∧ ks_17 ≤ ms ∧ zo hp_26 r_100 [2, 6, 7, 8, 9, 10] fun a_104 ci_105 fs_106 => ∃ PP_107 : Int32 → zHp → Nat → Prop, (∀ (x_103 : Int32) (hp_101 : zHp) (nx_102 : Nat), PP_107 x_103 hp_101 nx_102 →
  ((x_103 = 0 →
  P_75 hp_101 nx_102 kc_16 ks_17) ∧
  (¬ x_103 = 0 →
  P_78 hp_101 nx_102 kc_16 ks_17))) ∧ zMt l g yX2_isInput cX2_isInput 1 (some .boolean) d 0 0 (.ref a_104 :: []) hp_26 nx_27 (zQi g PP_107))))))))))) ∧ zMt l g yX2_isInput cX2_isInput 1 (some .boolean) d 0 0 (.ref a_108 :: []) hp_14 nx_15 (zQi g PP_111))))))) ∧
  ((x4 = (-1 : Int32) →
  P_35 hp_11 nx_12 0 0) ∧
  (¬ x4 = (-1 : Int32) →
  (0 ≤ mc ∧ 0 ≤ ms ∧ zMt l g yX0_isCell cX0_isCell 1 (some .boolean) d 0 0 [.int x4] hp_11 nx_12 (zQi g fun x_114 hp_112 nx_113 =>
  ((x_114 = 0 →
  P_41 hp_112 nx_113 0 0) ∧
  (¬ x_114 = 0 →
  P_35 hp_112 nx_113 0 0))))))))))))))))))))
set_option maxHeartbeats 40000000 in
theorem met_X0_table {l : Launch} {g : zG} {d : Nat} {mc ms : Nat} {h0 : Nat} {x1 : Int32} {x2 : Int32} {x3 : Int32} {x4 : Int32} {hp : zHp} {nx : Nat} {Post : Int32 → zHp → Nat → Prop} (hw : wp_X0_table l g d mc ms h0 x1 x2 x3 x4 hp nx Post) : zMt l g yX0_table cX0_table 5 (some .int) (d + 1) mc ms [.ref h0, .int x1, .int x2, .int x3, .int x4] hp nx (zQi g Post) := by
  refine z_start (by decide) (Nat.le_of_ble_eq_true rfl) ?_
  intro p e s m below meth c hk hr hin hH hz ls hl
  have hx := hk.1.1
  have hb := hk.1.2.1
  have hown := hk.1.2.2.2.1
  have hts := hk.1.2.2.2.2
  have hS : va_S (zAd g) s.heap s.heap [] := va_S.rf
  have hl : lv_has ls 5 [(0, va_rf (some h0)), (1, .int x1), (2, .int x2), (3, .int x3), (4, .int x4)] := hl
  unfold wp_X0_table at hw
  refine lv_iload_n hx hb dX0_table_0 rfl (lv_at hl 1 rfl) ?_
  obtain ⟨hcl, hsl, hw⟩ := hw
  refine zr_calli (zr_runS (As := [.int x1]) hk hH hz hS hl.1 hw (va_cwS 1 hts (lw_S q2343 q2344 q131 q2345) rfl rfl rfl (by decide +kernel) (z_room (Nat.le_of_ble_eq_true rfl))) rfl rfl (Nat.le_of_ble_eq_true rfl) dX0_table_1 ⟨hcl, hsl⟩) hS (fun x_3 hp_1 nx_2 hw H locs hH hz hS => ?_)
  obtain ⟨P_41, hP_41, hw⟩ := hw
  have hJ_41 : ∀ (hp_4 : zHp) (nx_5 : Nat) (kc_6 : Nat) (ks_7 : Nat) (H : Heap) (locs : List Loc) (ls : Array Slot), P_41 hp_4 nx_5 kc_6 ks_7 → lv_has ls 5 [(0, va_rf (some h0)), (1, .int x1), (2, .int x2), (3, .int x3), (4, .int x4)] → zHd g hp_4 H → H.size = nx_5 → va_S (zAd g) s.heap H locs → W p l e (zrm (d + 1) mc ms) s m ([.ref h0, .int x1, .int x2, .int x3, .int x4] : List Value).toArray below meth c H locs kc_6 ks_7 (MQ below (zQi g Post) ([.ref h0, .int x1, .int x2, .int x3, .int x4] : List Value).toArray s mc ms (zAd g)) (F0 m 41 ls []) := by
    intro hp_4 nx_5 kc_6 ks_7 H locs ls hw hl hH hz hS
    have hw := hP_41 hp_4 nx_5 kc_6 ks_7 hw
    refine lv_bipush (v := (-2 : Int32)) hx hb dX0_table_41 (by decide) ?_
    obtain ⟨hkc, hks, hw⟩ := hw
    exact zr_iret hk hr hH hz hS hw hkc hks dX0_table_43
  refine lv_if_eq (tgt := 41) hx hb dX0_table_4 (by decide) (fun hc => ?_) (fun hc => ?_)
  · have hw := hw.1 hc
    exact hJ_41 hp_1 nx_2 0 0 _ _ _ hw hl hH hz hS
  · have hw := hw.2 hc
    refine lv_iload_n hx hb dX0_table_7 rfl (lv_at hl 2 rfl) ?_
    obtain ⟨hcl, hsl, hw⟩ := hw
    refine zr_calli (zr_runS (As := [.int x2]) hk hH hz hS hl.1 hw (va_cwS 1 hts (lw_S q1317 q1318 q131 q1319) rfl rfl rfl (by decide +kernel) (z_room (Nat.le_of_ble_eq_true rfl))) rfl rfl (Nat.le_of_ble_eq_true rfl) dX0_table_8 ⟨hcl, hsl⟩) hS (fun x_10 hp_8 nx_9 hw H locs hH hz hS => ?_)
    refine lv_if_eq (tgt := 41) hx hb dX0_table_11 (by decide) (fun hc => ?_) (fun hc => ?_)
    · have hw := hw.1 hc
      exact hJ_41 hp_8 nx_9 0 0 _ _ _ hw hl hH hz hS
    · have hw := hw.2 hc
      refine lv_iload_n hx hb dX0_table_14 rfl (lv_at hl 3 rfl) ?_
      obtain ⟨hcl, hsl, hw⟩ := hw
      refine zr_calli (zr_runS (As := [.int x3]) hk hH hz hS hl.1 hw (va_cwS 1 hts (lw_S q1317 q1318 q131 q1319) rfl rfl rfl (by decide +kernel) (z_room (Nat.le_of_ble_eq_true rfl))) rfl rfl (Nat.le_of_ble_eq_true rfl) dX0_table_15 ⟨hcl, hsl⟩) hS (fun x_13 hp_11 nx_12 hw H locs hH hz hS => ?_)
      refine lv_if_eq (tgt := 41) hx hb dX0_table_18 (by decide) (fun hc => ?_) (fun hc => ?_)
      · have hw := hw.1 hc
        exact hJ_41 hp_11 nx_12 0 0 _ _ _ hw hl hH hz hS
      · have hw := hw.2 hc
        refine lv_iload hx hb dX0_table_21 (lv_at hl 4 rfl) ?_
        refine lv_iconst (v := (-1 : Int32)) hx hb dX0_table_23 (by decide) ?_
        obtain ⟨P_35, hP_35, hw⟩ := hw
        have hJ_35 : ∀ (hp_14 : zHp) (nx_15 : Nat) (kc_16 : Nat) (ks_17 : Nat) (H : Heap) (locs : List Loc) (ls : Array Slot), P_35 hp_14 nx_15 kc_16 ks_17 → lv_has ls 5 [(0, va_rf (some h0)), (1, .int x1), (2, .int x2), (3, .int x3), (4, .int x4)] → zHd g hp_14 H → H.size = nx_15 → va_S (zAd g) s.heap H locs → W p l e (zrm (d + 1) mc ms) s m ([.ref h0, .int x1, .int x2, .int x3, .int x4] : List Value).toArray below meth c H locs kc_16 ks_17 (MQ below (zQi g Post) ([.ref h0, .int x1, .int x2, .int x3, .int x4] : List Value).toArray s mc ms (zAd g)) (F0 m 35 ls []) := by
          intro hp_14 nx_15 kc_16 ks_17 H locs ls hw hl hH hz hS
          have hw := hP_35 hp_14 nx_15 kc_16 ks_17 hw
          refine lv_iload_n hx hb dX0_table_35 rfl (lv_at hl 3 rfl) ?_
          refine lv_iload hx hb dX0_table_36 (lv_at hl 4 rfl) ?_
          refine lv_icmp_ne (tgt := 44) hx hb dX0_table_38 (by decide) (fun hc => ?_) (fun hc => ?_)
          · have hw := hw.2 hc
            refine zr_aload_n (r := some h0) hx hb dX0_table_44 rfl (lv_at hl 0 rfl) ?_
            obtain ⟨a_18, ci_19, fs_20, r_21, er, he, hc, hv, hw⟩ := zgR_e hw
            refine zw_get hk hH er he hv (fk_X0_31 hc) dX0_table_45 ?_
            refine lv_iload_n hx hb dX0_table_48 rfl (lv_at hl 3 rfl) ?_
            obtain ⟨a_22, n_23, f_24, er, he, hi, hw⟩ := zaR_e hw
            have hw := hw _ rfl
            refine zw_aald hk hH 7 er he rfl rfl hi dX0_table_49 ?_
            generalize f_24 x3.toNatClampNeg = r_25 at hw ⊢
            obtain ⟨hcl, hsl, hw⟩ := hw
            obtain ⟨a_108, ci_109, fs_110, er, he, hc, PP_111, hPP, hw⟩ := zo_e hw
            have hC : ∀ (x_28 : Int32) (hp_26 : zHp) (nx_27 : Nat), PP_111 x_28 hp_26 nx_27 → ∀ (H : Heap) (locs : List Loc), zHd g hp_26 H → H.size = nx_27 → va_S (zAd g) s.heap H locs → W p l e (zrm (d + 1) mc ms) s m ([.ref h0, .int x1, .int x2, .int x3, .int x4] : List Value).toArray below meth c H locs (kc_16 + 0) (ks_17 + 0) (MQ below (zQi g Post) ([.ref h0, .int x1, .int x2, .int x3, .int x4] : List Value).toArray s mc ms (zAd g)) (F0 m 53 ls [.int x_28]) := by
              intro x_28 hp_26 nx_27 hw H locs hH hz hS
              have hw := hPP x_28 hp_26 nx_27 hw
              obtain ⟨P_75, hP_75, hw⟩ := hw
              have hJ_75 : ∀ (hp_29 : zHp) (nx_30 : Nat) (kc_31 : Nat) (ks_32 : Nat) (H : Heap) (locs : List Loc) (ls : Array Slot), P_75 hp_29 nx_30 kc_31 ks_32 → lv_has ls 5 [(0, va_rf (some h0)), (1, .int x1), (2, .int x2), (3, .int x3), (4, .int x4)] → zHd g hp_29 H → H.size = nx_30 → va_S (zAd g) s.heap H locs → W p l e (zrm (d + 1) mc ms) s m ([.ref h0, .int x1, .int x2, .int x3, .int x4] : List Value).toArray below meth c H locs kc_31 ks_32 (MQ below (zQi g Post) ([.ref h0, .int x1, .int x2, .int x3, .int x4] : List Value).toArray s mc ms (zAd g)) (F0 m 75 ls []) := by
                intro hp_29 nx_30 kc_31 ks_32 H locs ls hw hl hH hz hS
                have hw := hP_75 hp_29 nx_30 kc_31 ks_32 hw
                refine lv_bipush (v := (-3 : Int32)) hx hb dX0_table_75 (by decide) ?_
                obtain ⟨hkc, hks, hw⟩ := hw
                exact zr_iret hk hr hH hz hS hw hkc hks dX0_table_77
              refine lv_if_eq (tgt := 75) hx hb dX0_table_53 (by decide) (fun hc => ?_) (fun hc => ?_)
              · have hw := hw.1 hc
                exact hJ_75 hp_26 nx_27 kc_16 ks_17 _ _ _ hw hl hH hz hS
              · have hw := hw.2 hc
                refine lv_iload hx hb dX0_table_56 (lv_at hl 4 rfl) ?_
                refine lv_iconst (v := (-1 : Int32)) hx hb dX0_table_58 (by decide) ?_
                obtain ⟨P_78, hP_78, hw⟩ := hw
                have hJ_78 : ∀ (hp_33 : zHp) (nx_34 : Nat) (kc_35 : Nat) (ks_36 : Nat) (H : Heap) (locs : List Loc) (ls : Array Slot), P_78 hp_33 nx_34 kc_35 ks_36 → lv_has ls 5 [(0, va_rf (some h0)), (1, .int x1), (2, .int x2), (3, .int x3), (4, .int x4)] → zHd g hp_33 H → H.size = nx_34 → va_S (zAd g) s.heap H locs → W p l e (zrm (d + 1) mc ms) s m ([.ref h0, .int x1, .int x2, .int x3, .int x4] : List Value).toArray below meth c H locs kc_35 ks_36 (MQ below (zQi g Post) ([.ref h0, .int x1, .int x2, .int x3, .int x4] : List Value).toArray s mc ms (zAd g)) (F0 m 78 ls []) := by
                  intro hp_33 nx_34 kc_35 ks_36 H locs ls hw hl hH hz hS
                  have hw := hP_78 hp_33 nx_34 kc_35 ks_36 hw
                  refine zr_aload_n (r := some h0) hx hb dX0_table_78 rfl (lv_at hl 0 rfl) ?_
                  refine lv_iload_n hx hb dX0_table_79 rfl (lv_at hl 1 rfl) ?_
                  obtain ⟨hcl, hsl, hw⟩ := hw
                  refine zx_new hk hH hz hS (ci := 31) no_X0_35 hcl hsl dX0_table_80 (fun H hH hz hS hlt hnb => ?_)
                  have hw := hw hlt hnb
                  generalize va_up hp_33 nx_34 _ = hp_37 at hH hw
                  obtain ⟨kc_39, ekc⟩ : ∃ k, k = (kc_35 + 1) := ⟨_, rfl⟩
                  obtain ⟨ks_40, eks⟩ : ∃ k, k = (ks_36 + zNn 31) := ⟨_, rfl⟩
                  have hw := hw _ _ _ rfl ekc eks
                  refine W.widen (Nat.le_of_eq ekc.symm) (Nat.le_of_eq eks.symm) ?_
                  clear ekc eks
                  generalize (nx_34 + 1) = nx_38 at hz hw
                  refine lv_dup hx hb dX0_table_83 (z_cat _) ?_
                  refine lv_iload_n hx hb dX0_table_84 rfl (lv_at hl 1 rfl) ?_
                  refine lv_iload_n hx hb dX0_table_85 rfl (lv_at hl 2 rfl) ?_
                  obtain ⟨hcl, hsl, hw⟩ := hw
                  refine zx_new hk hH hz hS (ci := 32) no_X0_176 hcl hsl dX0_table_86 (fun H hH hz hS hlt hnb => ?_)
                  have hw := hw hlt hnb
                  generalize va_up hp_37 nx_38 _ = hp_41 at hH hw
                  obtain ⟨kc_43, ekc⟩ : ∃ k, k = (kc_39 + 1) := ⟨_, rfl⟩
                  obtain ⟨ks_44, eks⟩ : ∃ k, k = (ks_40 + zNn 32) := ⟨_, rfl⟩
                  have hw := hw _ _ _ rfl ekc eks
                  refine W.widen (Nat.le_of_eq ekc.symm) (Nat.le_of_eq eks.symm) ?_
                  clear ekc eks
                  generalize (nx_38 + 1) = nx_42 at hz hw
                  refine lv_dup hx hb dX0_table_89 (z_cat _) ?_
                  refine lv_iload_n hx hb dX0_table_90 rfl (lv_at hl 3 rfl) ?_
                  refine lv_iconst (v := (1 : Int32)) hx hb dX0_table_91 (by decide) ?_
                  obtain ⟨hn0, hn1, hcl, hsl, hw⟩ := hw
                  refine zx_newa hk hH hz hS (atype := .double) 1 (ty := .double) rfl q275 rfl (fun _ _ h => h) (a0 := ((1 : Int32).toNatClampNeg, .inr (.inr (.inr (.inl (fun _ => 0)))))) (fun _ => rfl) hn0 rfl (by simp only [componentBytes]; omega) hcl hsl dX0_table_92 (fun H hH hz hS hlt hnb => ?_)
                  have hw := hw hlt hnb
                  generalize va_up hp_41 nx_42 _ = hp_45 at hH hw
                  obtain ⟨kc_47, ekc⟩ : ∃ k, k = (kc_43 + 1) := ⟨_, rfl⟩
                  obtain ⟨ks_48, eks⟩ : ∃ k, k = (ks_44 + (1 : Int32).toNatClampNeg) := ⟨_, rfl⟩
                  have hw := hw _ _ _ rfl ekc eks
                  refine W.widen (Nat.le_of_eq ekc.symm) (Nat.le_of_eq eks.symm) ?_
                  clear ekc eks
                  generalize (nx_42 + 1) = nx_46 at hz hw
                  obtain ⟨hcl, hsl, hw⟩ := hw
                  refine zr_callv (zw_runI (As := [.int x3, va_rf (some nx_42)]) (r := some nx_38) hk hH hz hS hl.1 rfl hw (cwI 2 hts (lw_meth q2351) rfl rfl rfl (hts _ q196) (hts _ q2349) (hts _ q2350) rfl (by decide +kernel) (z_room (Nat.le_of_ble_eq_true rfl))) rfl rfl (by simp only [List.map_cons, List.map_nil, z_cat]; exact Nat.le_of_ble_eq_true rfl) dX0_table_94 ⟨hcl, hsl⟩) hS (fun hp_49 nx_50 hw H locs hH hz hS => ?_)
                  refine lv_iload hx hb dX0_table_97 (lv_at hl 4 rfl) ?_
                  refine lv_iconst (v := (-1 : Int32)) hx hb dX0_table_99 (by decide) ?_
                  obtain ⟨P_119, hP_119, hw⟩ := hw
                  have hJ_119 : ∀ (r_51 : Option Nat) (x_52 : Int32) (r_53 : Option Nat) (r_54 : Option Nat) (x_55 : Int32) (x_56 : Int32) (r_57 : Option Nat) (r_58 : Option Nat) (hp_59 : zHp) (nx_60 : Nat) (kc_61 : Nat) (ks_62 : Nat) (H : Heap) (locs : List Loc) (ls : Array Slot), P_119 r_51 x_52 r_53 r_54 x_55 x_56 r_57 r_58 hp_59 nx_60 kc_61 ks_62 → lv_has ls 5 [(0, va_rf (some h0)), (1, .int x1), (2, .int x2), (3, .int x3), (4, .int x4)] → zHd g hp_59 H → H.size = nx_60 → va_S (zAd g) s.heap H locs → W p l e (zrm (d + 1) mc ms) s m ([.ref h0, .int x1, .int x2, .int x3, .int x4] : List Value).toArray below meth c H locs kc_61 ks_62 (MQ below (zQi g Post) ([.ref h0, .int x1, .int x2, .int x3, .int x4] : List Value).toArray s mc ms (zAd g)) (F0 m 119 ls [va_rf r_58, va_rf r_57, .int x_56, .int x_55, va_rf r_54, va_rf r_53, .int x_52, va_rf r_51]) := by
                    intro r_51 x_52 r_53 r_54 x_55 x_56 r_57 r_58 hp_59 nx_60 kc_61 ks_62 H locs ls hw hl hH hz hS
                    have hw := hP_119 r_51 x_52 r_53 r_54 x_55 x_56 r_57 r_58 hp_59 nx_60 kc_61 ks_62 hw
                    obtain ⟨a_63, rfl, hw⟩ := zsm_e hw
                    obtain ⟨hcl, hsl, hw⟩ := hw
                    refine zr_callv (zw_runI (As := [.int x_55, .int x_56, va_rf r_57, va_rf r_58]) (r := some a_63) hk hH hz hS hl.1 rfl hw (cwI 4 hts (lw_meth q2365) rfl rfl rfl (hts _ q195) (hts _ q2363) (hts _ q2364) rfl (by decide +kernel) (z_room (Nat.le_of_ble_eq_true rfl))) rfl rfl (by simp only [List.map_cons, List.map_nil, z_cat]; exact Nat.le_of_ble_eq_true rfl) dX0_table_119 ⟨hcl, hsl⟩) hS (fun hp_64 nx_65 hw H locs hH hz hS => ?_)
                    obtain ⟨c_66, s_67, hcl, hsl, hw⟩ := hw
                    obtain ⟨a_71, ci_72, fs_73, er, he, hc, hw⟩ := zo_e hw
                    obtain rfl := List.mem_singleton.mp hc
                    refine zr_calli (zw_runVW (As := [.int x_52, va_rf r_53]) hk hH hz hS hl.1 er hw (vx_cwVW 2 hts (lw_VW q2384 q2386 qs52 q131 q2387) rfl rfl rfl (by decide +kernel) (z_room (Nat.le_of_ble_eq_true rfl))) he rfl rfl rfl (Nat.le_of_ble_eq_true rfl) dX0_table_122 ⟨hcl, hsl⟩) hS (fun x_70 hp_68 nx_69 hw H locs hH hz hS => ?_)
                    obtain ⟨hkc, hks, hw⟩ := hw
                    exact zr_iret hk hr hH hz hS hw hkc hks dX0_table_125
                  refine lv_icmp_ne (tgt := 107) hx hb dX0_table_100 (by decide) (fun hc => ?_) (fun hc => ?_)
                  · have hw := hw.2 hc
                    obtain ⟨hcl, hsl, hw⟩ := hw
                    refine zx_new hk hH hz hS (ci := 32) no_X0_176 hcl hsl dX0_table_107 (fun H hH hz hS hlt hnb => ?_)
                    have hw := hw hlt hnb
                    generalize va_up hp_49 nx_50 _ = hp_77 at hH hw
                    obtain ⟨kc_79, ekc⟩ : ∃ k, k = (kc_47 + 1) := ⟨_, rfl⟩
                    obtain ⟨ks_80, eks⟩ : ∃ k, k = (ks_48 + zNn 32) := ⟨_, rfl⟩
                    have hw := hw _ _ _ rfl ekc eks
                    refine W.widen (Nat.le_of_eq ekc.symm) (Nat.le_of_eq eks.symm) ?_
                    clear ekc eks
                    generalize (nx_50 + 1) = nx_78 at hz hw
                    refine lv_dup hx hb dX0_table_110 (z_cat _) ?_
                    refine lv_iload hx hb dX0_table_111 (lv_at hl 4 rfl) ?_
                    refine lv_iconst (v := (1 : Int32)) hx hb dX0_table_113 (by decide) ?_
                    obtain ⟨hn0, hn1, hcl, hsl, hw⟩ := hw
                    refine zx_newa hk hH hz hS (atype := .double) 1 (ty := .double) rfl q275 rfl (fun _ _ h => h) (a0 := ((1 : Int32).toNatClampNeg, .inr (.inr (.inr (.inl (fun _ => 0)))))) (fun _ => rfl) hn0 rfl (by simp only [componentBytes]; omega) hcl hsl dX0_table_114 (fun H hH hz hS hlt hnb => ?_)
                    have hw := hw hlt hnb
                    generalize va_up hp_77 nx_78 _ = hp_81 at hH hw
                    obtain ⟨kc_83, ekc⟩ : ∃ k, k = (kc_79 + 1) := ⟨_, rfl⟩
                    obtain ⟨ks_84, eks⟩ : ∃ k, k = (ks_80 + (1 : Int32).toNatClampNeg) := ⟨_, rfl⟩
                    have hw := hw _ _ _ rfl ekc eks
                    refine W.widen (Nat.le_of_eq ekc.symm) (Nat.le_of_eq eks.symm) ?_
                    clear ekc eks
                    generalize (nx_78 + 1) = nx_82 at hz hw
                    obtain ⟨hcl, hsl, hw⟩ := hw
                    refine zr_callv (zw_runI (As := [.int x4, va_rf (some nx_78)]) (r := some nx_50) hk hH hz hS hl.1 rfl hw (cwI 2 hts (lw_meth q2351) rfl rfl rfl (hts _ q196) (hts _ q2349) (hts _ q2350) rfl (by decide +kernel) (z_room (Nat.le_of_ble_eq_true rfl))) rfl rfl (by simp only [List.map_cons, List.map_nil, z_cat]; exact Nat.le_of_ble_eq_true rfl) dX0_table_116 ⟨hcl, hsl⟩) hS (fun hp_85 nx_86 hw H locs hH hz hS => ?_)
                    exact hJ_119 (some h0) x1 (some nx_34) (some nx_34) x1 x2 (some nx_38) (some nx_50) hp_85 nx_86 kc_83 ks_84 _ _ _ hw hl hH hz hS
                  · have hw := hw.1 hc
                    refine zx_null hx hb dX0_table_103 ?_
                    refine lv_goto (tgt := 119) hx hb dX0_table_104 (by decide) ?_
                    exact hJ_119 (some h0) x1 (some nx_34) (some nx_34) x1 x2 (some nx_38) none hp_49 nx_50 kc_47 ks_48 _ _ _ hw hl hH hz hS
                refine lv_icmp_eq (tgt := 78) hx hb dX0_table_59 (by decide) (fun hc => ?_) (fun hc => ?_)
                · have hw := hw.1 hc
                  exact hJ_78 hp_26 nx_27 kc_16 ks_17 _ _ _ hw hl hH hz hS
                · have hw := hw.2 hc
                  refine zr_aload_n (r := some h0) hx hb dX0_table_62 rfl (lv_at hl 0 rfl) ?_
                  obtain ⟨a_93, ci_94, fs_95, r_96, er, he, hc, hv, hw⟩ := zgR_e hw
                  refine zw_get hk hH er he hv (fk_X0_31 hc) dX0_table_63 ?_
                  refine lv_iload hx hb dX0_table_66 (lv_at hl 4 rfl) ?_
                  obtain ⟨a_97, n_98, f_99, er, he, hi, hw⟩ := zaR_e hw
                  have hw := hw _ rfl
                  refine zw_aald hk hH 7 er he rfl rfl hi dX0_table_68 ?_
                  generalize f_99 x4.toNatClampNeg = r_100 at hw ⊢
                  obtain ⟨hcl, hsl, hw⟩ := hw
                  obtain ⟨a_104, ci_105, fs_106, er, he, hc, PP_107, hPP, hw⟩ := zo_e hw
                  have hC : ∀ (x_103 : Int32) (hp_101 : zHp) (nx_102 : Nat), PP_107 x_103 hp_101 nx_102 → ∀ (H : Heap) (locs : List Loc), zHd g hp_101 H → H.size = nx_102 → va_S (zAd g) s.heap H locs → W p l e (zrm (d + 1) mc ms) s m ([.ref h0, .int x1, .int x2, .int x3, .int x4] : List Value).toArray below meth c H locs (kc_16 + 0) (ks_17 + 0) (MQ below (zQi g Post) ([.ref h0, .int x1, .int x2, .int x3, .int x4] : List Value).toArray s mc ms (zAd g)) (F0 m 72 ls [.int x_103]) := by
                    intro x_103 hp_101 nx_102 hw H locs hH hz hS
                    have hw := hPP x_103 hp_101 nx_102 hw
                    refine lv_if_ne (tgt := 78) hx hb dX0_table_72 (by decide) (fun hc => ?_) (fun hc => ?_)
                    · have hw := hw.2 hc
                      exact hJ_78 hp_101 nx_102 kc_16 ks_17 _ _ _ hw hl hH hz hS
                    · have hw := hw.1 hc
                      exact hJ_75 hp_101 nx_102 kc_16 ks_17 _ _ _ hw hl hH hz hS
                  simp only [List.mem_cons, List.not_mem_nil, or_false] at hc
                  rcases hc with rfl | rfl | rfl | rfl | rfl | rfl
                  · exact zr_calli (zw_runV (As := []) hk hH hz hS hl.1 er (hw) (cwV 0 hts (lw_V q1969 q1970 q1971 q152 q1978) rfl rfl rfl (by decide +kernel) (z_room (Nat.le_of_ble_eq_true rfl))) he rfl rfl rfl (Nat.le_of_ble_eq_true rfl) dX0_table_69 ⟨hcl, hsl⟩) hS hC
                  · exact zr_calli (zw_runU (As := []) hk hH hz hS hl.1 er (hw) (va_cwU 0 hts (z_U q1969 q1972 q1977 q1970 q152 q1978) rfl rfl rfl rfl (by decide +kernel) (z_room (Nat.le_of_ble_eq_true rfl))) he rfl rfl rfl (Nat.le_of_ble_eq_true rfl) dX0_table_69 ⟨hcl, hsl⟩) hS hC
                  · exact zr_calli (zw_runU (As := []) hk hH hz hS hl.1 er (hw) (va_cwU 0 hts (z_U q1969 q1972 q1974 q1970 q152 q1978) rfl rfl rfl rfl (by decide +kernel) (z_room (Nat.le_of_ble_eq_true rfl))) he rfl rfl rfl (Nat.le_of_ble_eq_true rfl) dX0_table_69 ⟨hcl, hsl⟩) hS hC
                  · exact zr_calli (zw_runU (As := []) hk hH hz hS hl.1 er (hw) (va_cwU 0 hts (z_U q1969 q1972 q1975 q1970 q152 q1978) rfl rfl rfl rfl (by decide +kernel) (z_room (Nat.le_of_ble_eq_true rfl))) he rfl rfl rfl (Nat.le_of_ble_eq_true rfl) dX0_table_69 ⟨hcl, hsl⟩) hS hC
                  · exact zr_calli (zw_runU (As := []) hk hH hz hS hl.1 er (hw) (va_cwU 0 hts (z_U q1969 q1972 q1976 q1970 q152 q1978) rfl rfl rfl rfl (by decide +kernel) (z_room (Nat.le_of_ble_eq_true rfl))) he rfl rfl rfl (Nat.le_of_ble_eq_true rfl) dX0_table_69 ⟨hcl, hsl⟩) hS hC
                  · exact zr_calli (zw_runU (As := []) hk hH hz hS hl.1 er (hw) (va_cwU 0 hts (z_U q1969 q1972 q1973 q1970 q152 q1978) rfl rfl rfl rfl (by decide +kernel) (z_room (Nat.le_of_ble_eq_true rfl))) he rfl rfl rfl (Nat.le_of_ble_eq_true rfl) dX0_table_69 ⟨hcl, hsl⟩) hS hC
            simp only [List.mem_cons, List.not_mem_nil, or_false] at hc
            rcases hc with rfl | rfl | rfl | rfl | rfl | rfl
            · exact zr_calli (zw_runV (As := []) hk hH hz hS hl.1 er (hw) (cwV 0 hts (lw_V q1969 q1970 q1971 q152 q1978) rfl rfl rfl (by decide +kernel) (z_room (Nat.le_of_ble_eq_true rfl))) he rfl rfl rfl (Nat.le_of_ble_eq_true rfl) dX0_table_50 ⟨hcl, hsl⟩) hS hC
            · exact zr_calli (zw_runU (As := []) hk hH hz hS hl.1 er (hw) (va_cwU 0 hts (z_U q1969 q1972 q1977 q1970 q152 q1978) rfl rfl rfl rfl (by decide +kernel) (z_room (Nat.le_of_ble_eq_true rfl))) he rfl rfl rfl (Nat.le_of_ble_eq_true rfl) dX0_table_50 ⟨hcl, hsl⟩) hS hC
            · exact zr_calli (zw_runU (As := []) hk hH hz hS hl.1 er (hw) (va_cwU 0 hts (z_U q1969 q1972 q1974 q1970 q152 q1978) rfl rfl rfl rfl (by decide +kernel) (z_room (Nat.le_of_ble_eq_true rfl))) he rfl rfl rfl (Nat.le_of_ble_eq_true rfl) dX0_table_50 ⟨hcl, hsl⟩) hS hC
            · exact zr_calli (zw_runU (As := []) hk hH hz hS hl.1 er (hw) (va_cwU 0 hts (z_U q1969 q1972 q1975 q1970 q152 q1978) rfl rfl rfl rfl (by decide +kernel) (z_room (Nat.le_of_ble_eq_true rfl))) he rfl rfl rfl (Nat.le_of_ble_eq_true rfl) dX0_table_50 ⟨hcl, hsl⟩) hS hC
            · exact zr_calli (zw_runU (As := []) hk hH hz hS hl.1 er (hw) (va_cwU 0 hts (z_U q1969 q1972 q1976 q1970 q152 q1978) rfl rfl rfl rfl (by decide +kernel) (z_room (Nat.le_of_ble_eq_true rfl))) he rfl rfl rfl (Nat.le_of_ble_eq_true rfl) dX0_table_50 ⟨hcl, hsl⟩) hS hC
            · exact zr_calli (zw_runU (As := []) hk hH hz hS hl.1 er (hw) (va_cwU 0 hts (z_U q1969 q1972 q1973 q1970 q152 q1978) rfl rfl rfl rfl (by decide +kernel) (z_room (Nat.le_of_ble_eq_true rfl))) he rfl rfl rfl (Nat.le_of_ble_eq_true rfl) dX0_table_50 ⟨hcl, hsl⟩) hS hC
          · have hw := hw.1 hc
            exact hJ_41 hp_14 nx_15 kc_16 ks_17 _ _ _ hw hl hH hz hS
        refine lv_icmp_eq (tgt := 35) hx hb dX0_table_24 (by decide) (fun hc => ?_) (fun hc => ?_)
        · have hw := hw.1 hc
          exact hJ_35 hp_11 nx_12 0 0 _ _ _ hw hl hH hz hS
        · have hw := hw.2 hc
          refine lv_iload hx hb dX0_table_27 (lv_at hl 4 rfl) ?_
          obtain ⟨hcl, hsl, hw⟩ := hw
          refine zr_calli (zr_runS (As := [.int x4]) hk hH hz hS hl.1 hw (va_cwS 1 hts (lw_S q1317 q1318 q131 q1319) rfl rfl rfl (by decide +kernel) (z_room (Nat.le_of_ble_eq_true rfl))) rfl rfl (Nat.le_of_ble_eq_true rfl) dX0_table_29 ⟨hcl, hsl⟩) hS (fun x_114 hp_112 nx_113 hw H locs hH hz hS => ?_)
          refine lv_if_eq (tgt := 41) hx hb dX0_table_32 (by decide) (fun hc => ?_) (fun hc => ?_)
          · have hw := hw.1 hc
            exact hJ_41 hp_112 nx_113 0 0 _ _ _ hw hl hH hz hS
          · have hw := hw.2 hc
            exact hJ_35 hp_112 nx_113 0 0 _ _ _ hw hl hH hz hS
def wp_X0_isTable (l : Launch) (g : zG) (d : Nat) (x0 : Int32) (hp : zHp) (nx : Nat) (Post : Int32 → zHp → Nat → Prop) : Prop :=
  (zMt l g yX0_in cX0_in 6 (some .boolean) d 0 0 [.long x0.toInt64, .long (0 : Int64), .long (5 : Int64)] hp nx (zQi g fun x_3 hp_1 nx_2 =>
  (((x_3 = 0 ∨ x_3 = 1) ∧ Post x_3 hp_1 nx_2))))
set_option maxHeartbeats 40000000 in
theorem met_X0_isTable {l : Launch} {g : zG} {d : Nat} {x0 : Int32} {hp : zHp} {nx : Nat} {Post : Int32 → zHp → Nat → Prop} (hw : wp_X0_isTable l g d x0 hp nx Post) : zMt l g yX0_isTable cX0_isTable 1 (some .boolean) (d + 1) 0 0 [.int x0] hp nx (zQi g Post) := by
  refine z_start (by decide) (Nat.le_of_ble_eq_true rfl) ?_
  intro p e s m below meth c hk hr hin hH hz ls hl
  have hx := hk.1.1
  have hb := hk.1.2.1
  have hown := hk.1.2.2.2.1
  have hts := hk.1.2.2.2.2
  have hS : va_S (zAd g) s.heap s.heap [] := va_S.rf
  have hl : lv_has ls 1 [(0, .int x0)] := hl
  unfold wp_X0_isTable at hw
  refine lv_iload_n hx hb dX0_isTable_0 rfl (lv_at hl 0 rfl) ?_
  refine lv_i2l hx hb dX0_isTable_1 rfl ?_
  refine lv_lconst (v := (0 : Int64)) hx hb dX0_isTable_2 (by decide) ?_
  refine lv_ldc2 hx hb hown (hts _ q1307) dX0_isTable_3 ?_
  refine zr_calli (zr_runS (As := [.long x0.toInt64, .long (0 : Int64), .long (5 : Int64)]) hk hH hz hS hl.1 hw (va_cwS 3 hts (lw_S q1308 q1309 q131 q1310) rfl rfl rfl (by decide +kernel) (z_room (Nat.le_of_ble_eq_true rfl))) rfl rfl (Nat.le_of_ble_eq_true rfl) dX0_isTable_6 ⟨Nat.le_of_ble_eq_true rfl, Nat.le_of_ble_eq_true rfl⟩) hS (fun x_3 hp_1 nx_2 hw H locs hH hz hS => ?_)
  exact zr_zret hk hr hH hz hS hw.1 hw.2 (Nat.le_of_ble_eq_true rfl) (Nat.le_of_ble_eq_true rfl) dX0_isTable_9
theorem cw_WhatIfSheet_Table : ∀ ci ∈ [31], zCw "WhatIfSheet$Table" ci := by
  intro ci h
  simp only [List.mem_cons, List.not_mem_nil, or_false] at h
  rcases h with rfl
  · exact ⟨RX31, TX31, 4, rfl, Or.inr rfl⟩
def wp_X0_lays (l : Launch) (g : zG) (d : Nat) (mc ms : Nat) (h0 : Nat) (x1 : Int32) (r2 : Option Nat) (hp : zHp) (nx : Nat) (Post : Int32 → zHp → Nat → Prop) : Prop :=
  (zgR hp (some h0) [0] 1 fun r_4 =>
  (zaR (g.2.1 8) hp r_4 fun a_5 n_6 f_7 => vp_in x1 n_6 ∧ ∀ r_8 : Option Nat, r_8 = f_7 x1.toNatClampNeg →
  (zgR hp (some h0) [0] 1 fun r_12 =>
  (zaR (g.2.1 8) hp r_12 fun a_13 n_14 f_15 => vp_in x1 n_14 ∧ zB g ≤ a_13 ∧ zCa hp r2 [31] ∧ ∀ hp_16 : zHp, hp_16 = va_up hp a_13 (some (.inl (g.2.1 8, n_14, .inr (.inr (.inr (.inr (va_up f_15 x1.toNatClampNeg r2))))))) →
  (∃ c_17 s_18 : Nat, 0 + c_17 ≤ mc ∧ 0 + s_18 ≤ ms ∧ zo hp_16 (some h0) [0] fun a_45 ci_46 fs_47 => zMtW l g yX0_orders cX0_orders 2 (some .int) [(0, 11, 12, 333)] d c_17 s_18 (.ref a_45 :: []) hp_16 nx (zQi g fun x_21 hp_19 nx_20 =>
  (∃ P_45 : (Option Nat) → Int32 → Int32 → zHp → Nat → Nat → Nat → Prop, (∀ (r_22 : Option Nat) (x_23 : Int32) (x_24 : Int32) (hp_25 : zHp) (nx_26 : Nat) (kc_27 : Nat) (ks_28 : Nat), P_45 r_22 x_23 x_24 hp_25 nx_26 kc_27 ks_28 →
  (kc_27 ≤ mc ∧ ks_28 ≤ ms ∧ Post x_24 hp_25 nx_26)) ∧
  ((x_21 = (1 : Int32) →
  P_45 r_8 x_21 x_21 hp_19 nx_20 (0 + c_17) (0 + s_18)) ∧
  (¬ x_21 = (1 : Int32) →
  (zgR hp_19 (some h0) [0] 1 fun r_32 =>
  (zaR (g.2.1 8) hp_19 r_32 fun a_33 n_34 f_35 => vp_in x1 n_34 ∧ zB g ≤ a_33 ∧ zCa hp_19 r_8 [31] ∧ ∀ hp_36 : zHp, hp_36 = va_up hp_19 a_33 (some (.inl (g.2.1 8, n_34, .inr (.inr (.inr (.inr (va_up f_35 x1.toNatClampNeg r_8))))))) →
  (∃ c_37 s_38 : Nat, (0 + c_17) + c_37 ≤ mc ∧ (0 + s_18) + s_38 ≤ ms ∧ zo hp_36 (some h0) [0] fun a_42 ci_43 fs_44 => zMtW l g yX0_orders cX0_orders 2 (some .int) [(0, 11, 12, 333)] d c_37 s_38 (.ref a_42 :: []) hp_36 nx_20 (zQi g fun x_41 hp_39 nx_40 =>
  P_45 r_8 x_21 x_21 hp_39 nx_40 ((0 + c_17) + c_37) ((0 + s_18) + s_38))))))))))))))
set_option maxHeartbeats 40000000 in
theorem met_X0_lays {l : Launch} {g : zG} {d : Nat} {mc ms : Nat} {h0 : Nat} {x1 : Int32} {r2 : Option Nat} {hp : zHp} {nx : Nat} {Post : Int32 → zHp → Nat → Prop} (hw : wp_X0_lays l g d mc ms h0 x1 r2 hp nx Post) : zMtW l g yX0_lays cX0_lays 7 (some .int) [(10, 27, 48, 0), (48, 50, 48, 0)] (d + 1) mc ms [.ref h0, .int x1, va_rf r2] hp nx (zQi g Post) := by
  refine z_startW (by decide) (by cases r2 <;> exact Nat.le_of_ble_eq_true rfl) ?_
  intro p e s m below meth c hk hr hin hH hz ls hl
  have hx := hk.1.1
  have hb := hk.1.2.1
  have hown := hk.1.2.2.2.1
  have hts := hk.1.2.2.2.2
  have hS : va_S (zAd g) s.heap s.heap [] := va_S.rf
  have hl : lv_has ls 7 [(0, va_rf (some h0)), (1, .int x1), (2, va_rf r2)] := by cases r2 <;> exact hl
  unfold wp_X0_lays at hw
  refine zr_aload_n (r := some h0) hx hb dX0_lays_0 rfl (lv_at hl 0 rfl) ?_
  obtain ⟨a_1, ci_2, fs_3, r_4, er, he, hc, hv, hw⟩ := zgR_e hw
  refine zw_get hk hH er he hv (fk_X0_37 hc) dX0_lays_1 ?_
  refine lv_iload_n hx hb dX0_lays_4 rfl (lv_at hl 1 rfl) ?_
  obtain ⟨a_5, n_6, f_7, er, he, hi, hw⟩ := zaR_e hw
  have hw := hw _ rfl
  refine zw_aald hk hH 8 er he rfl rfl hi dX0_lays_5 ?_
  generalize f_7 x1.toNatClampNeg = r_8 at hw ⊢
  refine zr_astore_n (r := r_8) (i := 3) (lv' := [(3, va_rf r_8), (0, va_rf (some h0)), (1, .int x1), (2, va_rf r2)]) hx hb dX0_lays_6 rfl hl (by decide) (by first | rfl | simp [List.filter_cons, z_cat, z_catI, z_catJ, z_catF, z_catD]) (fun ls hl => ?_)
  refine lv_iconst (v := (-1 : Int32)) hx hb dX0_lays_7 (by decide) ?_
  refine lv_istore (lv' := [(4, .int (-1 : Int32)), (3, va_rf r_8), (0, va_rf (some h0)), (1, .int x1), (2, va_rf r2)]) hx hb dX0_lays_8 hl (by decide) (by first | rfl | simp [List.filter_cons, z_cat, z_catI, z_catJ, z_catF, z_catD]) (fun ls hl => ?_)
  refine zr_aload_n (r := some h0) hx hb dX0_lays_10 rfl (lv_at hl 2 rfl) ?_
  obtain ⟨a_9, ci_10, fs_11, r_12, er, he, hc, hv, hw⟩ := zgR_e hw
  refine zw_get hk hH er he hv (fk_X0_37 hc) dX0_lays_11 ?_
  refine lv_iload_n hx hb dX0_lays_14 rfl (lv_at hl 3 rfl) ?_
  refine zr_aload_n (r := r2) hx hb dX0_lays_15 rfl (lv_at hl 4 rfl) ?_
  obtain ⟨a_13, n_14, f_15, er, he, hi, hA, hca, hw⟩ := zaR_e hw
  obtain ⟨hp_16, eh⟩ : ∃ y : zHp, y = va_up hp a_13 (some (.inl (g.2.1 8, n_14, .inr (.inr (.inr (.inr (va_up f_15 x1.toNatClampNeg r2))))))) := ⟨_, rfl⟩
  have hw := hw hp_16 eh
  refine zw_aast (v := r2) (r := r_12) hk hH hz hS 8 er he rfl hi hA hca cw_WhatIfSheet_Table eh dX0_lays_16 (fun H locs hH hz hS => ?_)
  refine zr_aload_n (r := some h0) hx hb dX0_lays_17 rfl (lv_at hl 2 rfl) ?_
  obtain ⟨c_17, s_18, hcl, hsl, hw⟩ := hw
  obtain ⟨a_45, ci_46, fs_47, er, he, hc, hw⟩ := zo_e hw
  obtain rfl := List.mem_singleton.mp hc
  refine zr_calli (zw_runVW (As := []) hk hH hz hS hl.1 er hw (vx_cwVW 0 hts (lw_VW q680 q682 qs2 q131 q683) rfl rfl rfl (by decide +kernel) (z_room (Nat.le_of_ble_eq_true rfl))) he rfl rfl rfl (Nat.le_of_ble_eq_true rfl) dX0_lays_18 ⟨hcl, hsl⟩) hS (fun x_21 hp_19 nx_20 hw H locs hH hz hS => ?_)
  refine lv_istore (lv' := [(4, .int x_21), (3, va_rf r_8), (0, va_rf (some h0)), (1, .int x1), (2, va_rf r2)]) hx hb dX0_lays_21 hl (by decide) (by first | rfl | simp [List.filter_cons, z_cat, z_catI, z_catJ, z_catF, z_catD]) (fun ls hl => ?_)
  refine lv_iload hx hb dX0_lays_23 (lv_at hl 0 rfl) ?_
  refine lv_istore (lv' := [(5, .int x_21), (4, .int x_21), (3, va_rf r_8), (0, va_rf (some h0)), (1, .int x1), (2, va_rf r2)]) hx hb dX0_lays_25 hl (by decide) (by first | rfl | simp [List.filter_cons, z_cat, z_catI, z_catJ, z_catF, z_catD]) (fun ls hl => ?_)
  refine lv_iload hx hb dX0_lays_27 (lv_at hl 1 rfl) ?_
  refine lv_iconst (v := (1 : Int32)) hx hb dX0_lays_29 (by decide) ?_
  obtain ⟨P_45, hP_45, hw⟩ := hw
  have hJ_45 : ∀ (r_22 : Option Nat) (x_23 : Int32) (x_24 : Int32) (hp_25 : zHp) (nx_26 : Nat) (kc_27 : Nat) (ks_28 : Nat) (H : Heap) (locs : List Loc) (ls : Array Slot), P_45 r_22 x_23 x_24 hp_25 nx_26 kc_27 ks_28 → lv_has ls 7 [(0, va_rf (some h0)), (1, .int x1), (2, va_rf r2), (3, va_rf r_22), (4, .int x_23), (5, .int x_24)] → zHd g hp_25 H → H.size = nx_26 → va_S (zAd g) s.heap H locs → W p l e (zrm (d + 1) mc ms) s m ([.ref h0, .int x1, va_rf r2] : List Value).toArray below meth c H locs kc_27 ks_28 (MQ below (zQi g Post) ([.ref h0, .int x1, va_rf r2] : List Value).toArray s mc ms (zAd g)) (F0 m 45 ls []) := by
    intro r_22 x_23 x_24 hp_25 nx_26 kc_27 ks_28 H locs ls hw hl hH hz hS
    have hw := hP_45 r_22 x_23 x_24 hp_25 nx_26 kc_27 ks_28 hw
    refine lv_iload hx hb dX0_lays_45 (lv_at hl 5 rfl) ?_
    obtain ⟨hkc, hks, hw⟩ := hw
    exact zr_iret hk hr hH hz hS hw hkc hks dX0_lays_47
  refine lv_icmp_eq (tgt := 45) hx hb dX0_lays_30 (by decide) (fun hc => ?_) (fun hc => ?_)
  · have hw := hw.1 hc
    exact hJ_45 r_8 x_21 x_21 hp_19 nx_20 (0 + c_17) (0 + s_18) _ _ _ hw (lv_sub hl [3, 4, 5, 2, 1, 0] rfl) hH hz hS
  · have hw := hw.2 hc
    refine zr_aload_n (r := some h0) hx hb dX0_lays_33 rfl (lv_at hl 3 rfl) ?_
    obtain ⟨a_29, ci_30, fs_31, r_32, er, he, hc, hv, hw⟩ := zgR_e hw
    refine zw_get hk hH er he hv (fk_X0_37 hc) dX0_lays_34 ?_
    refine lv_iload_n hx hb dX0_lays_37 rfl (lv_at hl 4 rfl) ?_
    refine zr_aload_n (r := r_8) hx hb dX0_lays_38 rfl (lv_at hl 2 rfl) ?_
    obtain ⟨a_33, n_34, f_35, er, he, hi, hA, hca, hw⟩ := zaR_e hw
    obtain ⟨hp_36, eh⟩ : ∃ y : zHp, y = va_up hp_19 a_33 (some (.inl (g.2.1 8, n_34, .inr (.inr (.inr (.inr (va_up f_35 x1.toNatClampNeg r_8))))))) := ⟨_, rfl⟩
    have hw := hw hp_36 eh
    refine zw_aast (v := r_8) (r := r_32) hk hH hz hS 8 er he rfl hi hA hca cw_WhatIfSheet_Table eh dX0_lays_39 (fun H locs hH hz hS => ?_)
    refine zr_aload_n (r := some h0) hx hb dX0_lays_40 rfl (lv_at hl 3 rfl) ?_
    obtain ⟨c_37, s_38, hcl, hsl, hw⟩ := hw
    obtain ⟨a_42, ci_43, fs_44, er, he, hc, hw⟩ := zo_e hw
    obtain rfl := List.mem_singleton.mp hc
    refine zr_calli (zw_runVW (As := []) hk hH hz hS hl.1 er hw (vx_cwVW 0 hts (lw_VW q680 q682 qs2 q131 q683) rfl rfl rfl (by decide +kernel) (z_room (Nat.le_of_ble_eq_true rfl))) he rfl rfl rfl (Nat.le_of_ble_eq_true rfl) dX0_lays_41 ⟨hcl, hsl⟩) hS (fun x_41 hp_39 nx_40 hw H locs hH hz hS => ?_)
    refine lv_pop hx hb dX0_lays_44 rfl ?_
    exact hJ_45 r_8 x_21 x_21 hp_39 nx_40 ((0 + c_17) + c_37) ((0 + s_18) + s_38) _ _ _ hw (lv_sub hl [3, 4, 5, 2, 1, 0] rfl) hH hz hS
def wp_X0_axis (l : Launch) (g : zG) (d : Nat) (mc ms : Nat) (h0 : Nat) (x1 : Int32) (x2 : Int32) (x3 : Int32) (x4 : Int32) (x5 : Int32) (hp : zHp) (nx : Nat) (Post : Int32 → zHp → Nat → Prop) : Prop :=
  (0 ≤ mc ∧ 0 ≤ ms ∧ zMt l g yX0_isTable cX0_isTable 1 (some .boolean) d 0 0 [.int x1] hp nx (zQi g fun x_3 hp_1 nx_2 =>
  (∃ P_59 : zHp → Nat → Nat → Nat → Prop, (∀ (hp_4 : zHp) (nx_5 : Nat) (kc_6 : Nat) (ks_7 : Nat), P_59 hp_4 nx_5 kc_6 ks_7 →
  (kc_6 ≤ mc ∧ ks_7 ≤ ms ∧ Post (-2 : Int32) hp_4 nx_5)) ∧
  ((x_3 = 0 →
  P_59 hp_1 nx_2 0 0) ∧
  (¬ x_3 = 0 →
  (0 ≤ mc ∧ 0 ≤ ms ∧ zMt l g yX0_in cX0_in 6 (some .boolean) d 0 0 [.long x2.toInt64, .long (0 : Int64), .long (1 : Int64)] hp_1 nx_2 (zQi g fun x_10 hp_8 nx_9 =>
  ((x_10 = 0 →
  P_59 hp_8 nx_9 0 0) ∧
  (¬ x_10 = 0 →
  (0 ≤ mc ∧ 0 ≤ ms ∧ zMt l g yX0_in cX0_in 6 (some .boolean) d 0 0 [.long x3.toInt64, .long (-80000 : Int64), .long (80000 : Int64)] hp_8 nx_9 (zQi g fun x_13 hp_11 nx_12 =>
  ((x_13 = 0 →
  P_59 hp_11 nx_12 0 0) ∧
  (¬ x_13 = 0 →
  (0 ≤ mc ∧ 0 ≤ ms ∧ zMt l g yX0_in cX0_in 6 (some .boolean) d 0 0 [.long x4.toInt64, .long (-8000 : Int64), .long (8000 : Int64)] hp_11 nx_12 (zQi g fun x_16 hp_14 nx_15 =>
  ((x_16 = 0 →
  P_59 hp_14 nx_15 0 0) ∧
  (¬ x_16 = 0 →
  (0 ≤ mc ∧ 0 ≤ ms ∧ zMt l g yX0_in cX0_in 6 (some .boolean) d 0 0 [.long x5.toInt64, .long (1 : Int64), .long (8 : Int64)] hp_14 nx_15 (zQi g fun x_19 hp_17 nx_18 =>
  ((x_19 = 0 →
  P_59 hp_17 nx_18 0 0) ∧
  (¬ x_19 = 0 →
  (0 ≤ mc ∧ 0 ≤ ms ∧ zo hp_17 (some h0) [0] fun a_49 ci_50 fs_51 => zMt l g yX0_isFixed cX0_isFixed 3 (some .boolean) d 0 0 (.ref a_49 :: [.int x1, .int x2]) hp_17 nx_18 (zQi g fun x_22 hp_20 nx_21 =>
  ((x_22 = 0 →
  (zna g mc ms hp_20 nx_21 0 0 1 x5 (.inr (.inr (.inr (.inl (fun _ => 0))))) fun hp_23 =>
  ∀ nx_24 kc_25 ks_26 : Nat, nx_24 = (nx_21 + 1) → kc_25 = (0 + 1) → ks_26 = (0 + x5.toNatClampNeg) →
  (∃ I_83 : Nat → (Option Nat) → Int32 → zHp → Nat → Nat → Nat → Prop, (∃ n_48, I_83 n_48 (some nx_21) (0 : Int32) hp_23 nx_24 kc_25 ks_26) ∧ ∀ (n_33 : Nat) (r_27 : Option Nat) (x_28 : Int32) (hp_29 : zHp) (nx_30 : Nat) (kc_31 : Nat) (ks_32 : Nat), I_83 n_33 r_27 x_28 hp_29 nx_30 kc_31 ks_32 →
  ((x5 ≤ x_28 →
  (∃ c_34 s_35 : Nat, kc_31 + c_34 ≤ mc ∧ ks_32 + s_35 ≤ ms ∧ zo hp_29 (some h0) [0] fun a_39 ci_40 fs_41 => zMt l g yX0_varies cX0_varies 7 (some .int) d c_34 s_35 (.ref a_39 :: [.int x1, .int x2, va_rf r_27]) hp_29 nx_30 (zQi g fun x_38 hp_36 nx_37 =>
  ((kc_31 + c_34) ≤ mc ∧ (ks_32 + s_35) ≤ ms ∧ Post x_38 hp_36 nx_37)))) ∧
  (¬ x5 ≤ x_28 →
  (vf_n64 (FP.ddiv (FP.i2d (x3 + (x_28 * x4))) (4620693217682128896 : UInt64)) ∧ (zaD (g.2.1 1) hp_29 r_27 fun a_42 n_43 f_44 => vp_in x_28 n_43 ∧ zB g ≤ a_42 ∧ ∀ hp_45 : zHp, hp_45 = va_up hp_29 a_42 (some (.inl (g.2.1 1, n_43, .inr (.inr (.inr (.inl (va_up f_44 x_28.toNatClampNeg (FP.ddiv (FP.i2d (x3 + (x_28 * x4))) (4620693217682128896 : UInt64))))))))) →
  (∀ x_46 : Int32, x_46 = x_28 + (1 : Int32) →
  (∃ k_47, k_47 < n_33 ∧ I_83 k_47 r_27 x_46 hp_45 nx_30 kc_31 ks_32))))))))) ∧
  (¬ x_22 = 0 →
  (0 ≤ mc ∧ 0 ≤ ms ∧ Post (-3 : Int32) hp_20 nx_21))))))))))))))))))))))))))
set_option maxHeartbeats 40000000 in
theorem met_X0_axis {l : Launch} {g : zG} {d : Nat} {mc ms : Nat} {h0 : Nat} {x1 : Int32} {x2 : Int32} {x3 : Int32} {x4 : Int32} {x5 : Int32} {hp : zHp} {nx : Nat} {Post : Int32 → zHp → Nat → Prop} (hw : wp_X0_axis l g d mc ms h0 x1 x2 x3 x4 x5 hp nx Post) : zMt l g yX0_axis cX0_axis 8 (some .int) (d + 1) mc ms [.ref h0, .int x1, .int x2, .int x3, .int x4, .int x5] hp nx (zQi g Post) := by
  refine z_start (by decide) (Nat.le_of_ble_eq_true rfl) ?_
  intro p e s m below meth c hk hr hin hH hz ls hl
  have hx := hk.1.1
  have hb := hk.1.2.1
  have hown := hk.1.2.2.2.1
  have hts := hk.1.2.2.2.2
  have hS : va_S (zAd g) s.heap s.heap [] := va_S.rf
  have hl : lv_has ls 8 [(0, va_rf (some h0)), (1, .int x1), (2, .int x2), (3, .int x3), (4, .int x4), (5, .int x5)] := hl
  unfold wp_X0_axis at hw
  refine lv_iload_n hx hb dX0_axis_0 rfl (lv_at hl 1 rfl) ?_
  obtain ⟨hcl, hsl, hw⟩ := hw
  refine zr_calli (zr_runS (As := [.int x1]) hk hH hz hS hl.1 hw (va_cwS 1 hts (lw_S q2343 q2344 q131 q2345) rfl rfl rfl (by decide +kernel) (z_room (Nat.le_of_ble_eq_true rfl))) rfl rfl (Nat.le_of_ble_eq_true rfl) dX0_axis_1 ⟨hcl, hsl⟩) hS (fun x_3 hp_1 nx_2 hw H locs hH hz hS => ?_)
  obtain ⟨P_59, hP_59, hw⟩ := hw
  have hJ_59 : ∀ (hp_4 : zHp) (nx_5 : Nat) (kc_6 : Nat) (ks_7 : Nat) (H : Heap) (locs : List Loc) (ls : Array Slot), P_59 hp_4 nx_5 kc_6 ks_7 → lv_has ls 8 [(0, va_rf (some h0)), (1, .int x1), (2, .int x2), (3, .int x3), (4, .int x4), (5, .int x5)] → zHd g hp_4 H → H.size = nx_5 → va_S (zAd g) s.heap H locs → W p l e (zrm (d + 1) mc ms) s m ([.ref h0, .int x1, .int x2, .int x3, .int x4, .int x5] : List Value).toArray below meth c H locs kc_6 ks_7 (MQ below (zQi g Post) ([.ref h0, .int x1, .int x2, .int x3, .int x4, .int x5] : List Value).toArray s mc ms (zAd g)) (F0 m 59 ls []) := by
    intro hp_4 nx_5 kc_6 ks_7 H locs ls hw hl hH hz hS
    have hw := hP_59 hp_4 nx_5 kc_6 ks_7 hw
    refine lv_bipush (v := (-2 : Int32)) hx hb dX0_axis_59 (by decide) ?_
    obtain ⟨hkc, hks, hw⟩ := hw
    exact zr_iret hk hr hH hz hS hw hkc hks dX0_axis_61
  refine lv_if_eq (tgt := 59) hx hb dX0_axis_4 (by decide) (fun hc => ?_) (fun hc => ?_)
  · have hw := hw.1 hc
    exact hJ_59 hp_1 nx_2 0 0 _ _ _ hw hl hH hz hS
  · have hw := hw.2 hc
    refine lv_iload_n hx hb dX0_axis_7 rfl (lv_at hl 2 rfl) ?_
    refine lv_i2l hx hb dX0_axis_8 rfl ?_
    refine lv_lconst (v := (0 : Int64)) hx hb dX0_axis_9 (by decide) ?_
    refine lv_lconst (v := (1 : Int64)) hx hb dX0_axis_10 (by decide) ?_
    obtain ⟨hcl, hsl, hw⟩ := hw
    refine zr_calli (zr_runS (As := [.long x2.toInt64, .long (0 : Int64), .long (1 : Int64)]) hk hH hz hS hl.1 hw (va_cwS 3 hts (lw_S q1308 q1309 q131 q1310) rfl rfl rfl (by decide +kernel) (z_room (Nat.le_of_ble_eq_true rfl))) rfl rfl (Nat.le_of_ble_eq_true rfl) dX0_axis_11 ⟨hcl, hsl⟩) hS (fun x_10 hp_8 nx_9 hw H locs hH hz hS => ?_)
    refine lv_if_eq (tgt := 59) hx hb dX0_axis_14 (by decide) (fun hc => ?_) (fun hc => ?_)
    · have hw := hw.1 hc
      exact hJ_59 hp_8 nx_9 0 0 _ _ _ hw hl hH hz hS
    · have hw := hw.2 hc
      refine lv_iload_n hx hb dX0_axis_17 rfl (lv_at hl 3 rfl) ?_
      refine lv_i2l hx hb dX0_axis_18 rfl ?_
      refine lv_ldc2 hx hb hown (hts _ q2392) dX0_axis_19 ?_
      refine lv_ldc2 hx hb hown (hts _ q2393) dX0_axis_22 ?_
      obtain ⟨hcl, hsl, hw⟩ := hw
      refine zr_calli (zr_runS (As := [.long x3.toInt64, .long (-80000 : Int64), .long (80000 : Int64)]) hk hH hz hS hl.1 hw (va_cwS 3 hts (lw_S q1308 q1309 q131 q1310) rfl rfl rfl (by decide +kernel) (z_room (Nat.le_of_ble_eq_true rfl))) rfl rfl (Nat.le_of_ble_eq_true rfl) dX0_axis_25 ⟨hcl, hsl⟩) hS (fun x_13 hp_11 nx_12 hw H locs hH hz hS => ?_)
      refine lv_if_eq (tgt := 59) hx hb dX0_axis_28 (by decide) (fun hc => ?_) (fun hc => ?_)
      · have hw := hw.1 hc
        exact hJ_59 hp_11 nx_12 0 0 _ _ _ hw hl hH hz hS
      · have hw := hw.2 hc
        refine lv_iload hx hb dX0_axis_31 (lv_at hl 4 rfl) ?_
        refine lv_i2l hx hb dX0_axis_33 rfl ?_
        refine lv_ldc2 hx hb hown (hts _ q2394) dX0_axis_34 ?_
        refine lv_ldc2 hx hb hown (hts _ q2395) dX0_axis_37 ?_
        obtain ⟨hcl, hsl, hw⟩ := hw
        refine zr_calli (zr_runS (As := [.long x4.toInt64, .long (-8000 : Int64), .long (8000 : Int64)]) hk hH hz hS hl.1 hw (va_cwS 3 hts (lw_S q1308 q1309 q131 q1310) rfl rfl rfl (by decide +kernel) (z_room (Nat.le_of_ble_eq_true rfl))) rfl rfl (Nat.le_of_ble_eq_true rfl) dX0_axis_40 ⟨hcl, hsl⟩) hS (fun x_16 hp_14 nx_15 hw H locs hH hz hS => ?_)
        refine lv_if_eq (tgt := 59) hx hb dX0_axis_43 (by decide) (fun hc => ?_) (fun hc => ?_)
        · have hw := hw.1 hc
          exact hJ_59 hp_14 nx_15 0 0 _ _ _ hw hl hH hz hS
        · have hw := hw.2 hc
          refine lv_iload hx hb dX0_axis_46 (lv_at hl 5 rfl) ?_
          refine lv_i2l hx hb dX0_axis_48 rfl ?_
          refine lv_lconst (v := (1 : Int64)) hx hb dX0_axis_49 (by decide) ?_
          refine lv_ldc2 hx hb hown (hts _ q2396) dX0_axis_50 ?_
          obtain ⟨hcl, hsl, hw⟩ := hw
          refine zr_calli (zr_runS (As := [.long x5.toInt64, .long (1 : Int64), .long (8 : Int64)]) hk hH hz hS hl.1 hw (va_cwS 3 hts (lw_S q1308 q1309 q131 q1310) rfl rfl rfl (by decide +kernel) (z_room (Nat.le_of_ble_eq_true rfl))) rfl rfl (Nat.le_of_ble_eq_true rfl) dX0_axis_53 ⟨hcl, hsl⟩) hS (fun x_19 hp_17 nx_18 hw H locs hH hz hS => ?_)
          refine lv_if_ne (tgt := 62) hx hb dX0_axis_56 (by decide) (fun hc => ?_) (fun hc => ?_)
          · have hw := hw.2 hc
            refine zr_aload_n (r := some h0) hx hb dX0_axis_62 rfl (lv_at hl 0 rfl) ?_
            refine lv_iload_n hx hb dX0_axis_63 rfl (lv_at hl 1 rfl) ?_
            refine lv_iload_n hx hb dX0_axis_64 rfl (lv_at hl 2 rfl) ?_
            obtain ⟨hcl, hsl, hw⟩ := hw
            obtain ⟨a_49, ci_50, fs_51, er, he, hc, hw⟩ := zo_e hw
            obtain rfl := List.mem_singleton.mp hc
            refine zr_calli (zw_runV (As := [.int x1, .int x2]) hk hH hz hS hl.1 er hw (cwV 2 hts (lw_V q2397 q2399 qs53 q131 q2400) rfl rfl rfl (by decide +kernel) (z_room (Nat.le_of_ble_eq_true rfl))) he rfl rfl rfl (Nat.le_of_ble_eq_true rfl) dX0_axis_65 ⟨hcl, hsl⟩) hS (fun x_22 hp_20 nx_21 hw H locs hH hz hS => ?_)
            refine lv_if_eq (tgt := 74) hx hb dX0_axis_68 (by decide) (fun hc => ?_) (fun hc => ?_)
            · have hw := hw.1 hc
              refine lv_iload hx hb dX0_axis_74 (lv_at hl 5 rfl) ?_
              obtain ⟨hn0, hn1, hcl, hsl, hw⟩ := hw
              refine zx_newa hk hH hz hS (atype := .double) 1 (ty := .double) rfl q275 rfl (fun _ _ h => h) (a0 := (x5.toNatClampNeg, .inr (.inr (.inr (.inl (fun _ => 0)))))) (fun _ => rfl) hn0 rfl (by simp only [componentBytes]; omega) hcl hsl dX0_axis_76 (fun H hH hz hS hlt hnb => ?_)
              have hw := hw hlt hnb
              generalize va_up hp_20 nx_21 _ = hp_23 at hH hw
              obtain ⟨kc_25, ekc⟩ : ∃ k, k = (0 + 1) := ⟨_, rfl⟩
              obtain ⟨ks_26, eks⟩ : ∃ k, k = (0 + x5.toNatClampNeg) := ⟨_, rfl⟩
              have hw := hw _ _ _ rfl ekc eks
              refine W.widen (Nat.le_of_eq ekc.symm) (Nat.le_of_eq eks.symm) ?_
              clear ekc eks
              generalize (nx_21 + 1) = nx_24 at hz hw
              refine zr_astore (r := some nx_21) (lv' := [(6, va_rf (some nx_21)), (0, va_rf (some h0)), (1, .int x1), (2, .int x2), (3, .int x3), (4, .int x4), (5, .int x5)]) hx hb dX0_axis_78 hl (by decide) (by first | rfl | simp [List.filter_cons, z_cat, z_catI, z_catJ, z_catF, z_catD]) (fun ls hl => ?_)
              refine lv_iconst (v := (0 : Int32)) hx hb dX0_axis_80 (by decide) ?_
              refine lv_istore (lv' := [(7, .int (0 : Int32)), (6, va_rf (some nx_21)), (0, va_rf (some h0)), (1, .int x1), (2, .int x2), (3, .int x3), (4, .int x4), (5, .int x5)]) hx hb dX0_axis_81 hl (by decide) (by first | rfl | simp [List.filter_cons, z_cat, z_catI, z_catJ, z_catF, z_catD]) (fun ls hl => ?_)
              obtain ⟨I_83, ⟨n_48, hI⟩, hB_83⟩ := hw
              have hL_83 : ∀ (n_33 : Nat) (r_27 : Option Nat) (x_28 : Int32) (hp_29 : zHp) (nx_30 : Nat) (kc_31 : Nat) (ks_32 : Nat) (H : Heap) (locs : List Loc) (ls : Array Slot), I_83 n_33 r_27 x_28 hp_29 nx_30 kc_31 ks_32 → lv_has ls 8 [(0, va_rf (some h0)), (1, .int x1), (2, .int x2), (3, .int x3), (4, .int x4), (5, .int x5), (6, va_rf r_27), (7, .int x_28)] → zHd g hp_29 H → H.size = nx_30 → va_S (zAd g) s.heap H locs → W p l e (zrm (d + 1) mc ms) s m ([.ref h0, .int x1, .int x2, .int x3, .int x4, .int x5] : List Value).toArray below meth c H locs kc_31 ks_32 (MQ below (zQi g Post) ([.ref h0, .int x1, .int x2, .int x3, .int x4, .int x5] : List Value).toArray s mc ms (zAd g)) (F0 m 83 ls []) := by
                intro n_33
                induction n_33 using Nat.strongRecOn with
                | _ n_33 ih_83 =>
                  intro r_27 x_28 hp_29 nx_30 kc_31 ks_32 H locs ls hw hl hH hz hS
                  have hw := hB_83 n_33 r_27 x_28 hp_29 nx_30 kc_31 ks_32 hw
                  refine lv_iload hx hb dX0_axis_83 (lv_at hl 7 rfl) ?_
                  refine lv_iload hx hb dX0_axis_85 (lv_at hl 5 rfl) ?_
                  refine lv_icmp_ge (tgt := 113) hx hb dX0_axis_87 (by decide) (fun hc => ?_) (fun hc => ?_)
                  · have hw := hw.1 hc
                    refine zr_aload_n (r := some h0) hx hb dX0_axis_113 rfl (lv_at hl 0 rfl) ?_
                    refine lv_iload_n hx hb dX0_axis_114 rfl (lv_at hl 1 rfl) ?_
                    refine lv_iload_n hx hb dX0_axis_115 rfl (lv_at hl 2 rfl) ?_
                    refine zr_aload (r := r_27) hx hb dX0_axis_116 (lv_at hl 6 rfl) ?_
                    obtain ⟨c_34, s_35, hcl, hsl, hw⟩ := hw
                    obtain ⟨a_39, ci_40, fs_41, er, he, hc, hw⟩ := zo_e hw
                    obtain rfl := List.mem_singleton.mp hc
                    refine zr_calli (zw_runV (As := [.int x1, .int x2, va_rf r_27]) hk hH hz hS hl.1 er hw (cwV 3 hts (lw_V q2401 q2403 qs54 q131 q2404) rfl rfl rfl (by decide +kernel) (z_room (Nat.le_of_ble_eq_true rfl))) he rfl rfl rfl (Nat.le_of_ble_eq_true rfl) dX0_axis_118 ⟨hcl, hsl⟩) hS (fun x_38 hp_36 nx_37 hw H locs hH hz hS => ?_)
                    obtain ⟨hkc, hks, hw⟩ := hw
                    exact zr_iret hk hr hH hz hS hw hkc hks dX0_axis_121
                  · have hw := hw.2 hc
                    refine zr_aload (r := r_27) hx hb dX0_axis_90 (lv_at hl 6 rfl) ?_
                    refine lv_iload hx hb dX0_axis_92 (lv_at hl 7 rfl) ?_
                    refine lv_iload_n hx hb dX0_axis_94 rfl (lv_at hl 3 rfl) ?_
                    refine lv_iload hx hb dX0_axis_95 (lv_at hl 7 rfl) ?_
                    refine lv_iload hx hb dX0_axis_97 (lv_at hl 4 rfl) ?_
                    refine lv_imul hx hb dX0_axis_99 ?_
                    refine lv_iadd hx hb dX0_axis_100 ?_
                    refine lv_i2d hx hb dX0_axis_101 ?_
                    refine lv_ldc2d hx hb hown (hts _ q1979) dX0_axis_102 ?_
                    obtain ⟨hne, hw⟩ := hw
                    refine lv_ddiv hx hb dX0_axis_105 hne ?_
                    obtain ⟨a_42, n_43, f_44, er, he, hi, hA, hw⟩ := zaD_e hw
                    obtain ⟨hp_45, eh⟩ : ∃ y : zHp, y = va_up hp_29 a_42 (some (.inl (g.2.1 1, n_43, .inr (.inr (.inr (.inl (va_up f_44 x_28.toNatClampNeg (FP.ddiv (FP.i2d (x3 + (x_28 * x4))) (4620693217682128896 : UInt64))))))))) := ⟨_, rfl⟩
                    have hw := hw hp_45 eh
                    refine zw_dast hk hH hz hS er he hi hA eh dX0_axis_106 (fun H locs hH hz hS => ?_)
                    obtain ⟨x_46, ex_46⟩ : ∃ y : Int32, y = x_28 + (1 : Int32) := ⟨_, rfl⟩
                    have hw := hw x_46 ex_46
                    refine lv_iinc (v := x_46) (lv' := [(7, .int x_46), (0, va_rf (some h0)), (1, .int x1), (2, .int x2), (3, .int x3), (4, .int x4), (5, .int x5), (6, va_rf r_27)]) hx hb dX0_axis_107 hl (k := 7) rfl (by rw [ex_46]; rfl) (by decide) (by first | rfl | simp [List.filter_cons, z_cat, z_catI, z_catJ, z_catF, z_catD]) (fun ls hl => ?_)
                    refine lv_goto (tgt := 83) hx hb dX0_axis_110 (by decide) ?_
                    obtain ⟨k_47, hlt, hw⟩ := hw
                    exact ih_83 k_47 hlt r_27 x_46 hp_45 nx_30 kc_31 ks_32 _ _ _ hw (lv_sub hl [1, 2, 3, 4, 5, 6, 7, 0] rfl) hH hz hS
              exact hL_83 n_48 (some nx_21) (0 : Int32) hp_23 nx_24 kc_25 ks_26 _ _ _ hI (lv_sub hl [2, 3, 4, 5, 6, 7, 1, 0] rfl) hH hz hS
            · have hw := hw.2 hc
              refine lv_bipush (v := (-3 : Int32)) hx hb dX0_axis_71 (by decide) ?_
              obtain ⟨hkc, hks, hw⟩ := hw
              exact zr_iret hk hr hH hz hS hw hkc hks dX0_axis_73
          · have hw := hw.1 hc
            exact hJ_59 hp_17 nx_18 0 0 _ _ _ hw hl hH hz hS
def wp_X0_isFixed (l : Launch) (g : zG) (d : Nat) (h0 : Nat) (x1 : Int32) (x2 : Int32) (hp : zHp) (nx : Nat) (Post : Int32 → zHp → Nat → Prop) : Prop :=
  (zgR hp (some h0) [0] 1 fun r_4 =>
  (zaR (g.2.1 8) hp r_4 fun a_5 n_6 f_7 => vp_in x1 n_6 ∧ ∀ r_8 : Option Nat, r_8 = f_7 x1.toNatClampNeg →
  (∃ P_31 : Int32 → Prop, (∀ (x_9 : Int32), P_31 x_9 →
  (((x_9 = 0 ∨ x_9 = 1) ∧ Post x_9 hp nx))) ∧
  (∃ P_26 : Prop, (P_26 →
  P_31 (1 : Int32)) ∧
  ((r_8 = none →
  P_26) ∧
  (¬ r_8 = none →
  (∃ P_30 : Prop, (P_30 →
  P_31 (0 : Int32)) ∧
  ((x2 = (1 : Int32) →
  (zgR hp (some h0) [0] 1 fun r_13 =>
  (zaR (g.2.1 8) hp r_13 fun a_14 n_15 f_16 => vp_in x1 n_15 ∧ ∀ r_17 : Option Nat, r_17 = f_16 x1.toNatClampNeg →
  (zgR hp r_17 [31] 3 fun r_21 =>
  ((r_21 = none →
  P_26) ∧
  (¬ r_21 = none →
  P_30)))))) ∧
  (¬ x2 = (1 : Int32) →
  P_30)))))))))
set_option maxHeartbeats 40000000 in
theorem met_X0_isFixed {l : Launch} {g : zG} {d : Nat} {h0 : Nat} {x1 : Int32} {x2 : Int32} {hp : zHp} {nx : Nat} {Post : Int32 → zHp → Nat → Prop} (hw : wp_X0_isFixed l g d h0 x1 x2 hp nx Post) : zMt l g yX0_isFixed cX0_isFixed 3 (some .boolean) (d + 1) 0 0 [.ref h0, .int x1, .int x2] hp nx (zQi g Post) := by
  refine z_start (by decide) (Nat.le_of_ble_eq_true rfl) ?_
  intro p e s m below meth c hk hr hin hH hz ls hl
  have hx := hk.1.1
  have hb := hk.1.2.1
  have hown := hk.1.2.2.2.1
  have hts := hk.1.2.2.2.2
  have hS : va_S (zAd g) s.heap s.heap [] := va_S.rf
  have hl : lv_has ls 3 [(0, va_rf (some h0)), (1, .int x1), (2, .int x2)] := hl
  unfold wp_X0_isFixed at hw
  refine zr_aload_n (r := some h0) hx hb dX0_isFixed_0 rfl (lv_at hl 0 rfl) ?_
  obtain ⟨a_1, ci_2, fs_3, r_4, er, he, hc, hv, hw⟩ := zgR_e hw
  refine zw_get hk hH er he hv (fk_X0_37 hc) dX0_isFixed_1 ?_
  refine lv_iload_n hx hb dX0_isFixed_4 rfl (lv_at hl 1 rfl) ?_
  obtain ⟨a_5, n_6, f_7, er, he, hi, hw⟩ := zaR_e hw
  have hw := hw _ rfl
  refine zw_aald hk hH 8 er he rfl rfl hi dX0_isFixed_5 ?_
  generalize f_7 x1.toNatClampNeg = r_8 at hw ⊢
  obtain ⟨P_31, hP_31, hw⟩ := hw
  have hJ_31 : ∀ (x_9 : Int32) (H : Heap) (locs : List Loc) (ls : Array Slot), P_31 x_9 → lv_has ls 3 [(0, va_rf (some h0)), (1, .int x1), (2, .int x2)] → zHd g hp H → H.size = nx → va_S (zAd g) s.heap H locs → W p l e (zrm (d + 1) 0 0) s m ([.ref h0, .int x1, .int x2] : List Value).toArray below meth c H locs 0 0 (MQ below (zQi g Post) ([.ref h0, .int x1, .int x2] : List Value).toArray s 0 0 (zAd g)) (F0 m 31 ls [.int x_9]) := by
    intro x_9 H locs ls hw hl hH hz hS
    have hw := hP_31 x_9 hw
    exact zr_zret hk hr hH hz hS hw.1 hw.2 (Nat.le_of_ble_eq_true rfl) (Nat.le_of_ble_eq_true rfl) dX0_isFixed_31
  obtain ⟨P_26, hP_26, hw⟩ := hw
  have hJ_26 : ∀  (H : Heap) (locs : List Loc) (ls : Array Slot), P_26  → lv_has ls 3 [(0, va_rf (some h0)), (1, .int x1), (2, .int x2)] → zHd g hp H → H.size = nx → va_S (zAd g) s.heap H locs → W p l e (zrm (d + 1) 0 0) s m ([.ref h0, .int x1, .int x2] : List Value).toArray below meth c H locs 0 0 (MQ below (zQi g Post) ([.ref h0, .int x1, .int x2] : List Value).toArray s 0 0 (zAd g)) (F0 m 26 ls []) := by
    intro  H locs ls hw hl hH hz hS
    have hw := hP_26  hw
    refine lv_iconst (v := (1 : Int32)) hx hb dX0_isFixed_26 (by decide) ?_
    refine lv_goto (tgt := 31) hx hb dX0_isFixed_27 (by decide) ?_
    exact hJ_31 (1 : Int32) _ _ _ hw hl hH hz hS
  refine zr_ifnull (r := r_8) (tgt := 26) hx hb dX0_isFixed_6 (by decide) (fun hc => ?_) (fun hc => ?_)
  · have hw := hw.1 hc
    exact hJ_26  _ _ _ hw hl hH hz hS
  · have hw := hw.2 hc
    refine lv_iload_n hx hb dX0_isFixed_9 rfl (lv_at hl 2 rfl) ?_
    refine lv_iconst (v := (1 : Int32)) hx hb dX0_isFixed_10 (by decide) ?_
    obtain ⟨P_30, hP_30, hw⟩ := hw
    have hJ_30 : ∀  (H : Heap) (locs : List Loc) (ls : Array Slot), P_30  → lv_has ls 3 [(0, va_rf (some h0)), (1, .int x1), (2, .int x2)] → zHd g hp H → H.size = nx → va_S (zAd g) s.heap H locs → W p l e (zrm (d + 1) 0 0) s m ([.ref h0, .int x1, .int x2] : List Value).toArray below meth c H locs 0 0 (MQ below (zQi g Post) ([.ref h0, .int x1, .int x2] : List Value).toArray s 0 0 (zAd g)) (F0 m 30 ls []) := by
      intro  H locs ls hw hl hH hz hS
      have hw := hP_30  hw
      refine lv_iconst (v := (0 : Int32)) hx hb dX0_isFixed_30 (by decide) ?_
      exact hJ_31 (0 : Int32) _ _ _ hw hl hH hz hS
    refine lv_icmp_ne (tgt := 30) hx hb dX0_isFixed_11 (by decide) (fun hc => ?_) (fun hc => ?_)
    · have hw := hw.2 hc
      exact hJ_30  _ _ _ hw hl hH hz hS
    · have hw := hw.1 hc
      refine zr_aload_n (r := some h0) hx hb dX0_isFixed_14 rfl (lv_at hl 0 rfl) ?_
      obtain ⟨a_10, ci_11, fs_12, r_13, er, he, hc, hv, hw⟩ := zgR_e hw
      refine zw_get hk hH er he hv (fk_X0_37 hc) dX0_isFixed_15 ?_
      refine lv_iload_n hx hb dX0_isFixed_18 rfl (lv_at hl 1 rfl) ?_
      obtain ⟨a_14, n_15, f_16, er, he, hi, hw⟩ := zaR_e hw
      have hw := hw _ rfl
      refine zw_aald hk hH 8 er he rfl rfl hi dX0_isFixed_19 ?_
      generalize f_16 x1.toNatClampNeg = r_17 at hw ⊢
      obtain ⟨a_18, ci_19, fs_20, r_21, er, he, hc, hv, hw⟩ := zgR_e hw
      refine zw_get hk hH er he hv (fk_X0_190 hc) dX0_isFixed_20 ?_
      refine zr_ifnonnull (r := r_21) (tgt := 30) hx hb dX0_isFixed_23 (by decide) (fun hc => ?_) (fun hc => ?_)
      · have hw := hw.2 hc
        exact hJ_30  _ _ _ hw hl hH hz hS
      · have hw := hw.1 hc
        exact hJ_26  _ _ _ hw hl hH hz hS
def wp_X0_varies (l : Launch) (g : zG) (d : Nat) (mc ms : Nat) (h0 : Nat) (x1 : Int32) (x2 : Int32) (r3 : Option Nat) (hp : zHp) (nx : Nat) (Post : Int32 → zHp → Nat → Prop) : Prop :=
  (zgR hp (some h0) [0] 1 fun r_4 =>
  (zaR (g.2.1 8) hp r_4 fun a_5 n_6 f_7 => vp_in x1 n_6 ∧ ∀ r_8 : Option Nat, r_8 = f_7 x1.toNatClampNeg →
  (znw g mc ms hp nx 0 0 32 fun hp_9 =>
  ∀ nx_10 kc_11 ks_12 : Nat, nx_10 = (nx + 1) → kc_11 = (0 + 1) → ks_12 = (0 + zNn 32) →
  (∃ P_35 : (Option Nat) → (Option Nat) → (Option Nat) → Int32 → zHp → Nat → Nat → Nat → Prop, (∀ (r_13 : Option Nat) (r_14 : Option Nat) (r_15 : Option Nat) (x_16 : Int32) (hp_17 : zHp) (nx_18 : Nat) (kc_19 : Nat) (ks_20 : Nat), P_35 r_13 r_14 r_15 x_16 hp_17 nx_18 kc_19 ks_20 →
  (zsm r_15 fun a_21 =>
  (kc_19 ≤ mc ∧ ks_20 ≤ ms ∧ zMt l g yX32_init cX32_init 3 none d 0 0 (.ref a_21 :: [.int x_16, va_rf r3]) hp_17 nx_18 (zQv g fun hp_22 nx_23 =>
  (znw g mc ms hp_22 nx_23 kc_19 ks_20 31 fun hp_24 =>
  ∀ nx_25 kc_26 ks_27 : Nat, nx_25 = (nx_23 + 1) → kc_26 = (kc_19 + 1) → ks_27 = (ks_20 + zNn 31) →
  (zgI hp_24 r_13 [31] 1 fun x_31 =>
  (∃ P_67 : (Option Nat) → (Option Nat) → (Option Nat) → Int32 → (Option Nat) → (Option Nat) → Int32 → Int32 → (Option Nat) → zHp → Nat → Nat → Nat → Prop, (∀ (r_32 : Option Nat) (r_33 : Option Nat) (r_34 : Option Nat) (x_35 : Int32) (r_36 : Option Nat) (r_37 : Option Nat) (x_38 : Int32) (x_39 : Int32) (r_40 : Option Nat) (hp_41 : zHp) (nx_42 : Nat) (kc_43 : Nat) (ks_44 : Nat), P_67 r_32 r_33 r_34 x_35 r_36 r_37 x_38 x_39 r_40 hp_41 nx_42 kc_43 ks_44 →
  (∃ P_81 : (Option Nat) → (Option Nat) → (Option Nat) → Int32 → (Option Nat) → (Option Nat) → Int32 → Int32 → (Option Nat) → (Option Nat) → zHp → Nat → Nat → Nat → Prop, (∀ (r_45 : Option Nat) (r_46 : Option Nat) (r_47 : Option Nat) (x_48 : Int32) (r_49 : Option Nat) (r_50 : Option Nat) (x_51 : Int32) (x_52 : Int32) (r_53 : Option Nat) (r_54 : Option Nat) (hp_55 : zHp) (nx_56 : Nat) (kc_57 : Nat) (ks_58 : Nat), P_81 r_45 r_46 r_47 x_48 r_49 r_50 x_51 x_52 r_53 r_54 hp_55 nx_56 kc_57 ks_58 →
  (zsm r_50 fun a_59 =>
  (kc_57 ≤ mc ∧ ks_58 ≤ ms ∧ zMt l g yX31_init cX31_init 5 none d 0 0 (.ref a_59 :: [.int x_51, .int x_52, va_rf r_53, va_rf r_54]) hp_55 nx_56 (zQv g fun hp_60 nx_61 =>
  (∃ c_62 s_63 : Nat, kc_57 + c_62 ≤ mc ∧ ks_58 + s_63 ≤ ms ∧ zo hp_60 r_47 [0] fun a_89 ci_90 fs_91 => zMtW l g yX0_lays cX0_lays 7 (some .int) [(10, 27, 48, 0), (48, 50, 48, 0)] d c_62 s_63 (.ref a_89 :: [.int x_48, va_rf r_49]) hp_60 nx_61 (zQi g fun x_66 hp_64 nx_65 =>
  (∃ P_109 : (Option Nat) → (Option Nat) → Int32 → Int32 → zHp → Nat → Nat → Nat → Prop, (∀ (r_67 : Option Nat) (r_68 : Option Nat) (x_69 : Int32) (x_70 : Int32) (hp_71 : zHp) (nx_72 : Nat) (kc_73 : Nat) (ks_74 : Nat), P_109 r_67 r_68 x_69 x_70 hp_71 nx_72 kc_73 ks_74 →
  (kc_73 ≤ mc ∧ ks_74 ≤ ms ∧ Post x_70 hp_71 nx_72)) ∧
  ((x_66 = (1 : Int32) →
  (zgR hp_64 (some h0) [0] 1 fun r_78 =>
  (zaR (g.2.1 8) hp_64 r_78 fun a_79 n_80 f_81 => vp_in x1 n_80 ∧ ∀ r_82 : Option Nat, r_82 = f_81 x1.toNatClampNeg →
  ((kc_57 + c_62) ≤ mc ∧ (ks_58 + s_63) ≤ ms ∧ zo hp_64 r_82 [31] fun a_86 ci_87 fs_88 => zMt l g yX31_cases cX31_cases 1 (some .int) d 0 0 (.ref a_86 :: []) hp_64 nx_65 (zQi g fun x_85 hp_83 nx_84 =>
  P_109 r_45 r_46 x_66 x_85 hp_83 nx_84 (kc_57 + c_62) (ks_58 + s_63)))))) ∧
  (¬ x_66 = (1 : Int32) →
  P_109 r_45 r_46 x_66 x_66 hp_64 nx_65 (kc_57 + c_62) (ks_58 + s_63)))))))))) ∧
  ((x2 = 0 →
  (zgR hp_41 r_32 [31] 3 fun r_98 =>
  P_81 r_32 r_33 r_34 x_35 r_36 r_37 x_38 x_39 r_40 r_98 hp_41 nx_42 kc_43 ks_44)) ∧
  (¬ x2 = 0 →
  P_81 r_32 r_33 r_34 x_35 r_36 r_37 x_38 x_39 r_40 r_33 hp_41 nx_42 kc_43 ks_44)))) ∧
  ((x2 = 0 →
  P_67 r_13 r_14 (some h0) x1 (some nx_23) (some nx_23) x1 x_31 r_14 hp_24 nx_25 kc_26 ks_27) ∧
  (¬ x2 = 0 →
  (zgR hp_24 r_13 [31] 2 fun r_102 =>
  P_67 r_13 r_14 (some h0) x1 (some nx_23) (some nx_23) x1 x_31 r_102 hp_24 nx_25 kc_26 ks_27)))))))))) ∧
  ((x2 = 0 →
  (zgR hp_9 r_8 [31] 2 fun r_117 =>
  (zgI hp_9 r_117 [32] 0 fun x_121 =>
  P_35 r_8 (some nx) (some nx) x_121 hp_9 nx_10 kc_11 ks_12))) ∧
  (¬ x2 = 0 →
  (zgR hp_9 r_8 [31] 3 fun r_109 =>
  (zgI hp_9 r_109 [32] 0 fun x_113 =>
  P_35 r_8 (some nx) (some nx) x_113 hp_9 nx_10 kc_11 ks_12))))))))
set_option maxHeartbeats 40000000 in
theorem met_X0_varies {l : Launch} {g : zG} {d : Nat} {mc ms : Nat} {h0 : Nat} {x1 : Int32} {x2 : Int32} {r3 : Option Nat} {hp : zHp} {nx : Nat} {Post : Int32 → zHp → Nat → Prop} (hw : wp_X0_varies l g d mc ms h0 x1 x2 r3 hp nx Post) : zMt l g yX0_varies cX0_varies 7 (some .int) (d + 1) mc ms [.ref h0, .int x1, .int x2, va_rf r3] hp nx (zQi g Post) := by
  refine z_start (by decide) (by cases r3 <;> exact Nat.le_of_ble_eq_true rfl) ?_
  intro p e s m below meth c hk hr hin hH hz ls hl
  have hx := hk.1.1
  have hb := hk.1.2.1
  have hown := hk.1.2.2.2.1
  have hts := hk.1.2.2.2.2
  have hS : va_S (zAd g) s.heap s.heap [] := va_S.rf
  have hl : lv_has ls 7 [(0, va_rf (some h0)), (1, .int x1), (2, .int x2), (3, va_rf r3)] := by cases r3 <;> exact hl
  unfold wp_X0_varies at hw
  refine zr_aload_n (r := some h0) hx hb dX0_varies_0 rfl (lv_at hl 0 rfl) ?_
  obtain ⟨a_1, ci_2, fs_3, r_4, er, he, hc, hv, hw⟩ := zgR_e hw
  refine zw_get hk hH er he hv (fk_X0_37 hc) dX0_varies_1 ?_
  refine lv_iload_n hx hb dX0_varies_4 rfl (lv_at hl 1 rfl) ?_
  obtain ⟨a_5, n_6, f_7, er, he, hi, hw⟩ := zaR_e hw
  have hw := hw _ rfl
  refine zw_aald hk hH 8 er he rfl rfl hi dX0_varies_5 ?_
  generalize f_7 x1.toNatClampNeg = r_8 at hw ⊢
  refine zr_astore (r := r_8) (lv' := [(4, va_rf r_8), (0, va_rf (some h0)), (1, .int x1), (2, .int x2), (3, va_rf r3)]) hx hb dX0_varies_6 hl (by decide) (by first | rfl | simp [List.filter_cons, z_cat, z_catI, z_catJ, z_catF, z_catD]) (fun ls hl => ?_)
  obtain ⟨hcl, hsl, hw⟩ := hw
  refine zx_new hk hH hz hS (ci := 32) no_X0_176 hcl hsl dX0_varies_8 (fun H hH hz hS hlt hnb => ?_)
  have hw := hw hlt hnb
  generalize va_up hp nx _ = hp_9 at hH hw
  obtain ⟨kc_11, ekc⟩ : ∃ k, k = (0 + 1) := ⟨_, rfl⟩
  obtain ⟨ks_12, eks⟩ : ∃ k, k = (0 + zNn 32) := ⟨_, rfl⟩
  have hw := hw _ _ _ rfl ekc eks
  refine W.widen (Nat.le_of_eq ekc.symm) (Nat.le_of_eq eks.symm) ?_
  clear ekc eks
  generalize (nx + 1) = nx_10 at hz hw
  refine lv_dup hx hb dX0_varies_11 (z_cat _) ?_
  refine lv_iload_n hx hb dX0_varies_12 rfl (lv_at hl 3 rfl) ?_
  obtain ⟨P_35, hP_35, hw⟩ := hw
  have hJ_35 : ∀ (r_13 : Option Nat) (r_14 : Option Nat) (r_15 : Option Nat) (x_16 : Int32) (hp_17 : zHp) (nx_18 : Nat) (kc_19 : Nat) (ks_20 : Nat) (H : Heap) (locs : List Loc) (ls : Array Slot), P_35 r_13 r_14 r_15 x_16 hp_17 nx_18 kc_19 ks_20 → lv_has ls 7 [(0, va_rf (some h0)), (1, .int x1), (2, .int x2), (3, va_rf r3), (4, va_rf r_13)] → zHd g hp_17 H → H.size = nx_18 → va_S (zAd g) s.heap H locs → W p l e (zrm (d + 1) mc ms) s m ([.ref h0, .int x1, .int x2, va_rf r3] : List Value).toArray below meth c H locs kc_19 ks_20 (MQ below (zQi g Post) ([.ref h0, .int x1, .int x2, va_rf r3] : List Value).toArray s mc ms (zAd g)) (F0 m 35 ls [.int x_16, va_rf r_15, va_rf r_14]) := by
    intro r_13 r_14 r_15 x_16 hp_17 nx_18 kc_19 ks_20 H locs ls hw hl hH hz hS
    have hw := hP_35 r_13 r_14 r_15 x_16 hp_17 nx_18 kc_19 ks_20 hw
    refine zr_aload_n (r := r3) hx hb dX0_varies_35 rfl (lv_at hl 3 rfl) ?_
    obtain ⟨a_21, rfl, hw⟩ := zsm_e hw
    obtain ⟨hcl, hsl, hw⟩ := hw
    refine zr_callv (zw_runI (As := [.int x_16, va_rf r3]) (r := some a_21) hk hH hz hS hl.1 rfl hw (cwI 2 hts (lw_meth q2351) rfl rfl rfl (hts _ q196) (hts _ q2349) (hts _ q2350) rfl (by decide +kernel) (z_room (Nat.le_of_ble_eq_true rfl))) rfl rfl (by simp only [List.map_cons, List.map_nil, z_cat]; exact Nat.le_of_ble_eq_true rfl) dX0_varies_36 ⟨hcl, hsl⟩) hS (fun hp_22 nx_23 hw H locs hH hz hS => ?_)
    refine zr_astore (r := r_14) (lv' := [(5, va_rf r_14), (0, va_rf (some h0)), (1, .int x1), (2, .int x2), (3, va_rf r3), (4, va_rf r_13)]) hx hb dX0_varies_39 hl (by decide) (by first | rfl | simp [List.filter_cons, z_cat, z_catI, z_catJ, z_catF, z_catD]) (fun ls hl => ?_)
    refine zr_aload_n (r := some h0) hx hb dX0_varies_41 rfl (lv_at hl 1 rfl) ?_
    refine lv_iload_n hx hb dX0_varies_42 rfl (lv_at hl 2 rfl) ?_
    obtain ⟨hcl, hsl, hw⟩ := hw
    refine zx_new hk hH hz hS (ci := 31) no_X0_35 hcl hsl dX0_varies_43 (fun H hH hz hS hlt hnb => ?_)
    have hw := hw hlt hnb
    generalize va_up hp_22 nx_23 _ = hp_24 at hH hw
    obtain ⟨kc_26, ekc⟩ : ∃ k, k = (kc_19 + 1) := ⟨_, rfl⟩
    obtain ⟨ks_27, eks⟩ : ∃ k, k = (ks_20 + zNn 31) := ⟨_, rfl⟩
    have hw := hw _ _ _ rfl ekc eks
    refine W.widen (Nat.le_of_eq ekc.symm) (Nat.le_of_eq eks.symm) ?_
    clear ekc eks
    generalize (nx_23 + 1) = nx_25 at hz hw
    refine lv_dup hx hb dX0_varies_46 (z_cat _) ?_
    refine lv_iload_n hx hb dX0_varies_47 rfl (lv_at hl 2 rfl) ?_
    refine zr_aload (r := r_13) hx hb dX0_varies_48 (lv_at hl 5 rfl) ?_
    obtain ⟨a_28, ci_29, fs_30, x_31, er, he, hc, hv, hw⟩ := zgI_e hw
    refine zw_get hk hH er he hv (fk_X0_269 hc) dX0_varies_50 ?_
    refine lv_iload_n hx hb dX0_varies_53 rfl (lv_at hl 3 rfl) ?_
    obtain ⟨P_67, hP_67, hw⟩ := hw
    have hJ_67 : ∀ (r_32 : Option Nat) (r_33 : Option Nat) (r_34 : Option Nat) (x_35 : Int32) (r_36 : Option Nat) (r_37 : Option Nat) (x_38 : Int32) (x_39 : Int32) (r_40 : Option Nat) (hp_41 : zHp) (nx_42 : Nat) (kc_43 : Nat) (ks_44 : Nat) (H : Heap) (locs : List Loc) (ls : Array Slot), P_67 r_32 r_33 r_34 x_35 r_36 r_37 x_38 x_39 r_40 hp_41 nx_42 kc_43 ks_44 → lv_has ls 7 [(0, va_rf (some h0)), (1, .int x1), (2, .int x2), (3, va_rf r3), (4, va_rf r_32), (5, va_rf r_33)] → zHd g hp_41 H → H.size = nx_42 → va_S (zAd g) s.heap H locs → W p l e (zrm (d + 1) mc ms) s m ([.ref h0, .int x1, .int x2, va_rf r3] : List Value).toArray below meth c H locs kc_43 ks_44 (MQ below (zQi g Post) ([.ref h0, .int x1, .int x2, va_rf r3] : List Value).toArray s mc ms (zAd g)) (F0 m 67 ls [va_rf r_40, .int x_39, .int x_38, va_rf r_37, va_rf r_36, .int x_35, va_rf r_34]) := by
      intro r_32 r_33 r_34 x_35 r_36 r_37 x_38 x_39 r_40 hp_41 nx_42 kc_43 ks_44 H locs ls hw hl hH hz hS
      have hw := hP_67 r_32 r_33 r_34 x_35 r_36 r_37 x_38 x_39 r_40 hp_41 nx_42 kc_43 ks_44 hw
      refine lv_iload_n hx hb dX0_varies_67 rfl (lv_at hl 2 rfl) ?_
      obtain ⟨P_81, hP_81, hw⟩ := hw
      have hJ_81 : ∀ (r_45 : Option Nat) (r_46 : Option Nat) (r_47 : Option Nat) (x_48 : Int32) (r_49 : Option Nat) (r_50 : Option Nat) (x_51 : Int32) (x_52 : Int32) (r_53 : Option Nat) (r_54 : Option Nat) (hp_55 : zHp) (nx_56 : Nat) (kc_57 : Nat) (ks_58 : Nat) (H : Heap) (locs : List Loc) (ls : Array Slot), P_81 r_45 r_46 r_47 x_48 r_49 r_50 x_51 x_52 r_53 r_54 hp_55 nx_56 kc_57 ks_58 → lv_has ls 7 [(0, va_rf (some h0)), (1, .int x1), (2, .int x2), (3, va_rf r3), (4, va_rf r_45), (5, va_rf r_46)] → zHd g hp_55 H → H.size = nx_56 → va_S (zAd g) s.heap H locs → W p l e (zrm (d + 1) mc ms) s m ([.ref h0, .int x1, .int x2, va_rf r3] : List Value).toArray below meth c H locs kc_57 ks_58 (MQ below (zQi g Post) ([.ref h0, .int x1, .int x2, va_rf r3] : List Value).toArray s mc ms (zAd g)) (F0 m 81 ls [va_rf r_54, va_rf r_53, .int x_52, .int x_51, va_rf r_50, va_rf r_49, .int x_48, va_rf r_47]) := by
        intro r_45 r_46 r_47 x_48 r_49 r_50 x_51 x_52 r_53 r_54 hp_55 nx_56 kc_57 ks_58 H locs ls hw hl hH hz hS
        have hw := hP_81 r_45 r_46 r_47 x_48 r_49 r_50 x_51 x_52 r_53 r_54 hp_55 nx_56 kc_57 ks_58 hw
        obtain ⟨a_59, rfl, hw⟩ := zsm_e hw
        obtain ⟨hcl, hsl, hw⟩ := hw
        refine zr_callv (zw_runI (As := [.int x_51, .int x_52, va_rf r_53, va_rf r_54]) (r := some a_59) hk hH hz hS hl.1 rfl hw (cwI 4 hts (lw_meth q2365) rfl rfl rfl (hts _ q195) (hts _ q2363) (hts _ q2364) rfl (by decide +kernel) (z_room (Nat.le_of_ble_eq_true rfl))) rfl rfl (by simp only [List.map_cons, List.map_nil, z_cat]; exact Nat.le_of_ble_eq_true rfl) dX0_varies_81 ⟨hcl, hsl⟩) hS (fun hp_60 nx_61 hw H locs hH hz hS => ?_)
        obtain ⟨c_62, s_63, hcl, hsl, hw⟩ := hw
        obtain ⟨a_89, ci_90, fs_91, er, he, hc, hw⟩ := zo_e hw
        obtain rfl := List.mem_singleton.mp hc
        refine zr_calli (zw_runVW (As := [.int x_48, va_rf r_49]) hk hH hz hS hl.1 er hw (vx_cwVW 2 hts (lw_VW q2384 q2386 qs52 q131 q2387) rfl rfl rfl (by decide +kernel) (z_room (Nat.le_of_ble_eq_true rfl))) he rfl rfl rfl (Nat.le_of_ble_eq_true rfl) dX0_varies_84 ⟨hcl, hsl⟩) hS (fun x_66 hp_64 nx_65 hw H locs hH hz hS => ?_)
        refine lv_istore (lv' := [(6, .int x_66), (0, va_rf (some h0)), (1, .int x1), (2, .int x2), (3, va_rf r3), (4, va_rf r_45), (5, va_rf r_46)]) hx hb dX0_varies_87 hl (by decide) (by first | rfl | simp [List.filter_cons, z_cat, z_catI, z_catJ, z_catF, z_catD]) (fun ls hl => ?_)
        refine lv_iload hx hb dX0_varies_89 (lv_at hl 0 rfl) ?_
        refine lv_iconst (v := (1 : Int32)) hx hb dX0_varies_91 (by decide) ?_
        obtain ⟨P_109, hP_109, hw⟩ := hw
        have hJ_109 : ∀ (r_67 : Option Nat) (r_68 : Option Nat) (x_69 : Int32) (x_70 : Int32) (hp_71 : zHp) (nx_72 : Nat) (kc_73 : Nat) (ks_74 : Nat) (H : Heap) (locs : List Loc) (ls : Array Slot), P_109 r_67 r_68 x_69 x_70 hp_71 nx_72 kc_73 ks_74 → lv_has ls 7 [(0, va_rf (some h0)), (1, .int x1), (2, .int x2), (3, va_rf r3), (4, va_rf r_67), (5, va_rf r_68), (6, .int x_69)] → zHd g hp_71 H → H.size = nx_72 → va_S (zAd g) s.heap H locs → W p l e (zrm (d + 1) mc ms) s m ([.ref h0, .int x1, .int x2, va_rf r3] : List Value).toArray below meth c H locs kc_73 ks_74 (MQ below (zQi g Post) ([.ref h0, .int x1, .int x2, va_rf r3] : List Value).toArray s mc ms (zAd g)) (F0 m 109 ls [.int x_70]) := by
          intro r_67 r_68 x_69 x_70 hp_71 nx_72 kc_73 ks_74 H locs ls hw hl hH hz hS
          have hw := hP_109 r_67 r_68 x_69 x_70 hp_71 nx_72 kc_73 ks_74 hw
          obtain ⟨hkc, hks, hw⟩ := hw
          exact zr_iret hk hr hH hz hS hw hkc hks dX0_varies_109
        refine lv_icmp_ne (tgt := 107) hx hb dX0_varies_92 (by decide) (fun hc => ?_) (fun hc => ?_)
        · have hw := hw.2 hc
          refine lv_iload hx hb dX0_varies_107 (lv_at hl 0 rfl) ?_
          exact hJ_109 r_45 r_46 x_66 x_66 hp_64 nx_65 (kc_57 + c_62) (ks_58 + s_63) _ _ _ hw (lv_sub hl [1, 2, 3, 4, 5, 6, 0] rfl) hH hz hS
        · have hw := hw.1 hc
          refine zr_aload_n (r := some h0) hx hb dX0_varies_95 rfl (lv_at hl 1 rfl) ?_
          obtain ⟨a_75, ci_76, fs_77, r_78, er, he, hc, hv, hw⟩ := zgR_e hw
          refine zw_get hk hH er he hv (fk_X0_37 hc) dX0_varies_96 ?_
          refine lv_iload_n hx hb dX0_varies_99 rfl (lv_at hl 2 rfl) ?_
          obtain ⟨a_79, n_80, f_81, er, he, hi, hw⟩ := zaR_e hw
          have hw := hw _ rfl
          refine zw_aald hk hH 8 er he rfl rfl hi dX0_varies_100 ?_
          generalize f_81 x1.toNatClampNeg = r_82 at hw ⊢
          obtain ⟨hcl, hsl, hw⟩ := hw
          obtain ⟨a_86, ci_87, fs_88, er, he, hc, hw⟩ := zo_e hw
          obtain rfl := List.mem_singleton.mp hc
          refine zr_calli (zw_runV (As := []) hk hH hz hS hl.1 er hw (cwV 0 hts (lw_V q1168 q1169 q1170 q195 q1171) rfl rfl rfl (by decide +kernel) (z_room (Nat.le_of_ble_eq_true rfl))) he rfl rfl rfl (Nat.le_of_ble_eq_true rfl) dX0_varies_101 ⟨hcl, hsl⟩) hS (fun x_85 hp_83 nx_84 hw H locs hH hz hS => ?_)
          refine lv_goto (tgt := 109) hx hb dX0_varies_104 (by decide) ?_
          exact hJ_109 r_45 r_46 x_66 x_85 hp_83 nx_84 (kc_57 + c_62) (ks_58 + s_63) _ _ _ hw (lv_sub hl [1, 2, 3, 4, 5, 6, 0] rfl) hH hz hS
      refine lv_if_ne (tgt := 79) hx hb dX0_varies_68 (by decide) (fun hc => ?_) (fun hc => ?_)
      · have hw := hw.2 hc
        refine zr_aload (r := r_33) hx hb dX0_varies_79 (lv_at hl 5 rfl) ?_
        exact hJ_81 r_32 r_33 r_34 x_35 r_36 r_37 x_38 x_39 r_40 r_33 hp_41 nx_42 kc_43 ks_44 _ _ _ hw hl hH hz hS
      · have hw := hw.1 hc
        refine zr_aload (r := r_32) hx hb dX0_varies_71 (lv_at hl 4 rfl) ?_
        obtain ⟨a_95, ci_96, fs_97, r_98, er, he, hc, hv, hw⟩ := zgR_e hw
        refine zw_get hk hH er he hv (fk_X0_190 hc) dX0_varies_73 ?_
        refine lv_goto (tgt := 81) hx hb dX0_varies_76 (by decide) ?_
        exact hJ_81 r_32 r_33 r_34 x_35 r_36 r_37 x_38 x_39 r_40 r_98 hp_41 nx_42 kc_43 ks_44 _ _ _ hw hl hH hz hS
    refine lv_if_ne (tgt := 62) hx hb dX0_varies_54 (by decide) (fun hc => ?_) (fun hc => ?_)
    · have hw := hw.2 hc
      refine zr_aload (r := r_13) hx hb dX0_varies_62 (lv_at hl 5 rfl) ?_
      obtain ⟨a_99, ci_100, fs_101, r_102, er, he, hc, hv, hw⟩ := zgR_e hw
      refine zw_get hk hH er he hv (fk_X0_171 hc) dX0_varies_64 ?_
      exact hJ_67 r_13 r_14 (some h0) x1 (some nx_23) (some nx_23) x1 x_31 r_102 hp_24 nx_25 kc_26 ks_27 _ _ _ hw (lv_sub hl [1, 2, 3, 4, 5, 0] rfl) hH hz hS
    · have hw := hw.1 hc
      refine zr_aload (r := r_14) hx hb dX0_varies_57 (lv_at hl 0 rfl) ?_
      refine lv_goto (tgt := 67) hx hb dX0_varies_59 (by decide) ?_
      exact hJ_67 r_13 r_14 (some h0) x1 (some nx_23) (some nx_23) x1 x_31 r_14 hp_24 nx_25 kc_26 ks_27 _ _ _ hw (lv_sub hl [1, 2, 3, 4, 5, 0] rfl) hH hz hS
  refine lv_if_ne (tgt := 27) hx hb dX0_varies_13 (by decide) (fun hc => ?_) (fun hc => ?_)
  · have hw := hw.2 hc
    refine zr_aload (r := r_8) hx hb dX0_varies_27 (lv_at hl 0 rfl) ?_
    obtain ⟨a_106, ci_107, fs_108, r_109, er, he, hc, hv, hw⟩ := zgR_e hw
    refine zw_get hk hH er he hv (fk_X0_190 hc) dX0_varies_29 ?_
    obtain ⟨a_110, ci_111, fs_112, x_113, er, he, hc, hv, hw⟩ := zgI_e hw
    refine zw_get hk hH er he hv (fk_X0_175 hc) dX0_varies_32 ?_
    exact hJ_35 r_8 (some nx) (some nx) x_113 hp_9 nx_10 kc_11 ks_12 _ _ _ hw (lv_sub hl [1, 2, 3, 4, 0] rfl) hH hz hS
  · have hw := hw.1 hc
    refine zr_aload (r := r_8) hx hb dX0_varies_16 (lv_at hl 0 rfl) ?_
    obtain ⟨a_114, ci_115, fs_116, r_117, er, he, hc, hv, hw⟩ := zgR_e hw
    refine zw_get hk hH er he hv (fk_X0_171 hc) dX0_varies_18 ?_
    obtain ⟨a_118, ci_119, fs_120, x_121, er, he, hc, hv, hw⟩ := zgI_e hw
    refine zw_get hk hH er he hv (fk_X0_175 hc) dX0_varies_21 ?_
    refine lv_goto (tgt := 35) hx hb dX0_varies_24 (by decide) ?_
    exact hJ_35 r_8 (some nx) (some nx) x_121 hp_9 nx_10 kc_11 ks_12 _ _ _ hw (lv_sub hl [1, 2, 3, 4, 0] rfl) hH hz hS
def wp_X0_isRow (l : Launch) (g : zG) (d : Nat) (x0 : Int32) (hp : zHp) (nx : Nat) (Post : Int32 → zHp → Nat → Prop) : Prop :=
  (zMt l g yX0_in cX0_in 6 (some .boolean) d 0 0 [.long x0.toInt64, .long (0 : Int64), .long (3 : Int64)] hp nx (zQi g fun x_3 hp_1 nx_2 =>
  (((x_3 = 0 ∨ x_3 = 1) ∧ Post x_3 hp_1 nx_2))))
set_option maxHeartbeats 40000000 in
theorem met_X0_isRow {l : Launch} {g : zG} {d : Nat} {x0 : Int32} {hp : zHp} {nx : Nat} {Post : Int32 → zHp → Nat → Prop} (hw : wp_X0_isRow l g d x0 hp nx Post) : zMt l g yX0_isRow cX0_isRow 1 (some .boolean) (d + 1) 0 0 [.int x0] hp nx (zQi g Post) := by
  refine z_start (by decide) (Nat.le_of_ble_eq_true rfl) ?_
  intro p e s m below meth c hk hr hin hH hz ls hl
  have hx := hk.1.1
  have hb := hk.1.2.1
  have hown := hk.1.2.2.2.1
  have hts := hk.1.2.2.2.2
  have hS : va_S (zAd g) s.heap s.heap [] := va_S.rf
  have hl : lv_has ls 1 [(0, .int x0)] := hl
  unfold wp_X0_isRow at hw
  refine lv_iload_n hx hb dX0_isRow_0 rfl (lv_at hl 0 rfl) ?_
  refine lv_i2l hx hb dX0_isRow_1 rfl ?_
  refine lv_lconst (v := (0 : Int64)) hx hb dX0_isRow_2 (by decide) ?_
  refine lv_ldc2 hx hb hown (hts _ q2428) dX0_isRow_3 ?_
  refine zr_calli (zr_runS (As := [.long x0.toInt64, .long (0 : Int64), .long (3 : Int64)]) hk hH hz hS hl.1 hw (va_cwS 3 hts (lw_S q1308 q1309 q131 q1310) rfl rfl rfl (by decide +kernel) (z_room (Nat.le_of_ble_eq_true rfl))) rfl rfl (Nat.le_of_ble_eq_true rfl) dX0_isRow_6 ⟨Nat.le_of_ble_eq_true rfl, Nat.le_of_ble_eq_true rfl⟩) hS (fun x_3 hp_1 nx_2 hw H locs hH hz hS => ?_)
  exact zr_zret hk hr hH hz hS hw.1 hw.2 (Nat.le_of_ble_eq_true rfl) (Nat.le_of_ble_eq_true rfl) dX0_isRow_9
def wp_X0_drop (l : Launch) (g : zG) (d : Nat) (mc ms : Nat) (h0 : Nat) (x1 : Int32) (hp : zHp) (nx : Nat) (Post : Int32 → zHp → Nat → Prop) : Prop :=
  (0 ≤ mc ∧ 0 ≤ ms ∧ zMt l g yX0_isTable cX0_isTable 1 (some .boolean) d 0 0 [.int x1] hp nx (zQi g fun x_3 hp_1 nx_2 =>
  ((x_3 = 0 →
  (0 ≤ mc ∧ 0 ≤ ms ∧ Post (-2 : Int32) hp_1 nx_2)) ∧
  (¬ x_3 = 0 →
  (zgR hp_1 (some h0) [0] 1 fun r_7 =>
  (zaR (g.2.1 8) hp_1 r_7 fun a_8 n_9 f_10 => vp_in x1 n_9 ∧ ∀ r_11 : Option Nat, r_11 = f_10 x1.toNatClampNeg →
  ((r_11 = none →
  (0 ≤ mc ∧ 0 ≤ ms ∧ Post (-3 : Int32) hp_1 nx_2)) ∧
  (¬ r_11 = none →
  (∃ c_12 s_13 : Nat, 0 + c_12 ≤ mc ∧ 0 + s_13 ≤ ms ∧ zo hp_1 (some h0) [0] fun a_17 ci_18 fs_19 => zMtW l g yX0_lays cX0_lays 7 (some .int) [(10, 27, 48, 0), (48, 50, 48, 0)] d c_12 s_13 (.ref a_17 :: [.int x1, va_rf none]) hp_1 nx_2 (zQi g fun x_16 hp_14 nx_15 =>
  ((0 + c_12) ≤ mc ∧ (0 + s_13) ≤ ms ∧ Post x_16 hp_14 nx_15)))))))))))
set_option maxHeartbeats 40000000 in
theorem met_X0_drop {l : Launch} {g : zG} {d : Nat} {mc ms : Nat} {h0 : Nat} {x1 : Int32} {hp : zHp} {nx : Nat} {Post : Int32 → zHp → Nat → Prop} (hw : wp_X0_drop l g d mc ms h0 x1 hp nx Post) : zMt l g yX0_drop cX0_drop 2 (some .int) (d + 1) mc ms [.ref h0, .int x1] hp nx (zQi g Post) := by
  refine z_start (by decide) (Nat.le_of_ble_eq_true rfl) ?_
  intro p e s m below meth c hk hr hin hH hz ls hl
  have hx := hk.1.1
  have hb := hk.1.2.1
  have hown := hk.1.2.2.2.1
  have hts := hk.1.2.2.2.2
  have hS : va_S (zAd g) s.heap s.heap [] := va_S.rf
  have hl : lv_has ls 2 [(0, va_rf (some h0)), (1, .int x1)] := hl
  unfold wp_X0_drop at hw
  refine lv_iload_n hx hb dX0_drop_0 rfl (lv_at hl 1 rfl) ?_
  obtain ⟨hcl, hsl, hw⟩ := hw
  refine zr_calli (zr_runS (As := [.int x1]) hk hH hz hS hl.1 hw (va_cwS 1 hts (lw_S q2343 q2344 q131 q2345) rfl rfl rfl (by decide +kernel) (z_room (Nat.le_of_ble_eq_true rfl))) rfl rfl (Nat.le_of_ble_eq_true rfl) dX0_drop_1 ⟨hcl, hsl⟩) hS (fun x_3 hp_1 nx_2 hw H locs hH hz hS => ?_)
  refine lv_if_ne (tgt := 10) hx hb dX0_drop_4 (by decide) (fun hc => ?_) (fun hc => ?_)
  · have hw := hw.2 hc
    refine zr_aload_n (r := some h0) hx hb dX0_drop_10 rfl (lv_at hl 0 rfl) ?_
    obtain ⟨a_4, ci_5, fs_6, r_7, er, he, hc, hv, hw⟩ := zgR_e hw
    refine zw_get hk hH er he hv (fk_X0_37 hc) dX0_drop_11 ?_
    refine lv_iload_n hx hb dX0_drop_14 rfl (lv_at hl 1 rfl) ?_
    obtain ⟨a_8, n_9, f_10, er, he, hi, hw⟩ := zaR_e hw
    have hw := hw _ rfl
    refine zw_aald hk hH 8 er he rfl rfl hi dX0_drop_15 ?_
    generalize f_10 x1.toNatClampNeg = r_11 at hw ⊢
    refine zr_ifnonnull (r := r_11) (tgt := 22) hx hb dX0_drop_16 (by decide) (fun hc => ?_) (fun hc => ?_)
    · have hw := hw.2 hc
      refine zr_aload_n (r := some h0) hx hb dX0_drop_22 rfl (lv_at hl 0 rfl) ?_
      refine lv_iload_n hx hb dX0_drop_23 rfl (lv_at hl 1 rfl) ?_
      refine zx_null hx hb dX0_drop_24 ?_
      obtain ⟨c_12, s_13, hcl, hsl, hw⟩ := hw
      obtain ⟨a_17, ci_18, fs_19, er, he, hc, hw⟩ := zo_e hw
      obtain rfl := List.mem_singleton.mp hc
      refine zr_calli (zw_runVW (As := [.int x1, va_rf none]) hk hH hz hS hl.1 er hw (vx_cwVW 2 hts (lw_VW q2384 q2386 qs52 q131 q2387) rfl rfl rfl (by decide +kernel) (z_room (Nat.le_of_ble_eq_true rfl))) he rfl rfl rfl (Nat.le_of_ble_eq_true rfl) dX0_drop_25 ⟨hcl, hsl⟩) hS (fun x_16 hp_14 nx_15 hw H locs hH hz hS => ?_)
      obtain ⟨hkc, hks, hw⟩ := hw
      exact zr_iret hk hr hH hz hS hw hkc hks dX0_drop_28
    · have hw := hw.1 hc
      refine lv_bipush (v := (-3 : Int32)) hx hb dX0_drop_19 (by decide) ?_
      obtain ⟨hkc, hks, hw⟩ := hw
      exact zr_iret hk hr hH hz hS hw hkc hks dX0_drop_21
  · have hw := hw.1 hc
    refine lv_bipush (v := (-2 : Int32)) hx hb dX0_drop_7 (by decide) ?_
    obtain ⟨hkc, hks, hw⟩ := hw
    exact zr_iret hk hr hH hz hS hw hkc hks dX0_drop_9
def wp_X0_at (l : Launch) (g : zG) (d : Nat) (h0 : Nat) (x1 : Int32) (x2 : Int32) (x3 : Int32) (hp : zHp) (nx : Nat) (Post : Int64 → zHp → Nat → Prop) : Prop :=
  (zMt l g yX0_isTable cX0_isTable 1 (some .boolean) d 0 0 [.int x1] hp nx (zQi g fun x_3 hp_1 nx_2 =>
  ((x_3 = 0 →
  (Post (-2 : Int64) hp_1 nx_2)) ∧
  (¬ x_3 = 0 →
  (zgR hp_1 (some h0) [0] 1 fun r_7 =>
  (zaR (g.2.1 8) hp_1 r_7 fun a_8 n_9 f_10 => vp_in x1 n_9 ∧ ∀ r_11 : Option Nat, r_11 = f_10 x1.toNatClampNeg →
  ((r_11 = none →
  (Post (-3 : Int64) hp_1 nx_2)) ∧
  (¬ r_11 = none →
  (zo hp_1 (some h0) [0] fun a_87 ci_88 fs_89 => zMt l g yX0_isCase cX0_isCase 4 (some .boolean) d 0 0 (.ref a_87 :: [va_rf r_11, .int x2, .int x3]) hp_1 nx_2 (zQi g fun x_14 hp_12 nx_13 =>
  ((x_14 = 0 →
  (Post (-2 : Int64) hp_12 nx_13)) ∧
  (¬ x_14 = 0 →
  (zpt g hp_12 (some h0) [0] 7 (va_rf none) fun hp_18 =>
  (zo hp_18 (some h0) [0] fun a_84 ci_85 fs_86 => zMtW l g yX0_runs cX0_runs 18 none [(103, 128, 269, 0), (178, 217, 269, 0), (269, 271, 269, 0)] d 0 0 (.ref a_84 :: [va_rf r_11, .int x2, .int x3]) hp_18 nx_13 (zQv g fun hp_19 nx_20 =>
  (zo hp_19 r_11 [31] fun a_81 ci_82 fs_83 => zMt l g yX31_many cX31_many 1 (some .int) d 0 0 (.ref a_81 :: []) hp_19 nx_20 (zQi g fun x_23 hp_21 nx_22 =>
  (∀ x_24 : Int32, x_24 = (x_23 * x2) + x3 →
  (zgR hp_21 (some h0) [0] 5 fun r_28 =>
  (zaR (g.2.1 9) hp_21 r_28 fun a_29 n_30 f_31 => vp_in x1 n_30 ∧ ∀ r_32 : Option Nat, r_32 = f_31 x1.toNatClampNeg →
  (zgR hp_21 r_32 [1] 6 fun r_36 =>
  (zaI (g.2.1 2) hp_21 r_36 fun a_37 n_38 f_39 => vp_in x_24 n_38 ∧ ∀ x_40 : Int32, x_40 = f_39 x_24.toNatClampNeg →
  (∃ P_116 : (Option Nat) → Int32 → Int64 → zHp → Nat → Prop, (∀ (r_41 : Option Nat) (x_42 : Int32) (x_43 : Int64) (hp_44 : zHp) (nx_45 : Nat), P_116 r_41 x_42 x_43 hp_44 nx_45 →
  (Post x_43 hp_44 nx_45)) ∧
  ((x_40 = 0 →
  (zgR hp_21 (some h0) [0] 5 fun r_49 =>
  (zaR (g.2.1 9) hp_21 r_49 fun a_50 n_51 f_52 => vp_in x1 n_51 ∧ ∀ r_53 : Option Nat, r_53 = f_52 x1.toNatClampNeg →
  (zgR hp_21 r_53 [1] 2 fun r_57 =>
  (zaD (g.2.1 1) hp_21 r_57 fun a_58 n_59 f_60 => vp_in x_24 n_59 ∧ ∀ x_61 : UInt64, x_61 = f_60 x_24.toNatClampNeg →
  (zMt l g yJ23_doubleToLongBits cJ23_doubleToLongBits 2 (some .long) d 0 0 [.double x_61] hp_21 nx_22 (zQl g fun x_64 hp_62 nx_63 =>
  P_116 r_11 x_24 x_64 hp_62 nx_63))))))) ∧
  (¬ x_40 = 0 →
  (zgR hp_21 (some h0) [0] 5 fun r_68 =>
  (zaR (g.2.1 9) hp_21 r_68 fun a_69 n_70 f_71 => vp_in x1 n_70 ∧ ∀ r_72 : Option Nat, r_72 = f_71 x1.toNatClampNeg →
  (zgR hp_21 r_72 [1] 6 fun r_76 =>
  (zaI (g.2.1 2) hp_21 r_76 fun a_77 n_78 f_79 => vp_in x_24 n_78 ∧ ∀ x_80 : Int32, x_80 = f_79 x_24.toNatClampNeg →
  P_116 r_11 x_24 (((-20 : Int32) - x_80).toInt64) hp_21 nx_22)))))))))))))))))))))))))))))
set_option maxHeartbeats 40000000 in
theorem met_X0_at {l : Launch} {g : zG} {d : Nat} {h0 : Nat} {x1 : Int32} {x2 : Int32} {x3 : Int32} {hp : zHp} {nx : Nat} {Post : Int64 → zHp → Nat → Prop} (hw : wp_X0_at l g d h0 x1 x2 x3 hp nx Post) : zMt l g yX0_at cX0_at 6 (some .long) (d + 1) 0 0 [.ref h0, .int x1, .int x2, .int x3] hp nx (zQl g Post) := by
  refine z_start (by decide) (Nat.le_of_ble_eq_true rfl) ?_
  intro p e s m below meth c hk hr hin hH hz ls hl
  have hx := hk.1.1
  have hb := hk.1.2.1
  have hown := hk.1.2.2.2.1
  have hts := hk.1.2.2.2.2
  have hS : va_S (zAd g) s.heap s.heap [] := va_S.rf
  have hl : lv_has ls 6 [(0, va_rf (some h0)), (1, .int x1), (2, .int x2), (3, .int x3)] := hl
  unfold wp_X0_at at hw
  refine lv_iload_n hx hb dX0_at_0 rfl (lv_at hl 1 rfl) ?_
  refine zr_calli (zr_runS (As := [.int x1]) hk hH hz hS hl.1 hw (va_cwS 1 hts (lw_S q2343 q2344 q131 q2345) rfl rfl rfl (by decide +kernel) (z_room (Nat.le_of_ble_eq_true rfl))) rfl rfl (Nat.le_of_ble_eq_true rfl) dX0_at_1 ⟨Nat.le_of_ble_eq_true rfl, Nat.le_of_ble_eq_true rfl⟩) hS (fun x_3 hp_1 nx_2 hw H locs hH hz hS => ?_)
  refine lv_if_ne (tgt := 11) hx hb dX0_at_4 (by decide) (fun hc => ?_) (fun hc => ?_)
  · have hw := hw.2 hc
    refine zr_aload_n (r := some h0) hx hb dX0_at_11 rfl (lv_at hl 0 rfl) ?_
    obtain ⟨a_4, ci_5, fs_6, r_7, er, he, hc, hv, hw⟩ := zgR_e hw
    refine zw_get hk hH er he hv (fk_X0_37 hc) dX0_at_12 ?_
    refine lv_iload_n hx hb dX0_at_15 rfl (lv_at hl 1 rfl) ?_
    obtain ⟨a_8, n_9, f_10, er, he, hi, hw⟩ := zaR_e hw
    have hw := hw _ rfl
    refine zw_aald hk hH 8 er he rfl rfl hi dX0_at_16 ?_
    generalize f_10 x1.toNatClampNeg = r_11 at hw ⊢
    refine zr_astore (r := r_11) (lv' := [(4, va_rf r_11), (0, va_rf (some h0)), (1, .int x1), (2, .int x2), (3, .int x3)]) hx hb dX0_at_17 hl (by decide) (by first | rfl | simp [List.filter_cons, z_cat, z_catI, z_catJ, z_catF, z_catD]) (fun ls hl => ?_)
    refine zr_aload (r := r_11) hx hb dX0_at_19 (lv_at hl 0 rfl) ?_
    refine zr_ifnonnull (r := r_11) (tgt := 28) hx hb dX0_at_21 (by decide) (fun hc => ?_) (fun hc => ?_)
    · have hw := hw.2 hc
      refine zr_aload_n (r := some h0) hx hb dX0_at_28 rfl (lv_at hl 1 rfl) ?_
      refine zr_aload (r := r_11) hx hb dX0_at_29 (lv_at hl 0 rfl) ?_
      refine lv_iload_n hx hb dX0_at_31 rfl (lv_at hl 3 rfl) ?_
      refine lv_iload_n hx hb dX0_at_32 rfl (lv_at hl 4 rfl) ?_
      obtain ⟨a_87, ci_88, fs_89, er, he, hc, hw⟩ := zo_e hw
      obtain rfl := List.mem_singleton.mp hc
      refine zr_calli (zw_runV (As := [va_rf r_11, .int x2, .int x3]) hk hH hz hS hl.1 er hw (cwV 3 hts (lw_V q2438 q2440 qs55 q131 q2441) rfl rfl rfl (by decide +kernel) (z_room (Nat.le_of_ble_eq_true rfl))) he rfl rfl rfl (Nat.le_of_ble_eq_true rfl) dX0_at_33 ⟨Nat.le_of_ble_eq_true rfl, Nat.le_of_ble_eq_true rfl⟩) hS (fun x_14 hp_12 nx_13 hw H locs hH hz hS => ?_)
      refine lv_if_ne (tgt := 43) hx hb dX0_at_36 (by decide) (fun hc => ?_) (fun hc => ?_)
      · have hw := hw.2 hc
        refine zr_aload_n (r := some h0) hx hb dX0_at_43 rfl (lv_at hl 1 rfl) ?_
        refine zx_null hx hb dX0_at_44 ?_
        obtain ⟨a_15, ci_16, fs_17, hp_18, er, he, hc, hA, hkl, eh, hw⟩ := zpt_e hw
        refine zw_put hk hH hz hS er he hA hkl eh (fp_X0_167 hc) (z_narR _ _) (z_fitR _ _) dX0_at_45 (fun H locs hH hz hS => ?_)
        refine zr_aload_n (r := some h0) hx hb dX0_at_48 rfl (lv_at hl 1 rfl) ?_
        refine zr_aload (r := r_11) hx hb dX0_at_49 (lv_at hl 0 rfl) ?_
        refine lv_iload_n hx hb dX0_at_51 rfl (lv_at hl 3 rfl) ?_
        refine lv_iload_n hx hb dX0_at_52 rfl (lv_at hl 4 rfl) ?_
        obtain ⟨a_84, ci_85, fs_86, er, he, hc, hw⟩ := zo_e hw
        obtain rfl := List.mem_singleton.mp hc
        refine zr_callv (zw_runVW (As := [va_rf r_11, .int x2, .int x3]) hk hH hz hS hl.1 er hw (vx_cwVW 3 hts (lw_VW q2158 q2160 qs46 q131 q2161) rfl rfl rfl (by decide +kernel) (z_room (Nat.le_of_ble_eq_true rfl))) he rfl rfl rfl (Nat.le_of_ble_eq_true rfl) dX0_at_53 ⟨Nat.le_of_ble_eq_true rfl, Nat.le_of_ble_eq_true rfl⟩) hS (fun hp_19 nx_20 hw H locs hH hz hS => ?_)
        refine zr_aload (r := r_11) hx hb dX0_at_56 (lv_at hl 0 rfl) ?_
        obtain ⟨a_81, ci_82, fs_83, er, he, hc, hw⟩ := zo_e hw
        obtain rfl := List.mem_singleton.mp hc
        refine zr_calli (zw_runV (As := []) hk hH hz hS hl.1 er hw (cwV 0 hts (lw_V q2175 q1177 q1178 q195 q1179) rfl rfl rfl (by decide +kernel) (z_room (Nat.le_of_ble_eq_true rfl))) he rfl rfl rfl (Nat.le_of_ble_eq_true rfl) dX0_at_58 ⟨Nat.le_of_ble_eq_true rfl, Nat.le_of_ble_eq_true rfl⟩) hS (fun x_23 hp_21 nx_22 hw H locs hH hz hS => ?_)
        refine lv_iload_n hx hb dX0_at_61 rfl (lv_at hl 3 rfl) ?_
        refine lv_imul hx hb dX0_at_62 ?_
        refine lv_iload_n hx hb dX0_at_63 rfl (lv_at hl 4 rfl) ?_
        refine lv_iadd hx hb dX0_at_64 ?_
        refine lv_topi (fun x_24 ex_24 => ?_)
        have hw := hw x_24 ex_24
        refine lv_istore (lv' := [(5, .int x_24), (4, va_rf r_11), (0, va_rf (some h0)), (1, .int x1), (2, .int x2), (3, .int x3)]) hx hb dX0_at_65 hl (by decide) (by first | rfl | simp [List.filter_cons, z_cat, z_catI, z_catJ, z_catF, z_catD]) (fun ls hl => ?_)
        refine zr_aload_n (r := some h0) hx hb dX0_at_67 rfl (lv_at hl 2 rfl) ?_
        obtain ⟨a_25, ci_26, fs_27, r_28, er, he, hc, hv, hw⟩ := zgR_e hw
        refine zw_get hk hH er he hv (fk_X0_47 hc) dX0_at_68 ?_
        refine lv_iload_n hx hb dX0_at_71 rfl (lv_at hl 3 rfl) ?_
        obtain ⟨a_29, n_30, f_31, er, he, hi, hw⟩ := zaR_e hw
        have hw := hw _ rfl
        refine zw_aald hk hH 9 er he rfl rfl hi dX0_at_72 ?_
        generalize f_31 x1.toNatClampNeg = r_32 at hw ⊢
        obtain ⟨a_33, ci_34, fs_35, r_36, er, he, hc, hv, hw⟩ := zgR_e hw
        refine zw_get hk hH er he hv (fk_X0_157 hc) dX0_at_73 ?_
        refine lv_iload hx hb dX0_at_76 (lv_at hl 0 rfl) ?_
        obtain ⟨a_37, n_38, f_39, er, he, hi, hw⟩ := zaI_e hw
        have hw := hw _ rfl
        refine zw_bald hk hH er he hi dX0_at_78 ?_
        generalize f_39 x_24.toNatClampNeg = x_40 at hw ⊢
        obtain ⟨P_116, hP_116, hw⟩ := hw
        have hJ_116 : ∀ (r_41 : Option Nat) (x_42 : Int32) (x_43 : Int64) (hp_44 : zHp) (nx_45 : Nat) (H : Heap) (locs : List Loc) (ls : Array Slot), P_116 r_41 x_42 x_43 hp_44 nx_45 → lv_has ls 6 [(0, va_rf (some h0)), (1, .int x1), (2, .int x2), (3, .int x3), (4, va_rf r_41), (5, .int x_42)] → zHd g hp_44 H → H.size = nx_45 → va_S (zAd g) s.heap H locs → W p l e (zrm (d + 1) 0 0) s m ([.ref h0, .int x1, .int x2, .int x3] : List Value).toArray below meth c H locs 0 0 (MQ below (zQl g Post) ([.ref h0, .int x1, .int x2, .int x3] : List Value).toArray s 0 0 (zAd g)) (F0 m 116 ls [.long x_43]) := by
          intro r_41 x_42 x_43 hp_44 nx_45 H locs ls hw hl hH hz hS
          have hw := hP_116 r_41 x_42 x_43 hp_44 nx_45 hw
          exact zr_lret hk hr hH hz hS hw (Nat.le_of_ble_eq_true rfl) (Nat.le_of_ble_eq_true rfl) dX0_at_116
        refine lv_if_eq (tgt := 101) hx hb dX0_at_79 (by decide) (fun hc => ?_) (fun hc => ?_)
        · have hw := hw.1 hc
          refine zr_aload_n (r := some h0) hx hb dX0_at_101 rfl (lv_at hl 2 rfl) ?_
          obtain ⟨a_46, ci_47, fs_48, r_49, er, he, hc, hv, hw⟩ := zgR_e hw
          refine zw_get hk hH er he hv (fk_X0_47 hc) dX0_at_102 ?_
          refine lv_iload_n hx hb dX0_at_105 rfl (lv_at hl 3 rfl) ?_
          obtain ⟨a_50, n_51, f_52, er, he, hi, hw⟩ := zaR_e hw
          have hw := hw _ rfl
          refine zw_aald hk hH 9 er he rfl rfl hi dX0_at_106 ?_
          generalize f_52 x1.toNatClampNeg = r_53 at hw ⊢
          obtain ⟨a_54, ci_55, fs_56, r_57, er, he, hc, hv, hw⟩ := zgR_e hw
          refine zw_get hk hH er he hv (fk_X0_160 hc) dX0_at_107 ?_
          refine lv_iload hx hb dX0_at_110 (lv_at hl 0 rfl) ?_
          obtain ⟨a_58, n_59, f_60, er, he, hi, hw⟩ := zaD_e hw
          have hw := hw _ rfl
          refine zw_dald hk hH er he hi dX0_at_112 ?_
          generalize f_60 x_24.toNatClampNeg = x_61 at hw ⊢
          refine zr_calll (zr_runS (As := [.double x_61]) hk hH hz hS hl.1 hw (va_cwS 1 hts (lw_S q2300 q2301 q168 q2302) rfl rfl rfl (by decide +kernel) (z_room (Nat.le_of_ble_eq_true rfl))) rfl rfl (Nat.le_of_ble_eq_true rfl) dX0_at_113 ⟨Nat.le_of_ble_eq_true rfl, Nat.le_of_ble_eq_true rfl⟩) hS (fun x_64 hp_62 nx_63 hw H locs hH hz hS => ?_)
          exact hJ_116 r_11 x_24 x_64 hp_62 nx_63 _ _ _ hw (lv_sub hl [2, 3, 4, 5, 1, 0] rfl) hH hz hS
        · have hw := hw.2 hc
          refine lv_bipush (v := (-20 : Int32)) hx hb dX0_at_82 (by decide) ?_
          refine zr_aload_n (r := some h0) hx hb dX0_at_84 rfl (lv_at hl 2 rfl) ?_
          obtain ⟨a_65, ci_66, fs_67, r_68, er, he, hc, hv, hw⟩ := zgR_e hw
          refine zw_get hk hH er he hv (fk_X0_47 hc) dX0_at_85 ?_
          refine lv_iload_n hx hb dX0_at_88 rfl (lv_at hl 3 rfl) ?_
          obtain ⟨a_69, n_70, f_71, er, he, hi, hw⟩ := zaR_e hw
          have hw := hw _ rfl
          refine zw_aald hk hH 9 er he rfl rfl hi dX0_at_89 ?_
          generalize f_71 x1.toNatClampNeg = r_72 at hw ⊢
          obtain ⟨a_73, ci_74, fs_75, r_76, er, he, hc, hv, hw⟩ := zgR_e hw
          refine zw_get hk hH er he hv (fk_X0_157 hc) dX0_at_90 ?_
          refine lv_iload hx hb dX0_at_93 (lv_at hl 0 rfl) ?_
          obtain ⟨a_77, n_78, f_79, er, he, hi, hw⟩ := zaI_e hw
          have hw := hw _ rfl
          refine zw_bald hk hH er he hi dX0_at_95 ?_
          generalize f_79 x_24.toNatClampNeg = x_80 at hw ⊢
          refine lv_isub hx hb dX0_at_96 ?_
          refine lv_i2l hx hb dX0_at_97 rfl ?_
          refine lv_goto (tgt := 116) hx hb dX0_at_98 (by decide) ?_
          exact hJ_116 r_11 x_24 (((-20 : Int32) - x_80).toInt64) hp_21 nx_22 _ _ _ hw (lv_sub hl [2, 3, 4, 5, 1, 0] rfl) hH hz hS
      · have hw := hw.1 hc
        refine lv_ldc2 hx hb hown (hts _ q2310) dX0_at_39 ?_
        exact zr_lret hk hr hH hz hS hw (Nat.le_of_ble_eq_true rfl) (Nat.le_of_ble_eq_true rfl) dX0_at_42
    · have hw := hw.1 hc
      refine lv_ldc2 hx hb hown (hts _ q2315) dX0_at_24 ?_
      exact zr_lret hk hr hH hz hS hw (Nat.le_of_ble_eq_true rfl) (Nat.le_of_ble_eq_true rfl) dX0_at_27
  · have hw := hw.1 hc
    refine lv_ldc2 hx hb hown (hts _ q2310) dX0_at_7 ?_
    exact zr_lret hk hr hH hz hS hw (Nat.le_of_ble_eq_true rfl) (Nat.le_of_ble_eq_true rfl) dX0_at_10
def wp_X0_isCase (l : Launch) (g : zG) (d : Nat) (h0 : Nat) (r1 : Option Nat) (x2 : Int32) (x3 : Int32) (hp : zHp) (nx : Nat) (Post : Int32 → zHp → Nat → Prop) : Prop :=
  (zgR hp r1 [31] 2 fun r_4 =>
  (zo hp r_4 [32] fun a_25 ci_26 fs_27 => zMt l g yX32_size cX32_size 1 (some .int) d 0 0 (.ref a_25 :: []) hp nx (zQi g fun x_7 hp_5 nx_6 =>
  (zMt l g yX0_in cX0_in 6 (some .boolean) d 0 0 [.long x2.toInt64, .long (0 : Int64), .long ((x_7 - (1 : Int32)).toInt64)] hp_5 nx_6 (zQi g fun x_10 hp_8 nx_9 =>
  (∃ P_40 : Int32 → zHp → Nat → Prop, (∀ (x_11 : Int32) (hp_12 : zHp) (nx_13 : Nat), P_40 x_11 hp_12 nx_13 →
  (((x_11 = 0 ∨ x_11 = 1) ∧ Post x_11 hp_12 nx_13))) ∧
  (∃ P_39 : zHp → Nat → Prop, (∀ (hp_14 : zHp) (nx_15 : Nat), P_39 hp_14 nx_15 →
  P_40 (0 : Int32) hp_14 nx_15) ∧
  ((x_10 = 0 →
  P_39 hp_8 nx_9) ∧
  (¬ x_10 = 0 →
  (zo hp_8 r1 [31] fun a_22 ci_23 fs_24 => zMt l g yX31_many cX31_many 1 (some .int) d 0 0 (.ref a_22 :: []) hp_8 nx_9 (zQi g fun x_18 hp_16 nx_17 =>
  (zMt l g yX0_in cX0_in 6 (some .boolean) d 0 0 [.long x3.toInt64, .long (0 : Int64), .long ((x_18 - (1 : Int32)).toInt64)] hp_16 nx_17 (zQi g fun x_21 hp_19 nx_20 =>
  ((x_21 = 0 →
  P_39 hp_19 nx_20) ∧
  (¬ x_21 = 0 →
  P_40 (1 : Int32) hp_19 nx_20)))))))))))))))
set_option maxHeartbeats 40000000 in
theorem met_X0_isCase {l : Launch} {g : zG} {d : Nat} {h0 : Nat} {r1 : Option Nat} {x2 : Int32} {x3 : Int32} {hp : zHp} {nx : Nat} {Post : Int32 → zHp → Nat → Prop} (hw : wp_X0_isCase l g d h0 r1 x2 x3 hp nx Post) : zMt l g yX0_isCase cX0_isCase 4 (some .boolean) (d + 1) 0 0 [.ref h0, va_rf r1, .int x2, .int x3] hp nx (zQi g Post) := by
  refine z_start (by decide) (by cases r1 <;> exact Nat.le_of_ble_eq_true rfl) ?_
  intro p e s m below meth c hk hr hin hH hz ls hl
  have hx := hk.1.1
  have hb := hk.1.2.1
  have hown := hk.1.2.2.2.1
  have hts := hk.1.2.2.2.2
  have hS : va_S (zAd g) s.heap s.heap [] := va_S.rf
  have hl : lv_has ls 4 [(0, va_rf (some h0)), (1, va_rf r1), (2, .int x2), (3, .int x3)] := by cases r1 <;> exact hl
  unfold wp_X0_isCase at hw
  refine lv_iload_n hx hb dX0_isCase_0 rfl (lv_at hl 2 rfl) ?_
  refine lv_i2l hx hb dX0_isCase_1 rfl ?_
  refine lv_lconst (v := (0 : Int64)) hx hb dX0_isCase_2 (by decide) ?_
  refine zr_aload_n (r := r1) hx hb dX0_isCase_3 rfl (lv_at hl 1 rfl) ?_
  obtain ⟨a_1, ci_2, fs_3, r_4, er, he, hc, hv, hw⟩ := zgR_e hw
  refine zw_get hk hH er he hv (fk_X0_171 hc) dX0_isCase_4 ?_
  obtain ⟨a_25, ci_26, fs_27, er, he, hc, hw⟩ := zo_e hw
  obtain rfl := List.mem_singleton.mp hc
  refine zr_calli (zw_runV (As := []) hk hH hz hS hl.1 er hw (cwV 0 hts (lw_V q2442 q1173 q1174 q196 q1175) rfl rfl rfl (by decide +kernel) (z_room (Nat.le_of_ble_eq_true rfl))) he rfl rfl rfl (Nat.le_of_ble_eq_true rfl) dX0_isCase_7 ⟨Nat.le_of_ble_eq_true rfl, Nat.le_of_ble_eq_true rfl⟩) hS (fun x_7 hp_5 nx_6 hw H locs hH hz hS => ?_)
  refine lv_iconst (v := (1 : Int32)) hx hb dX0_isCase_10 (by decide) ?_
  refine lv_isub hx hb dX0_isCase_11 ?_
  refine lv_i2l hx hb dX0_isCase_12 rfl ?_
  refine zr_calli (zr_runS (As := [.long x2.toInt64, .long (0 : Int64), .long ((x_7 - (1 : Int32)).toInt64)]) hk hH hz hS hl.1 hw (va_cwS 3 hts (lw_S q1308 q1309 q131 q1310) rfl rfl rfl (by decide +kernel) (z_room (Nat.le_of_ble_eq_true rfl))) rfl rfl (Nat.le_of_ble_eq_true rfl) dX0_isCase_13 ⟨Nat.le_of_ble_eq_true rfl, Nat.le_of_ble_eq_true rfl⟩) hS (fun x_10 hp_8 nx_9 hw H locs hH hz hS => ?_)
  obtain ⟨P_40, hP_40, hw⟩ := hw
  have hJ_40 : ∀ (x_11 : Int32) (hp_12 : zHp) (nx_13 : Nat) (H : Heap) (locs : List Loc) (ls : Array Slot), P_40 x_11 hp_12 nx_13 → lv_has ls 4 [(0, va_rf (some h0)), (1, va_rf r1), (2, .int x2), (3, .int x3)] → zHd g hp_12 H → H.size = nx_13 → va_S (zAd g) s.heap H locs → W p l e (zrm (d + 1) 0 0) s m ([.ref h0, va_rf r1, .int x2, .int x3] : List Value).toArray below meth c H locs 0 0 (MQ below (zQi g Post) ([.ref h0, va_rf r1, .int x2, .int x3] : List Value).toArray s 0 0 (zAd g)) (F0 m 40 ls [.int x_11]) := by
    intro x_11 hp_12 nx_13 H locs ls hw hl hH hz hS
    have hw := hP_40 x_11 hp_12 nx_13 hw
    exact zr_zret hk hr hH hz hS hw.1 hw.2 (Nat.le_of_ble_eq_true rfl) (Nat.le_of_ble_eq_true rfl) dX0_isCase_40
  obtain ⟨P_39, hP_39, hw⟩ := hw
  have hJ_39 : ∀ (hp_14 : zHp) (nx_15 : Nat) (H : Heap) (locs : List Loc) (ls : Array Slot), P_39 hp_14 nx_15 → lv_has ls 4 [(0, va_rf (some h0)), (1, va_rf r1), (2, .int x2), (3, .int x3)] → zHd g hp_14 H → H.size = nx_15 → va_S (zAd g) s.heap H locs → W p l e (zrm (d + 1) 0 0) s m ([.ref h0, va_rf r1, .int x2, .int x3] : List Value).toArray below meth c H locs 0 0 (MQ below (zQi g Post) ([.ref h0, va_rf r1, .int x2, .int x3] : List Value).toArray s 0 0 (zAd g)) (F0 m 39 ls []) := by
    intro hp_14 nx_15 H locs ls hw hl hH hz hS
    have hw := hP_39 hp_14 nx_15 hw
    refine lv_iconst (v := (0 : Int32)) hx hb dX0_isCase_39 (by decide) ?_
    exact hJ_40 (0 : Int32) hp_14 nx_15 _ _ _ hw hl hH hz hS
  refine lv_if_eq (tgt := 39) hx hb dX0_isCase_16 (by decide) (fun hc => ?_) (fun hc => ?_)
  · have hw := hw.1 hc
    exact hJ_39 hp_8 nx_9 _ _ _ hw hl hH hz hS
  · have hw := hw.2 hc
    refine lv_iload_n hx hb dX0_isCase_19 rfl (lv_at hl 3 rfl) ?_
    refine lv_i2l hx hb dX0_isCase_20 rfl ?_
    refine lv_lconst (v := (0 : Int64)) hx hb dX0_isCase_21 (by decide) ?_
    refine zr_aload_n (r := r1) hx hb dX0_isCase_22 rfl (lv_at hl 1 rfl) ?_
    obtain ⟨a_22, ci_23, fs_24, er, he, hc, hw⟩ := zo_e hw
    obtain rfl := List.mem_singleton.mp hc
    refine zr_calli (zw_runV (As := []) hk hH hz hS hl.1 er hw (cwV 0 hts (lw_V q2175 q1177 q1178 q195 q1179) rfl rfl rfl (by decide +kernel) (z_room (Nat.le_of_ble_eq_true rfl))) he rfl rfl rfl (Nat.le_of_ble_eq_true rfl) dX0_isCase_23 ⟨Nat.le_of_ble_eq_true rfl, Nat.le_of_ble_eq_true rfl⟩) hS (fun x_18 hp_16 nx_17 hw H locs hH hz hS => ?_)
    refine lv_iconst (v := (1 : Int32)) hx hb dX0_isCase_26 (by decide) ?_
    refine lv_isub hx hb dX0_isCase_27 ?_
    refine lv_i2l hx hb dX0_isCase_28 rfl ?_
    refine zr_calli (zr_runS (As := [.long x3.toInt64, .long (0 : Int64), .long ((x_18 - (1 : Int32)).toInt64)]) hk hH hz hS hl.1 hw (va_cwS 3 hts (lw_S q1308 q1309 q131 q1310) rfl rfl rfl (by decide +kernel) (z_room (Nat.le_of_ble_eq_true rfl))) rfl rfl (Nat.le_of_ble_eq_true rfl) dX0_isCase_29 ⟨Nat.le_of_ble_eq_true rfl, Nat.le_of_ble_eq_true rfl⟩) hS (fun x_21 hp_19 nx_20 hw H locs hH hz hS => ?_)
    refine lv_if_eq (tgt := 39) hx hb dX0_isCase_32 (by decide) (fun hc => ?_) (fun hc => ?_)
    · have hw := hw.1 hc
      exact hJ_39 hp_19 nx_20 _ _ _ hw hl hH hz hS
    · have hw := hw.2 hc
      refine lv_iconst (v := (1 : Int32)) hx hb dX0_isCase_35 (by decide) ?_
      refine lv_goto (tgt := 40) hx hb dX0_isCase_36 (by decide) ?_
      exact hJ_40 (1 : Int32) hp_19 nx_20 _ _ _ hw hl hH hz hS
def wp_X0_blame (l : Launch) (g : zG) (d : Nat) (h0 : Nat) (x1 : Int32) (x2 : Int32) (x3 : Int32) (hp : zHp) (nx : Nat) (Post : Int32 → zHp → Nat → Prop) : Prop :=
  (zMt l g yX0_isTable cX0_isTable 1 (some .boolean) d 0 0 [.int x1] hp nx (zQi g fun x_3 hp_1 nx_2 =>
  ((x_3 = 0 →
  (Post (-2 : Int32) hp_1 nx_2)) ∧
  (¬ x_3 = 0 →
  (zgR hp_1 (some h0) [0] 1 fun r_7 =>
  (zaR (g.2.1 8) hp_1 r_7 fun a_8 n_9 f_10 => vp_in x1 n_9 ∧ ∀ r_11 : Option Nat, r_11 = f_10 x1.toNatClampNeg →
  ((r_11 = none →
  (Post (-3 : Int32) hp_1 nx_2)) ∧
  (¬ r_11 = none →
  (zo hp_1 (some h0) [0] fun a_42 ci_43 fs_44 => zMt l g yX0_isCase cX0_isCase 4 (some .boolean) d 0 0 (.ref a_42 :: [va_rf r_11, .int x2, .int x3]) hp_1 nx_2 (zQi g fun x_14 hp_12 nx_13 =>
  ((x_14 = 0 →
  (Post (-2 : Int32) hp_12 nx_13)) ∧
  (¬ x_14 = 0 →
  (zo hp_12 (some h0) [0] fun a_39 ci_40 fs_41 => zMtW l g yX0_runs cX0_runs 18 none [(103, 128, 269, 0), (178, 217, 269, 0), (269, 271, 269, 0)] d 0 0 (.ref a_39 :: [va_rf r_11, .int x2, .int x3]) hp_12 nx_13 (zQv g fun hp_15 nx_16 =>
  (zgR hp_15 (some h0) [0] 5 fun r_20 =>
  (zaR (g.2.1 9) hp_15 r_20 fun a_21 n_22 f_23 => vp_in x1 n_22 ∧ ∀ r_24 : Option Nat, r_24 = f_23 x1.toNatClampNeg →
  (zgR hp_15 r_24 [1] 7 fun r_28 =>
  (zo hp_15 r_11 [31] fun a_36 ci_37 fs_38 => zMt l g yX31_many cX31_many 1 (some .int) d 0 0 (.ref a_36 :: []) hp_15 nx_16 (zQi g fun x_31 hp_29 nx_30 =>
  (zaI (g.2.1 2) hp_29 r_28 fun a_32 n_33 f_34 => vp_in ((x_31 * x2) + x3) n_33 ∧ ∀ x_35 : Int32, x_35 = f_34 ((x_31 * x2) + x3).toNatClampNeg →
  (Post x_35 hp_29 nx_30)))))))))))))))))))))
set_option maxHeartbeats 40000000 in
theorem met_X0_blame {l : Launch} {g : zG} {d : Nat} {h0 : Nat} {x1 : Int32} {x2 : Int32} {x3 : Int32} {hp : zHp} {nx : Nat} {Post : Int32 → zHp → Nat → Prop} (hw : wp_X0_blame l g d h0 x1 x2 x3 hp nx Post) : zMt l g yX0_blame cX0_blame 5 (some .int) (d + 1) 0 0 [.ref h0, .int x1, .int x2, .int x3] hp nx (zQi g Post) := by
  refine z_start (by decide) (Nat.le_of_ble_eq_true rfl) ?_
  intro p e s m below meth c hk hr hin hH hz ls hl
  have hx := hk.1.1
  have hb := hk.1.2.1
  have hown := hk.1.2.2.2.1
  have hts := hk.1.2.2.2.2
  have hS : va_S (zAd g) s.heap s.heap [] := va_S.rf
  have hl : lv_has ls 5 [(0, va_rf (some h0)), (1, .int x1), (2, .int x2), (3, .int x3)] := hl
  unfold wp_X0_blame at hw
  refine lv_iload_n hx hb dX0_blame_0 rfl (lv_at hl 1 rfl) ?_
  refine zr_calli (zr_runS (As := [.int x1]) hk hH hz hS hl.1 hw (va_cwS 1 hts (lw_S q2343 q2344 q131 q2345) rfl rfl rfl (by decide +kernel) (z_room (Nat.le_of_ble_eq_true rfl))) rfl rfl (Nat.le_of_ble_eq_true rfl) dX0_blame_1 ⟨Nat.le_of_ble_eq_true rfl, Nat.le_of_ble_eq_true rfl⟩) hS (fun x_3 hp_1 nx_2 hw H locs hH hz hS => ?_)
  refine lv_if_ne (tgt := 10) hx hb dX0_blame_4 (by decide) (fun hc => ?_) (fun hc => ?_)
  · have hw := hw.2 hc
    refine zr_aload_n (r := some h0) hx hb dX0_blame_10 rfl (lv_at hl 0 rfl) ?_
    obtain ⟨a_4, ci_5, fs_6, r_7, er, he, hc, hv, hw⟩ := zgR_e hw
    refine zw_get hk hH er he hv (fk_X0_37 hc) dX0_blame_11 ?_
    refine lv_iload_n hx hb dX0_blame_14 rfl (lv_at hl 1 rfl) ?_
    obtain ⟨a_8, n_9, f_10, er, he, hi, hw⟩ := zaR_e hw
    have hw := hw _ rfl
    refine zw_aald hk hH 8 er he rfl rfl hi dX0_blame_15 ?_
    generalize f_10 x1.toNatClampNeg = r_11 at hw ⊢
    refine zr_astore (r := r_11) (lv' := [(4, va_rf r_11), (0, va_rf (some h0)), (1, .int x1), (2, .int x2), (3, .int x3)]) hx hb dX0_blame_16 hl (by decide) (by first | rfl | simp [List.filter_cons, z_cat, z_catI, z_catJ, z_catF, z_catD]) (fun ls hl => ?_)
    refine zr_aload (r := r_11) hx hb dX0_blame_18 (lv_at hl 0 rfl) ?_
    refine zr_ifnonnull (r := r_11) (tgt := 26) hx hb dX0_blame_20 (by decide) (fun hc => ?_) (fun hc => ?_)
    · have hw := hw.2 hc
      refine zr_aload_n (r := some h0) hx hb dX0_blame_26 rfl (lv_at hl 1 rfl) ?_
      refine zr_aload (r := r_11) hx hb dX0_blame_27 (lv_at hl 0 rfl) ?_
      refine lv_iload_n hx hb dX0_blame_29 rfl (lv_at hl 3 rfl) ?_
      refine lv_iload_n hx hb dX0_blame_30 rfl (lv_at hl 4 rfl) ?_
      obtain ⟨a_42, ci_43, fs_44, er, he, hc, hw⟩ := zo_e hw
      obtain rfl := List.mem_singleton.mp hc
      refine zr_calli (zw_runV (As := [va_rf r_11, .int x2, .int x3]) hk hH hz hS hl.1 er hw (cwV 3 hts (lw_V q2438 q2440 qs55 q131 q2441) rfl rfl rfl (by decide +kernel) (z_room (Nat.le_of_ble_eq_true rfl))) he rfl rfl rfl (Nat.le_of_ble_eq_true rfl) dX0_blame_31 ⟨Nat.le_of_ble_eq_true rfl, Nat.le_of_ble_eq_true rfl⟩) hS (fun x_14 hp_12 nx_13 hw H locs hH hz hS => ?_)
      refine lv_if_ne (tgt := 40) hx hb dX0_blame_34 (by decide) (fun hc => ?_) (fun hc => ?_)
      · have hw := hw.2 hc
        refine zr_aload_n (r := some h0) hx hb dX0_blame_40 rfl (lv_at hl 1 rfl) ?_
        refine zr_aload (r := r_11) hx hb dX0_blame_41 (lv_at hl 0 rfl) ?_
        refine lv_iload_n hx hb dX0_blame_43 rfl (lv_at hl 3 rfl) ?_
        refine lv_iload_n hx hb dX0_blame_44 rfl (lv_at hl 4 rfl) ?_
        obtain ⟨a_39, ci_40, fs_41, er, he, hc, hw⟩ := zo_e hw
        obtain rfl := List.mem_singleton.mp hc
        refine zr_callv (zw_runVW (As := [va_rf r_11, .int x2, .int x3]) hk hH hz hS hl.1 er hw (vx_cwVW 3 hts (lw_VW q2158 q2160 qs46 q131 q2161) rfl rfl rfl (by decide +kernel) (z_room (Nat.le_of_ble_eq_true rfl))) he rfl rfl rfl (Nat.le_of_ble_eq_true rfl) dX0_blame_45 ⟨Nat.le_of_ble_eq_true rfl, Nat.le_of_ble_eq_true rfl⟩) hS (fun hp_15 nx_16 hw H locs hH hz hS => ?_)
        refine zr_aload_n (r := some h0) hx hb dX0_blame_48 rfl (lv_at hl 1 rfl) ?_
        obtain ⟨a_17, ci_18, fs_19, r_20, er, he, hc, hv, hw⟩ := zgR_e hw
        refine zw_get hk hH er he hv (fk_X0_47 hc) dX0_blame_49 ?_
        refine lv_iload_n hx hb dX0_blame_52 rfl (lv_at hl 2 rfl) ?_
        obtain ⟨a_21, n_22, f_23, er, he, hi, hw⟩ := zaR_e hw
        have hw := hw _ rfl
        refine zw_aald hk hH 9 er he rfl rfl hi dX0_blame_53 ?_
        generalize f_23 x1.toNatClampNeg = r_24 at hw ⊢
        obtain ⟨a_25, ci_26, fs_27, r_28, er, he, hc, hv, hw⟩ := zgR_e hw
        refine zw_get hk hH er he hv (fk_X0_276 hc) dX0_blame_54 ?_
        refine zr_aload (r := r_11) hx hb dX0_blame_57 (lv_at hl 0 rfl) ?_
        obtain ⟨a_36, ci_37, fs_38, er, he, hc, hw⟩ := zo_e hw
        obtain rfl := List.mem_singleton.mp hc
        refine zr_calli (zw_runV (As := []) hk hH hz hS hl.1 er hw (cwV 0 hts (lw_V q2175 q1177 q1178 q195 q1179) rfl rfl rfl (by decide +kernel) (z_room (Nat.le_of_ble_eq_true rfl))) he rfl rfl rfl (by simp only [List.map_cons, List.map_nil, z_cat]; exact Nat.le_of_ble_eq_true rfl) dX0_blame_59 ⟨Nat.le_of_ble_eq_true rfl, Nat.le_of_ble_eq_true rfl⟩) hS (fun x_31 hp_29 nx_30 hw H locs hH hz hS => ?_)
        refine lv_iload_n hx hb dX0_blame_62 rfl (lv_at hl 3 rfl) ?_
        refine lv_imul hx hb dX0_blame_63 ?_
        refine lv_iload_n hx hb dX0_blame_64 rfl (lv_at hl 4 rfl) ?_
        refine lv_iadd hx hb dX0_blame_65 ?_
        obtain ⟨a_32, n_33, f_34, er, he, hi, hw⟩ := zaI_e hw
        have hw := hw _ rfl
        refine zw_bald hk hH er he hi dX0_blame_66 ?_
        generalize f_34 ((x_31 * x2) + x3).toNatClampNeg = x_35 at hw ⊢
        exact zr_iret hk hr hH hz hS hw (Nat.le_of_ble_eq_true rfl) (Nat.le_of_ble_eq_true rfl) dX0_blame_67
      · have hw := hw.1 hc
        refine lv_bipush (v := (-2 : Int32)) hx hb dX0_blame_37 (by decide) ?_
        exact zr_iret hk hr hH hz hS hw (Nat.le_of_ble_eq_true rfl) (Nat.le_of_ble_eq_true rfl) dX0_blame_39
    · have hw := hw.1 hc
      refine lv_bipush (v := (-3 : Int32)) hx hb dX0_blame_23 (by decide) ?_
      exact zr_iret hk hr hH hz hS hw (Nat.le_of_ble_eq_true rfl) (Nat.le_of_ble_eq_true rfl) dX0_blame_25
  · have hw := hw.1 hc
    refine lv_bipush (v := (-2 : Int32)) hx hb dX0_blame_7 (by decide) ?_
    exact zr_iret hk hr hH hz hS hw (Nat.le_of_ble_eq_true rfl) (Nat.le_of_ble_eq_true rfl) dX0_blame_9
def wp_X0_adds (l : Launch) (g : zG) (d : Nat) (mc ms : Nat) (h0 : Nat) (x1 : Int32) (x2 : Int32) (hp : zHp) (nx : Nat) (Post : Int64 → zHp → Nat → Prop) : Prop :=
  (0 ≤ mc ∧ 0 ≤ ms ∧ zMt l g yX0_isTable cX0_isTable 1 (some .boolean) d 0 0 [.int x1] hp nx (zQi g fun x_3 hp_1 nx_2 =>
  (∃ P_19 : zHp → Nat → Nat → Nat → Prop, (∀ (hp_4 : zHp) (nx_5 : Nat) (kc_6 : Nat) (ks_7 : Nat), P_19 hp_4 nx_5 kc_6 ks_7 →
  (kc_6 ≤ mc ∧ ks_7 ≤ ms ∧ Post (-2 : Int64) hp_4 nx_5)) ∧
  ((x_3 = 0 →
  P_19 hp_1 nx_2 0 0) ∧
  (¬ x_3 = 0 →
  (0 ≤ mc ∧ 0 ≤ ms ∧ zMt l g yX0_in cX0_in 6 (some .boolean) d 0 0 [.long x2.toInt64, .long (0 : Int64), .long (4 : Int64)] hp_1 nx_2 (zQi g fun x_10 hp_8 nx_9 =>
  ((x_10 = 0 →
  P_19 hp_8 nx_9 0 0) ∧
  (¬ x_10 = 0 →
  (zgR hp_8 (some h0) [0] 1 fun r_14 =>
  (zaR (g.2.1 8) hp_8 r_14 fun a_15 n_16 f_17 => vp_in x1 n_16 ∧ ∀ r_18 : Option Nat, r_18 = f_17 x1.toNatClampNeg →
  ((r_18 = none →
  (0 ≤ mc ∧ 0 ≤ ms ∧ Post (-3 : Int64) hp_8 nx_9)) ∧
  (¬ r_18 = none →
  (zpt g hp_8 (some h0) [0] 2 (.int (0 : Int32)) fun hp_22 =>
  (∃ c_23 s_24 : Nat, 0 + c_23 ≤ mc ∧ 0 + s_24 ≤ ms ∧ zo hp_22 (some h0) [0] fun a_47 ci_48 fs_49 => zMt l g yX0_how cX0_how 3 (some (.object "WhatIfSheet$Asked")) d c_23 s_24 (.ref a_47 :: [.int x1, .int x2]) hp_22 nx_9 (zQq g fun r_27 hp_25 nx_26 =>
  ((0 + c_23) ≤ mc ∧ (0 + s_24) ≤ ms ∧ zo hp_25 r_27 [18, 19, 20, 21, 22] fun a_43 ci_44 fs_45 => ∃ PP_46 : UInt64 → zHp → Nat → Prop, (∀ (x_30 : UInt64) (hp_28 : zHp) (nx_29 : Nat), PP_46 x_30 hp_28 nx_29 →
  (∃ P_66 : UInt64 → Int64 → zHp → Nat → Nat → Nat → Prop, (∀ (x_31 : UInt64) (x_32 : Int64) (hp_33 : zHp) (nx_34 : Nat) (kc_35 : Nat) (ks_36 : Nat), P_66 x_31 x_32 hp_33 nx_34 kc_35 ks_36 →
  (kc_35 ≤ mc ∧ ks_36 ≤ ms ∧ Post x_32 hp_33 nx_34)) ∧
  ((x2 = (4 : Int32) →
  P_66 x_30 (FP.d2l x_30) hp_28 nx_29 (0 + c_23) (0 + s_24)) ∧
  (¬ x2 = (4 : Int32) →
  ((0 + c_23) ≤ mc ∧ (0 + s_24) ≤ ms ∧ zo hp_28 (some h0) [0] fun a_40 ci_41 fs_42 => zMt l g yX0_answer cX0_answer 3 (some .long) d 0 0 (.ref a_40 :: [.double x_30]) hp_28 nx_29 (zQl g fun x_39 hp_37 nx_38 =>
  P_66 x_30 x_39 hp_37 nx_38 (0 + c_23) (0 + s_24))))))) ∧ zMt l g yX18_worth cX18_worth 2 (some .double) d 0 0 (.ref a_43 :: []) hp_25 nx_26 (zQd g PP_46))))))))))))))))))
set_option maxHeartbeats 40000000 in
theorem met_X0_adds {l : Launch} {g : zG} {d : Nat} {mc ms : Nat} {h0 : Nat} {x1 : Int32} {x2 : Int32} {hp : zHp} {nx : Nat} {Post : Int64 → zHp → Nat → Prop} (hw : wp_X0_adds l g d mc ms h0 x1 x2 hp nx Post) : zMt l g yX0_adds cX0_adds 5 (some .long) (d + 1) mc ms [.ref h0, .int x1, .int x2] hp nx (zQl g Post) := by
  refine z_start (by decide) (Nat.le_of_ble_eq_true rfl) ?_
  intro p e s m below meth c hk hr hin hH hz ls hl
  have hx := hk.1.1
  have hb := hk.1.2.1
  have hown := hk.1.2.2.2.1
  have hts := hk.1.2.2.2.2
  have hS : va_S (zAd g) s.heap s.heap [] := va_S.rf
  have hl : lv_has ls 5 [(0, va_rf (some h0)), (1, .int x1), (2, .int x2)] := hl
  unfold wp_X0_adds at hw
  refine lv_iload_n hx hb dX0_adds_0 rfl (lv_at hl 1 rfl) ?_
  obtain ⟨hcl, hsl, hw⟩ := hw
  refine zr_calli (zr_runS (As := [.int x1]) hk hH hz hS hl.1 hw (va_cwS 1 hts (lw_S q2343 q2344 q131 q2345) rfl rfl rfl (by decide +kernel) (z_room (Nat.le_of_ble_eq_true rfl))) rfl rfl (Nat.le_of_ble_eq_true rfl) dX0_adds_1 ⟨hcl, hsl⟩) hS (fun x_3 hp_1 nx_2 hw H locs hH hz hS => ?_)
  obtain ⟨P_19, hP_19, hw⟩ := hw
  have hJ_19 : ∀ (hp_4 : zHp) (nx_5 : Nat) (kc_6 : Nat) (ks_7 : Nat) (H : Heap) (locs : List Loc) (ls : Array Slot), P_19 hp_4 nx_5 kc_6 ks_7 → lv_has ls 5 [(0, va_rf (some h0)), (1, .int x1), (2, .int x2)] → zHd g hp_4 H → H.size = nx_5 → va_S (zAd g) s.heap H locs → W p l e (zrm (d + 1) mc ms) s m ([.ref h0, .int x1, .int x2] : List Value).toArray below meth c H locs kc_6 ks_7 (MQ below (zQl g Post) ([.ref h0, .int x1, .int x2] : List Value).toArray s mc ms (zAd g)) (F0 m 19 ls []) := by
    intro hp_4 nx_5 kc_6 ks_7 H locs ls hw hl hH hz hS
    have hw := hP_19 hp_4 nx_5 kc_6 ks_7 hw
    refine lv_ldc2 hx hb hown (hts _ q2310) dX0_adds_19 ?_
    obtain ⟨hkc, hks, hw⟩ := hw
    exact zr_lret hk hr hH hz hS hw hkc hks dX0_adds_22
  refine lv_if_eq (tgt := 19) hx hb dX0_adds_4 (by decide) (fun hc => ?_) (fun hc => ?_)
  · have hw := hw.1 hc
    exact hJ_19 hp_1 nx_2 0 0 _ _ _ hw hl hH hz hS
  · have hw := hw.2 hc
    refine lv_iload_n hx hb dX0_adds_7 rfl (lv_at hl 2 rfl) ?_
    refine lv_i2l hx hb dX0_adds_8 rfl ?_
    refine lv_lconst (v := (0 : Int64)) hx hb dX0_adds_9 (by decide) ?_
    refine lv_ldc2 hx hb hown (hts _ q2451) dX0_adds_10 ?_
    obtain ⟨hcl, hsl, hw⟩ := hw
    refine zr_calli (zr_runS (As := [.long x2.toInt64, .long (0 : Int64), .long (4 : Int64)]) hk hH hz hS hl.1 hw (va_cwS 3 hts (lw_S q1308 q1309 q131 q1310) rfl rfl rfl (by decide +kernel) (z_room (Nat.le_of_ble_eq_true rfl))) rfl rfl (Nat.le_of_ble_eq_true rfl) dX0_adds_13 ⟨hcl, hsl⟩) hS (fun x_10 hp_8 nx_9 hw H locs hH hz hS => ?_)
    refine lv_if_ne (tgt := 23) hx hb dX0_adds_16 (by decide) (fun hc => ?_) (fun hc => ?_)
    · have hw := hw.2 hc
      refine zr_aload_n (r := some h0) hx hb dX0_adds_23 rfl (lv_at hl 0 rfl) ?_
      obtain ⟨a_11, ci_12, fs_13, r_14, er, he, hc, hv, hw⟩ := zgR_e hw
      refine zw_get hk hH er he hv (fk_X0_37 hc) dX0_adds_24 ?_
      refine lv_iload_n hx hb dX0_adds_27 rfl (lv_at hl 1 rfl) ?_
      obtain ⟨a_15, n_16, f_17, er, he, hi, hw⟩ := zaR_e hw
      have hw := hw _ rfl
      refine zw_aald hk hH 8 er he rfl rfl hi dX0_adds_28 ?_
      generalize f_17 x1.toNatClampNeg = r_18 at hw ⊢
      refine zr_ifnonnull (r := r_18) (tgt := 36) hx hb dX0_adds_29 (by decide) (fun hc => ?_) (fun hc => ?_)
      · have hw := hw.2 hc
        refine zr_aload_n (r := some h0) hx hb dX0_adds_36 rfl (lv_at hl 0 rfl) ?_
        refine lv_iconst (v := (0 : Int32)) hx hb dX0_adds_37 (by decide) ?_
        obtain ⟨a_19, ci_20, fs_21, hp_22, er, he, hc, hA, hkl, eh, hw⟩ := zpt_e hw
        refine zw_put hk hH hz hS er he hA hkl eh (fp_X0_138 hc) rfl rfl dX0_adds_38 (fun H locs hH hz hS => ?_)
        refine zr_aload_n (r := some h0) hx hb dX0_adds_41 rfl (lv_at hl 0 rfl) ?_
        refine lv_iload_n hx hb dX0_adds_42 rfl (lv_at hl 1 rfl) ?_
        refine lv_iload_n hx hb dX0_adds_43 rfl (lv_at hl 2 rfl) ?_
        obtain ⟨c_23, s_24, hcl, hsl, hw⟩ := hw
        obtain ⟨a_47, ci_48, fs_49, er, he, hc, hw⟩ := zo_e hw
        obtain rfl := List.mem_singleton.mp hc
        refine zr_callq (zw_runV (As := [.int x1, .int x2]) hk hH hz hS hl.1 er hw (cwV 2 hts (lw_V q2452 q2454 qs56 q131 q2455) rfl rfl rfl (by decide +kernel) (z_room (Nat.le_of_ble_eq_true rfl))) he rfl rfl rfl (Nat.le_of_ble_eq_true rfl) dX0_adds_44 ⟨hcl, hsl⟩) hS (fun r_27 hp_25 nx_26 hw H locs hH hz hS => ?_)
        obtain ⟨hcl, hsl, hw⟩ := hw
        obtain ⟨a_43, ci_44, fs_45, er, he, hc, PP_46, hPP, hw⟩ := zo_e hw
        have hC : ∀ (x_30 : UInt64) (hp_28 : zHp) (nx_29 : Nat), PP_46 x_30 hp_28 nx_29 → ∀ (H : Heap) (locs : List Loc), zHd g hp_28 H → H.size = nx_29 → va_S (zAd g) s.heap H locs → W p l e (zrm (d + 1) mc ms) s m ([.ref h0, .int x1, .int x2] : List Value).toArray below meth c H locs ((0 + c_23) + 0) ((0 + s_24) + 0) (MQ below (zQl g Post) ([.ref h0, .int x1, .int x2] : List Value).toArray s mc ms (zAd g)) (F0 m 50 ls [.double x_30]) := by
          intro x_30 hp_28 nx_29 hw H locs hH hz hS
          have hw := hPP x_30 hp_28 nx_29 hw
          refine lv_dstore_n (i := 3) (lv' := [(3, .double x_30), (0, va_rf (some h0)), (1, .int x1), (2, .int x2)]) hx hb dX0_adds_50 rfl hl (by decide) (by first | rfl | simp [List.filter_cons, z_cat, z_catI, z_catJ, z_catF, z_catD]) (fun ls hl => ?_)
          refine lv_iload_n hx hb dX0_adds_51 rfl (lv_at hl 3 rfl) ?_
          refine lv_iconst (v := (4 : Int32)) hx hb dX0_adds_52 (by decide) ?_
          obtain ⟨P_66, hP_66, hw⟩ := hw
          have hJ_66 : ∀ (x_31 : UInt64) (x_32 : Int64) (hp_33 : zHp) (nx_34 : Nat) (kc_35 : Nat) (ks_36 : Nat) (H : Heap) (locs : List Loc) (ls : Array Slot), P_66 x_31 x_32 hp_33 nx_34 kc_35 ks_36 → lv_has ls 5 [(0, va_rf (some h0)), (1, .int x1), (2, .int x2), (3, .double x_31)] → zHd g hp_33 H → H.size = nx_34 → va_S (zAd g) s.heap H locs → W p l e (zrm (d + 1) mc ms) s m ([.ref h0, .int x1, .int x2] : List Value).toArray below meth c H locs kc_35 ks_36 (MQ below (zQl g Post) ([.ref h0, .int x1, .int x2] : List Value).toArray s mc ms (zAd g)) (F0 m 66 ls [.long x_32]) := by
            intro x_31 x_32 hp_33 nx_34 kc_35 ks_36 H locs ls hw hl hH hz hS
            have hw := hP_66 x_31 x_32 hp_33 nx_34 kc_35 ks_36 hw
            obtain ⟨hkc, hks, hw⟩ := hw
            exact zr_lret hk hr hH hz hS hw hkc hks dX0_adds_66
          refine lv_icmp_ne (tgt := 61) hx hb dX0_adds_53 (by decide) (fun hc => ?_) (fun hc => ?_)
          · have hw := hw.2 hc
            refine zr_aload_n (r := some h0) hx hb dX0_adds_61 rfl (lv_at hl 1 rfl) ?_
            refine lv_dload_n hx hb dX0_adds_62 rfl (lv_at hl 0 rfl) ?_
            obtain ⟨hcl, hsl, hw⟩ := hw
            obtain ⟨a_40, ci_41, fs_42, er, he, hc, hw⟩ := zo_e hw
            obtain rfl := List.mem_singleton.mp hc
            refine zr_calll (zw_runV (As := [.double x_30]) hk hH hz hS hl.1 er hw (cwV 1 hts (lw_V q2295 q2297 qs51 q131 q2298) rfl rfl rfl (by decide +kernel) (z_room (Nat.le_of_ble_eq_true rfl))) he rfl rfl rfl (Nat.le_of_ble_eq_true rfl) dX0_adds_63 ⟨hcl, hsl⟩) hS (fun x_39 hp_37 nx_38 hw H locs hH hz hS => ?_)
            exact hJ_66 x_30 x_39 hp_37 nx_38 (0 + c_23) (0 + s_24) _ _ _ hw (lv_sub hl [1, 2, 3, 0] rfl) hH hz hS
          · have hw := hw.1 hc
            refine lv_dload_n hx hb dX0_adds_56 rfl (lv_at hl 0 rfl) ?_
            refine lv_d2l hx hb dX0_adds_57 ?_
            refine lv_goto (tgt := 66) hx hb dX0_adds_58 (by decide) ?_
            exact hJ_66 x_30 (FP.d2l x_30) hp_28 nx_29 (0 + c_23) (0 + s_24) _ _ _ hw (lv_sub hl [1, 2, 3, 0] rfl) hH hz hS
        simp only [List.mem_cons, List.not_mem_nil, or_false] at hc
        rcases hc with rfl | rfl | rfl | rfl | rfl
        · exact zr_calld (zw_runV (As := []) hk hH hz hS hl.1 er (hw) (cwV 0 hts (lw_V q2466 q2148 q3378 q182 q2149) rfl rfl rfl (by decide +kernel) (z_room (Nat.le_of_ble_eq_true rfl))) he rfl rfl rfl (Nat.le_of_ble_eq_true rfl) dX0_adds_47 ⟨hcl, hsl⟩) hS hC
        · exact zr_calld (zw_runU (As := []) hk hH hz hS hl.1 er (hw) (va_cwU 0 hts (z_U q2466 q3377 q3381 q2148 q182 q2149) rfl rfl rfl rfl (by decide +kernel) (z_room (Nat.le_of_ble_eq_true rfl))) he rfl rfl rfl (Nat.le_of_ble_eq_true rfl) dX0_adds_47 ⟨hcl, hsl⟩) hS hC
        · exact zr_calld (zw_runU (As := []) hk hH hz hS hl.1 er (hw) (va_cwU 0 hts (z_U q2466 q3377 q3380 q2148 q182 q2149) rfl rfl rfl rfl (by decide +kernel) (z_room (Nat.le_of_ble_eq_true rfl))) he rfl rfl rfl (Nat.le_of_ble_eq_true rfl) dX0_adds_47 ⟨hcl, hsl⟩) hS hC
        · exact zr_calld (zw_runU (As := []) hk hH hz hS hl.1 er (hw) (va_cwU 0 hts (z_U q2466 q3377 q3382 q2148 q182 q2149) rfl rfl rfl rfl (by decide +kernel) (z_room (Nat.le_of_ble_eq_true rfl))) he rfl rfl rfl (Nat.le_of_ble_eq_true rfl) dX0_adds_47 ⟨hcl, hsl⟩) hS hC
        · exact zr_calld (zw_runU (As := []) hk hH hz hS hl.1 er (hw) (va_cwU 0 hts (z_U q2466 q3377 q3379 q2148 q182 q2149) rfl rfl rfl rfl (by decide +kernel) (z_room (Nat.le_of_ble_eq_true rfl))) he rfl rfl rfl (Nat.le_of_ble_eq_true rfl) dX0_adds_47 ⟨hcl, hsl⟩) hS hC
      · have hw := hw.1 hc
        refine lv_ldc2 hx hb hown (hts _ q2315) dX0_adds_32 ?_
        obtain ⟨hkc, hks, hw⟩ := hw
        exact zr_lret hk hr hH hz hS hw hkc hks dX0_adds_35
    · have hw := hw.1 hc
      exact hJ_19 hp_8 nx_9 0 0 _ _ _ hw hl hH hz hS
theorem no_X0_493 : zNo "WhatIfSheet" 493 18 := ⟨RX18, TX18, 3, rfl, q2456, q1727, q182⟩
theorem no_X0_498 : zNo "WhatIfSheet" 498 19 := ⟨RX19, TX19, 4, rfl, q2458, q1747, q183⟩
theorem no_X0_501 : zNo "WhatIfSheet" 501 20 := ⟨RX20, TX20, 5, rfl, q2460, q1760, q184⟩
theorem no_X0_504 : zNo "WhatIfSheet" 504 21 := ⟨RX21, TX21, 6, rfl, q2462, q1774, q185⟩
theorem no_X0_507 : zNo "WhatIfSheet" 507 22 := ⟨RX22, TX22, 4, rfl, q2464, q1789, q186⟩
def wp_X0_how (l : Launch) (g : zG) (d : Nat) (mc ms : Nat) (h0 : Nat) (x1 : Int32) (x2 : Int32) (hp : zHp) (nx : Nat) (Post : Option Nat → zHp → Nat → Prop) : Prop :=
  ((x2 = (0 : Int32) →
  (znw g mc ms hp nx 0 0 18 fun hp_1 =>
  ∀ nx_2 kc_3 ks_4 : Nat, nx_2 = (nx + 1) → kc_3 = (0 + 1) → ks_4 = (0 + zNn 18) →
  (kc_3 ≤ mc ∧ ks_4 ≤ ms ∧ zMt l g yX18_init cX18_init 3 none d 0 0 (.ref nx :: [va_rf (some h0), .int x1]) hp_1 nx_2 (zQv g fun hp_5 nx_6 =>
  (kc_3 ≤ mc ∧ ks_4 ≤ ms ∧ Post (some nx) hp_5 nx_6))))) ∧
  (x2 = (1 : Int32) →
  (znw g mc ms hp nx 0 0 19 fun hp_10 =>
  ∀ nx_11 kc_12 ks_13 : Nat, nx_11 = (nx + 1) → kc_12 = (0 + 1) → ks_13 = (0 + zNn 19) →
  (kc_12 ≤ mc ∧ ks_13 ≤ ms ∧ zMt l g yX19_init cX19_init 3 none d 0 0 (.ref nx :: [va_rf (some h0), .int x1]) hp_10 nx_11 (zQv g fun hp_14 nx_15 =>
  (kc_12 ≤ mc ∧ ks_13 ≤ ms ∧ Post (some nx) hp_14 nx_15))))) ∧
  (x2 = (2 : Int32) →
  (znw g mc ms hp nx 0 0 20 fun hp_19 =>
  ∀ nx_20 kc_21 ks_22 : Nat, nx_20 = (nx + 1) → kc_21 = (0 + 1) → ks_22 = (0 + zNn 20) →
  (kc_21 ≤ mc ∧ ks_22 ≤ ms ∧ zMt l g yX20_init cX20_init 3 none d 0 0 (.ref nx :: [va_rf (some h0), .int x1]) hp_19 nx_20 (zQv g fun hp_23 nx_24 =>
  (kc_21 ≤ mc ∧ ks_22 ≤ ms ∧ Post (some nx) hp_23 nx_24))))) ∧
  (x2 = (3 : Int32) →
  (znw g mc ms hp nx 0 0 21 fun hp_28 =>
  ∀ nx_29 kc_30 ks_31 : Nat, nx_29 = (nx + 1) → kc_30 = (0 + 1) → ks_31 = (0 + zNn 21) →
  (kc_30 ≤ mc ∧ ks_31 ≤ ms ∧ zMt l g yX21_init cX21_init 3 none d 0 0 (.ref nx :: [va_rf (some h0), .int x1]) hp_28 nx_29 (zQv g fun hp_32 nx_33 =>
  (kc_30 ≤ mc ∧ ks_31 ≤ ms ∧ Post (some nx) hp_32 nx_33))))) ∧
  (¬ x2 = (0 : Int32) ∧ ¬ x2 = (1 : Int32) ∧ ¬ x2 = (2 : Int32) ∧ ¬ x2 = (3 : Int32) →
  (znw g mc ms hp nx 0 0 22 fun hp_37 =>
  ∀ nx_38 kc_39 ks_40 : Nat, nx_38 = (nx + 1) → kc_39 = (0 + 1) → ks_40 = (0 + zNn 22) →
  (kc_39 ≤ mc ∧ ks_40 ≤ ms ∧ zMt l g yX22_init cX22_init 3 none d 0 0 (.ref nx :: [va_rf (some h0), .int x1]) hp_37 nx_38 (zQv g fun hp_41 nx_42 =>
  (kc_39 ≤ mc ∧ ks_40 ≤ ms ∧ Post (some nx) hp_41 nx_42))))))
set_option maxHeartbeats 40000000 in
theorem met_X0_how {l : Launch} {g : zG} {d : Nat} {mc ms : Nat} {h0 : Nat} {x1 : Int32} {x2 : Int32} {hp : zHp} {nx : Nat} {Post : Option Nat → zHp → Nat → Prop} (hw : wp_X0_how l g d mc ms h0 x1 x2 hp nx Post) : zMt l g yX0_how cX0_how 3 (some (.object "WhatIfSheet$Asked")) (d + 1) mc ms [.ref h0, .int x1, .int x2] hp nx (zQq g Post) := by
  refine z_start (by decide) (Nat.le_of_ble_eq_true rfl) ?_
  intro p e s m below meth c hk hr hin hH hz ls hl
  have hx := hk.1.1
  have hb := hk.1.2.1
  have hown := hk.1.2.2.2.1
  have hts := hk.1.2.2.2.2
  have hS : va_S (zAd g) s.heap s.heap [] := va_S.rf
  have hl : lv_has ls 3 [(0, va_rf (some h0)), (1, .int x1), (2, .int x2)] := hl
  unfold wp_X0_how at hw
  refine lv_iload_n hx hb dX0_how_0 rfl (lv_at hl 2 rfl) ?_
  by_cases hc0 : x2 = (0 : Int32)
  · have hw := hw.1 hc0
    refine lv_tableIn (tgt := 32) hx hb dX0_how_1 (by rw [hc0]; decide) (by rw [hc0]; decide) (by rw [hc0]; rfl) (by decide) ?_
    obtain ⟨hcl, hsl, hw⟩ := hw
    refine zx_new hk hH hz hS (ci := 18) no_X0_493 hcl hsl dX0_how_32 (fun H hH hz hS hlt hnb => ?_)
    have hw := hw hlt hnb
    generalize va_up hp nx _ = hp_1 at hH hw
    obtain ⟨kc_3, ekc⟩ : ∃ k, k = (0 + 1) := ⟨_, rfl⟩
    obtain ⟨ks_4, eks⟩ : ∃ k, k = (0 + zNn 18) := ⟨_, rfl⟩
    have hw := hw _ _ _ rfl ekc eks
    refine W.widen (Nat.le_of_eq ekc.symm) (Nat.le_of_eq eks.symm) ?_
    clear ekc eks
    generalize (nx + 1) = nx_2 at hz hw
    refine lv_dup hx hb dX0_how_35 (z_cat _) ?_
    refine zr_aload_n (r := some h0) hx hb dX0_how_36 rfl (lv_at hl 0 rfl) ?_
    refine lv_iload_n hx hb dX0_how_37 rfl (lv_at hl 1 rfl) ?_
    obtain ⟨hcl, hsl, hw⟩ := hw
    refine zr_callv (zw_runI (As := [va_rf (some h0), .int x1]) (r := some nx) hk hH hz hS hl.1 rfl hw (cwI 2 hts (lw_meth q1730) rfl rfl rfl (hts _ q182) (hts _ q2457) (hts _ q1729) rfl (by decide +kernel) (z_room (Nat.le_of_ble_eq_true rfl))) rfl rfl (by simp only [List.map_cons, List.map_nil, z_cat]; exact Nat.le_of_ble_eq_true rfl) dX0_how_38 ⟨hcl, hsl⟩) hS (fun hp_5 nx_6 hw H locs hH hz hS => ?_)
    obtain ⟨hkc, hks, hw⟩ := hw
    exact zr_aret (r := some nx) hk hr (Or.inl ⟨_, rfl⟩) hH hz hS hw hkc hks dX0_how_41
  by_cases hc1 : x2 = (1 : Int32)
  · have hw := hw.2.1 hc1
    refine lv_tableIn (tgt := 42) hx hb dX0_how_1 (by rw [hc1]; decide) (by rw [hc1]; decide) (by rw [hc1]; rfl) (by decide) ?_
    obtain ⟨hcl, hsl, hw⟩ := hw
    refine zx_new hk hH hz hS (ci := 19) no_X0_498 hcl hsl dX0_how_42 (fun H hH hz hS hlt hnb => ?_)
    have hw := hw hlt hnb
    generalize va_up hp nx _ = hp_10 at hH hw
    obtain ⟨kc_12, ekc⟩ : ∃ k, k = (0 + 1) := ⟨_, rfl⟩
    obtain ⟨ks_13, eks⟩ : ∃ k, k = (0 + zNn 19) := ⟨_, rfl⟩
    have hw := hw _ _ _ rfl ekc eks
    refine W.widen (Nat.le_of_eq ekc.symm) (Nat.le_of_eq eks.symm) ?_
    clear ekc eks
    generalize (nx + 1) = nx_11 at hz hw
    refine lv_dup hx hb dX0_how_45 (z_cat _) ?_
    refine zr_aload_n (r := some h0) hx hb dX0_how_46 rfl (lv_at hl 0 rfl) ?_
    refine lv_iload_n hx hb dX0_how_47 rfl (lv_at hl 1 rfl) ?_
    obtain ⟨hcl, hsl, hw⟩ := hw
    refine zr_callv (zw_runI (As := [va_rf (some h0), .int x1]) (r := some nx) hk hH hz hS hl.1 rfl hw (cwI 2 hts (lw_meth q1750) rfl rfl rfl (hts _ q183) (hts _ q2459) (hts _ q1749) rfl (by decide +kernel) (z_room (Nat.le_of_ble_eq_true rfl))) rfl rfl (by simp only [List.map_cons, List.map_nil, z_cat]; exact Nat.le_of_ble_eq_true rfl) dX0_how_48 ⟨hcl, hsl⟩) hS (fun hp_14 nx_15 hw H locs hH hz hS => ?_)
    obtain ⟨hkc, hks, hw⟩ := hw
    exact zr_aret (r := some nx) hk hr (Or.inl ⟨_, rfl⟩) hH hz hS hw hkc hks dX0_how_51
  by_cases hc2 : x2 = (2 : Int32)
  · have hw := hw.2.2.1 hc2
    refine lv_tableIn (tgt := 52) hx hb dX0_how_1 (by rw [hc2]; decide) (by rw [hc2]; decide) (by rw [hc2]; rfl) (by decide) ?_
    obtain ⟨hcl, hsl, hw⟩ := hw
    refine zx_new hk hH hz hS (ci := 20) no_X0_501 hcl hsl dX0_how_52 (fun H hH hz hS hlt hnb => ?_)
    have hw := hw hlt hnb
    generalize va_up hp nx _ = hp_19 at hH hw
    obtain ⟨kc_21, ekc⟩ : ∃ k, k = (0 + 1) := ⟨_, rfl⟩
    obtain ⟨ks_22, eks⟩ : ∃ k, k = (0 + zNn 20) := ⟨_, rfl⟩
    have hw := hw _ _ _ rfl ekc eks
    refine W.widen (Nat.le_of_eq ekc.symm) (Nat.le_of_eq eks.symm) ?_
    clear ekc eks
    generalize (nx + 1) = nx_20 at hz hw
    refine lv_dup hx hb dX0_how_55 (z_cat _) ?_
    refine zr_aload_n (r := some h0) hx hb dX0_how_56 rfl (lv_at hl 0 rfl) ?_
    refine lv_iload_n hx hb dX0_how_57 rfl (lv_at hl 1 rfl) ?_
    obtain ⟨hcl, hsl, hw⟩ := hw
    refine zr_callv (zw_runI (As := [va_rf (some h0), .int x1]) (r := some nx) hk hH hz hS hl.1 rfl hw (cwI 2 hts (lw_meth q1763) rfl rfl rfl (hts _ q184) (hts _ q2461) (hts _ q1762) rfl (by decide +kernel) (z_room (Nat.le_of_ble_eq_true rfl))) rfl rfl (by simp only [List.map_cons, List.map_nil, z_cat]; exact Nat.le_of_ble_eq_true rfl) dX0_how_58 ⟨hcl, hsl⟩) hS (fun hp_23 nx_24 hw H locs hH hz hS => ?_)
    obtain ⟨hkc, hks, hw⟩ := hw
    exact zr_aret (r := some nx) hk hr (Or.inl ⟨_, rfl⟩) hH hz hS hw hkc hks dX0_how_61
  by_cases hc3 : x2 = (3 : Int32)
  · have hw := hw.2.2.2.1 hc3
    refine lv_tableIn (tgt := 62) hx hb dX0_how_1 (by rw [hc3]; decide) (by rw [hc3]; decide) (by rw [hc3]; rfl) (by decide) ?_
    obtain ⟨hcl, hsl, hw⟩ := hw
    refine zx_new hk hH hz hS (ci := 21) no_X0_504 hcl hsl dX0_how_62 (fun H hH hz hS hlt hnb => ?_)
    have hw := hw hlt hnb
    generalize va_up hp nx _ = hp_28 at hH hw
    obtain ⟨kc_30, ekc⟩ : ∃ k, k = (0 + 1) := ⟨_, rfl⟩
    obtain ⟨ks_31, eks⟩ : ∃ k, k = (0 + zNn 21) := ⟨_, rfl⟩
    have hw := hw _ _ _ rfl ekc eks
    refine W.widen (Nat.le_of_eq ekc.symm) (Nat.le_of_eq eks.symm) ?_
    clear ekc eks
    generalize (nx + 1) = nx_29 at hz hw
    refine lv_dup hx hb dX0_how_65 (z_cat _) ?_
    refine zr_aload_n (r := some h0) hx hb dX0_how_66 rfl (lv_at hl 0 rfl) ?_
    refine lv_iload_n hx hb dX0_how_67 rfl (lv_at hl 1 rfl) ?_
    obtain ⟨hcl, hsl, hw⟩ := hw
    refine zr_callv (zw_runI (As := [va_rf (some h0), .int x1]) (r := some nx) hk hH hz hS hl.1 rfl hw (cwI 2 hts (lw_meth q1777) rfl rfl rfl (hts _ q185) (hts _ q2463) (hts _ q1776) rfl (by decide +kernel) (z_room (Nat.le_of_ble_eq_true rfl))) rfl rfl (by simp only [List.map_cons, List.map_nil, z_cat]; exact Nat.le_of_ble_eq_true rfl) dX0_how_68 ⟨hcl, hsl⟩) hS (fun hp_32 nx_33 hw H locs hH hz hS => ?_)
    obtain ⟨hkc, hks, hw⟩ := hw
    exact zr_aret (r := some nx) hk hr (Or.inl ⟨_, rfl⟩) hH hz hS hw hkc hks dX0_how_71
  have hw := hw.2.2.2.2 ⟨hc0, hc1, hc2, hc3⟩
  refine lv_tableOut (tgt := 72) hx hb dX0_how_1 (by have h0 := lv_neT hc0 (a := 0) (by decide); have h1 := lv_neT hc1 (a := 1) (by decide); have h2 := lv_neT hc2 (a := 2) (by decide); have h3 := lv_neT hc3 (a := 3) (by decide); omega) (by decide) ?_
  obtain ⟨hcl, hsl, hw⟩ := hw
  refine zx_new hk hH hz hS (ci := 22) no_X0_507 hcl hsl dX0_how_72 (fun H hH hz hS hlt hnb => ?_)
  have hw := hw hlt hnb
  generalize va_up hp nx _ = hp_37 at hH hw
  obtain ⟨kc_39, ekc⟩ : ∃ k, k = (0 + 1) := ⟨_, rfl⟩
  obtain ⟨ks_40, eks⟩ : ∃ k, k = (0 + zNn 22) := ⟨_, rfl⟩
  have hw := hw _ _ _ rfl ekc eks
  refine W.widen (Nat.le_of_eq ekc.symm) (Nat.le_of_eq eks.symm) ?_
  clear ekc eks
  generalize (nx + 1) = nx_38 at hz hw
  refine lv_dup hx hb dX0_how_75 (z_cat _) ?_
  refine zr_aload_n (r := some h0) hx hb dX0_how_76 rfl (lv_at hl 0 rfl) ?_
  refine lv_iload_n hx hb dX0_how_77 rfl (lv_at hl 1 rfl) ?_
  obtain ⟨hcl, hsl, hw⟩ := hw
  refine zr_callv (zw_runI (As := [va_rf (some h0), .int x1]) (r := some nx) hk hH hz hS hl.1 rfl hw (cwI 2 hts (lw_meth q1792) rfl rfl rfl (hts _ q186) (hts _ q2465) (hts _ q1791) rfl (by decide +kernel) (z_room (Nat.le_of_ble_eq_true rfl))) rfl rfl (by simp only [List.map_cons, List.map_nil, z_cat]; exact Nat.le_of_ble_eq_true rfl) dX0_how_78 ⟨hcl, hsl⟩) hS (fun hp_41 nx_42 hw H locs hH hz hS => ?_)
  obtain ⟨hkc, hks, hw⟩ := hw
  exact zr_aret (r := some nx) hk hr (Or.inl ⟨_, rfl⟩) hH hz hS hw hkc hks dX0_how_81
def wp_X0_asks (l : Launch) (g : zG) (d : Nat) (mc ms : Nat) (h0 : Nat) (x1 : Int32) (x2 : Int32) (hp : zHp) (nx : Nat) (Post : Int32 → zHp → Nat → Prop) : Prop :=
  (0 ≤ mc ∧ 0 ≤ ms ∧ zMt l g yX0_isTable cX0_isTable 1 (some .boolean) d 0 0 [.int x1] hp nx (zQi g fun x_3 hp_1 nx_2 =>
  (∃ P_19 : zHp → Nat → Nat → Nat → Prop, (∀ (hp_4 : zHp) (nx_5 : Nat) (kc_6 : Nat) (ks_7 : Nat), P_19 hp_4 nx_5 kc_6 ks_7 →
  (kc_6 ≤ mc ∧ ks_7 ≤ ms ∧ Post (-2 : Int32) hp_4 nx_5)) ∧
  ((x_3 = 0 →
  P_19 hp_1 nx_2 0 0) ∧
  (¬ x_3 = 0 →
  (0 ≤ mc ∧ 0 ≤ ms ∧ zMt l g yX0_in cX0_in 6 (some .boolean) d 0 0 [.long x2.toInt64, .long (0 : Int64), .long (8 : Int64)] hp_1 nx_2 (zQi g fun x_10 hp_8 nx_9 =>
  ((x_10 = 0 →
  P_19 hp_8 nx_9 0 0) ∧
  (¬ x_10 = 0 →
  (zgR hp_8 (some h0) [0] 1 fun r_14 =>
  (zaR (g.2.1 8) hp_8 r_14 fun a_15 n_16 f_17 => vp_in x1 n_16 ∧ ∀ r_18 : Option Nat, r_18 = f_17 x1.toNatClampNeg →
  ((r_18 = none →
  (0 ≤ mc ∧ 0 ≤ ms ∧ Post (-3 : Int32) hp_8 nx_9)) ∧
  (¬ r_18 = none →
  ((x2 = (0 : Int32) →
  (∃ P_109 : (Option Nat) → (Option Nat) → zHp → Nat → Nat → Nat → Prop, (∀ (r_19 : Option Nat) (r_20 : Option Nat) (hp_21 : zHp) (nx_22 : Nat) (kc_23 : Nat) (ks_24 : Nat), P_109 r_19 r_20 hp_21 nx_22 kc_23 ks_24 →
  (kc_23 ≤ mc ∧ ks_24 ≤ ms ∧ zo hp_21 (some h0) [0] fun a_54 ci_55 fs_56 => zMt l g yX0_runsAll cX0_runsAll 2 none d 0 0 (.ref a_54 :: [va_rf r_19]) hp_21 nx_22 (zQv g fun hp_25 nx_26 =>
  (kc_23 ≤ mc ∧ ks_24 ≤ ms ∧ zo hp_25 r_20 [20, 21] fun a_50 ci_51 fs_52 => ∃ PP_53 : Int32 → zHp → Nat → Prop, (∀ (x_29 : Int32) (hp_27 : zHp) (nx_28 : Nat), PP_53 x_29 hp_27 nx_28 →
  (∃ P_152 : (Option Nat) → (Option Nat) → Int32 → Int32 → zHp → Nat → Nat → Nat → Prop, (∀ (r_30 : Option Nat) (r_31 : Option Nat) (x_32 : Int32) (x_33 : Int32) (hp_34 : zHp) (nx_35 : Nat) (kc_36 : Nat) (ks_37 : Nat), P_152 r_30 r_31 x_32 x_33 hp_34 nx_35 kc_36 ks_37 →
  (kc_36 ≤ mc ∧ ks_37 ≤ ms ∧ Post x_33 hp_34 nx_35)) ∧
  ((x_29 = (-1 : Int32) →
  P_152 r_19 r_20 x_29 (-1 : Int32) hp_27 nx_28 kc_23 ks_24) ∧
  (¬ x_29 = (-1 : Int32) →
  (kc_23 ≤ mc ∧ ks_24 ≤ ms ∧ zo hp_27 r_19 [31] fun a_47 ci_48 fs_49 => zMt l g yX31_many cX31_many 1 (some .int) d 0 0 (.ref a_47 :: []) hp_27 nx_28 (zQi g fun x_40 hp_38 nx_39 =>
  (¬ x_40 = 0 ∧ (kc_23 ≤ mc ∧ ks_24 ≤ ms ∧ zo hp_38 r_19 [31] fun a_44 ci_45 fs_46 => zMt l g yX31_many cX31_many 1 (some .int) d 0 0 (.ref a_44 :: []) hp_38 nx_39 (zQi g fun x_43 hp_41 nx_42 =>
  (¬ x_43 = 0 ∧ P_152 r_19 r_20 x_29 (((10 : Int32) * (x_29 / x_40)) + (x_29 - x_29 / x_43 * x_43)) hp_41 nx_42 kc_23 ks_24)))))))))) ∧ zMt l g yX20_at cX20_at 4 (some .int) d 0 0 (.ref a_50 :: [va_rf r_19]) hp_25 nx_26 (zQi g PP_53))))) ∧
  ((x2 = 0 →
  (znw g mc ms hp_8 nx_9 0 0 20 fun hp_66 =>
  ∀ nx_67 kc_68 ks_69 : Nat, nx_67 = (nx_9 + 1) → kc_68 = (0 + 1) → ks_69 = (0 + zNn 20) →
  (kc_68 ≤ mc ∧ ks_69 ≤ ms ∧ zMt l g yX20_init cX20_init 3 none d 0 0 (.ref nx_9 :: [va_rf (some h0), .int x1]) hp_66 nx_67 (zQv g fun hp_70 nx_71 =>
  P_109 r_18 (some nx_9) hp_70 nx_71 kc_68 ks_69)))) ∧
  (¬ x2 = 0 →
  (znw g mc ms hp_8 nx_9 0 0 21 fun hp_57 =>
  ∀ nx_58 kc_59 ks_60 : Nat, nx_58 = (nx_9 + 1) → kc_59 = (0 + 1) → ks_60 = (0 + zNn 21) →
  (kc_59 ≤ mc ∧ ks_60 ≤ ms ∧ zMt l g yX21_init cX21_init 3 none d 0 0 (.ref nx_9 :: [va_rf (some h0), .int x1]) hp_57 nx_58 (zQv g fun hp_61 nx_62 =>
  P_109 r_18 (some nx_9) hp_61 nx_62 kc_59 ks_60))))))) ∧
  (x2 = (1 : Int32) →
  (∃ P_109 : (Option Nat) → (Option Nat) → zHp → Nat → Nat → Nat → Prop, (∀ (r_75 : Option Nat) (r_76 : Option Nat) (hp_77 : zHp) (nx_78 : Nat) (kc_79 : Nat) (ks_80 : Nat), P_109 r_75 r_76 hp_77 nx_78 kc_79 ks_80 →
  (kc_79 ≤ mc ∧ ks_80 ≤ ms ∧ zo hp_77 (some h0) [0] fun a_110 ci_111 fs_112 => zMt l g yX0_runsAll cX0_runsAll 2 none d 0 0 (.ref a_110 :: [va_rf r_75]) hp_77 nx_78 (zQv g fun hp_81 nx_82 =>
  (kc_79 ≤ mc ∧ ks_80 ≤ ms ∧ zo hp_81 r_76 [20, 21] fun a_106 ci_107 fs_108 => ∃ PP_109 : Int32 → zHp → Nat → Prop, (∀ (x_85 : Int32) (hp_83 : zHp) (nx_84 : Nat), PP_109 x_85 hp_83 nx_84 →
  (∃ P_152 : (Option Nat) → (Option Nat) → Int32 → Int32 → zHp → Nat → Nat → Nat → Prop, (∀ (r_86 : Option Nat) (r_87 : Option Nat) (x_88 : Int32) (x_89 : Int32) (hp_90 : zHp) (nx_91 : Nat) (kc_92 : Nat) (ks_93 : Nat), P_152 r_86 r_87 x_88 x_89 hp_90 nx_91 kc_92 ks_93 →
  (kc_92 ≤ mc ∧ ks_93 ≤ ms ∧ Post x_89 hp_90 nx_91)) ∧
  ((x_85 = (-1 : Int32) →
  P_152 r_75 r_76 x_85 (-1 : Int32) hp_83 nx_84 kc_79 ks_80) ∧
  (¬ x_85 = (-1 : Int32) →
  (kc_79 ≤ mc ∧ ks_80 ≤ ms ∧ zo hp_83 r_75 [31] fun a_103 ci_104 fs_105 => zMt l g yX31_many cX31_many 1 (some .int) d 0 0 (.ref a_103 :: []) hp_83 nx_84 (zQi g fun x_96 hp_94 nx_95 =>
  (¬ x_96 = 0 ∧ (kc_79 ≤ mc ∧ ks_80 ≤ ms ∧ zo hp_94 r_75 [31] fun a_100 ci_101 fs_102 => zMt l g yX31_many cX31_many 1 (some .int) d 0 0 (.ref a_100 :: []) hp_94 nx_95 (zQi g fun x_99 hp_97 nx_98 =>
  (¬ x_99 = 0 ∧ P_152 r_75 r_76 x_85 (((10 : Int32) * (x_85 / x_96)) + (x_85 - x_85 / x_99 * x_99)) hp_97 nx_98 kc_79 ks_80)))))))))) ∧ zMt l g yX20_at cX20_at 4 (some .int) d 0 0 (.ref a_106 :: [va_rf r_75]) hp_81 nx_82 (zQi g PP_109))))) ∧
  ((x2 = 0 →
  (znw g mc ms hp_8 nx_9 0 0 20 fun hp_122 =>
  ∀ nx_123 kc_124 ks_125 : Nat, nx_123 = (nx_9 + 1) → kc_124 = (0 + 1) → ks_125 = (0 + zNn 20) →
  (kc_124 ≤ mc ∧ ks_125 ≤ ms ∧ zMt l g yX20_init cX20_init 3 none d 0 0 (.ref nx_9 :: [va_rf (some h0), .int x1]) hp_122 nx_123 (zQv g fun hp_126 nx_127 =>
  P_109 r_18 (some nx_9) hp_126 nx_127 kc_124 ks_125)))) ∧
  (¬ x2 = 0 →
  (znw g mc ms hp_8 nx_9 0 0 21 fun hp_113 =>
  ∀ nx_114 kc_115 ks_116 : Nat, nx_114 = (nx_9 + 1) → kc_115 = (0 + 1) → ks_116 = (0 + zNn 21) →
  (kc_115 ≤ mc ∧ ks_116 ≤ ms ∧ zMt l g yX21_init cX21_init 3 none d 0 0 (.ref nx_9 :: [va_rf (some h0), .int x1]) hp_113 nx_114 (zQv g fun hp_117 nx_118 =>
  P_109 r_18 (some nx_9) hp_117 nx_118 kc_115 ks_116))))))) ∧
  (x2 = (2 : Int32) →
  (0 ≤ mc ∧ 0 ≤ ms ∧ zo hp_8 (some h0) [0] fun a_134 ci_135 fs_136 => zMt l g yX0_slice cX0_slice 6 (some .int) d 0 0 (.ref a_134 :: [va_rf r_18]) hp_8 nx_9 (zQi g fun x_133 hp_131 nx_132 =>
  (0 ≤ mc ∧ 0 ≤ ms ∧ Post x_133 hp_131 nx_132)))) ∧
  (x2 = (3 : Int32) →
  (zpt g hp_8 (some h0) [0] 10 (.int (0 : Int32)) fun hp_140 =>
  (0 ≤ mc ∧ 0 ≤ ms ∧ zo hp_140 (some h0) [0] fun a_147 ci_148 fs_149 => zMt l g yX0_runsAll cX0_runsAll 2 none d 0 0 (.ref a_147 :: [va_rf r_18]) hp_140 nx_9 (zQv g fun hp_141 nx_142 =>
  (zgI hp_141 (some h0) [0] 10 fun x_146 =>
  (0 ≤ mc ∧ 0 ≤ ms ∧ Post x_146 hp_141 nx_142)))))) ∧
  (x2 = (4 : Int32) →
  (zgR hp_8 (some h0) [0] 15 fun r_153 =>
  (zaI (g.2.1 0) hp_8 r_153 fun a_154 n_155 f_156 => vp_in x1 n_155 ∧ ∀ x_157 : Int32, x_157 = f_156 x1.toNatClampNeg →
  (0 ≤ mc ∧ 0 ≤ ms ∧ Post x_157 hp_8 nx_9)))) ∧
  (x2 = (5 : Int32) →
  (zgR hp_8 r_18 [31] 2 fun r_161 =>
  (0 ≤ mc ∧ 0 ≤ ms ∧ zo hp_8 r_161 [32] fun a_165 ci_166 fs_167 => zMt l g yX32_size cX32_size 1 (some .int) d 0 0 (.ref a_165 :: []) hp_8 nx_9 (zQi g fun x_164 hp_162 nx_163 =>
  (0 ≤ mc ∧ 0 ≤ ms ∧ Post x_164 hp_162 nx_163))))) ∧
  (x2 = (6 : Int32) →
  (zgR hp_8 r_18 [31] 3 fun r_171 =>
  (∃ P_207 : (Option Nat) → Int32 → zHp → Nat → Nat → Nat → Prop, (∀ (r_172 : Option Nat) (x_173 : Int32) (hp_174 : zHp) (nx_175 : Nat) (kc_176 : Nat) (ks_177 : Nat), P_207 r_172 x_173 hp_174 nx_175 kc_176 ks_177 →
  (kc_176 ≤ mc ∧ ks_177 ≤ ms ∧ Post x_173 hp_174 nx_175)) ∧
  ((r_171 = none →
  P_207 r_18 (0 : Int32) hp_8 nx_9 0 0) ∧
  (¬ r_171 = none →
  (zgR hp_8 r_18 [31] 3 fun r_181 =>
  (0 ≤ mc ∧ 0 ≤ ms ∧ zo hp_8 r_181 [32] fun a_185 ci_186 fs_187 => zMt l g yX32_size cX32_size 1 (some .int) d 0 0 (.ref a_185 :: []) hp_8 nx_9 (zQi g fun x_184 hp_182 nx_183 =>
  P_207 r_18 x_184 hp_182 nx_183 0 0)))))))) ∧
  (x2 = (7 : Int32) →
  (zgR hp_8 r_18 [31] 2 fun r_191 =>
  (0 ≤ mc ∧ 0 ≤ ms ∧ zo hp_8 (some h0) [0] fun a_195 ci_196 fs_197 => zMt l g yX0_unlike cX0_unlike 2 (some .int) d 0 0 (.ref a_195 :: [va_rf r_191]) hp_8 nx_9 (zQi g fun x_194 hp_192 nx_193 =>
  (0 ≤ mc ∧ 0 ≤ ms ∧ Post x_194 hp_192 nx_193))))) ∧
  (¬ x2 = (0 : Int32) ∧ ¬ x2 = (1 : Int32) ∧ ¬ x2 = (2 : Int32) ∧ ¬ x2 = (3 : Int32) ∧ ¬ x2 = (4 : Int32) ∧ ¬ x2 = (5 : Int32) ∧ ¬ x2 = (6 : Int32) ∧ ¬ x2 = (7 : Int32) →
  (zgR hp_8 r_18 [31] 3 fun r_201 =>
  (0 ≤ mc ∧ 0 ≤ ms ∧ zo hp_8 (some h0) [0] fun a_205 ci_206 fs_207 => zMt l g yX0_unlike cX0_unlike 2 (some .int) d 0 0 (.ref a_205 :: [va_rf r_201]) hp_8 nx_9 (zQi g fun x_204 hp_202 nx_203 =>
  (0 ≤ mc ∧ 0 ≤ ms ∧ Post x_204 hp_202 nx_203)))))))))))))))))))
set_option maxHeartbeats 40000000 in
theorem met_X0_asks {l : Launch} {g : zG} {d : Nat} {mc ms : Nat} {h0 : Nat} {x1 : Int32} {x2 : Int32} {hp : zHp} {nx : Nat} {Post : Int32 → zHp → Nat → Prop} (hw : wp_X0_asks l g d mc ms h0 x1 x2 hp nx Post) : zMt l g yX0_asks cX0_asks 6 (some .int) (d + 1) mc ms [.ref h0, .int x1, .int x2] hp nx (zQi g Post) := by
  refine z_start (by decide) (Nat.le_of_ble_eq_true rfl) ?_
  intro p e s m below meth c hk hr hin hH hz ls hl
  have hx := hk.1.1
  have hb := hk.1.2.1
  have hown := hk.1.2.2.2.1
  have hts := hk.1.2.2.2.2
  have hS : va_S (zAd g) s.heap s.heap [] := va_S.rf
  have hl : lv_has ls 6 [(0, va_rf (some h0)), (1, .int x1), (2, .int x2)] := hl
  unfold wp_X0_asks at hw
  refine lv_iload_n hx hb dX0_asks_0 rfl (lv_at hl 1 rfl) ?_
  obtain ⟨hcl, hsl, hw⟩ := hw
  refine zr_calli (zr_runS (As := [.int x1]) hk hH hz hS hl.1 hw (va_cwS 1 hts (lw_S q2343 q2344 q131 q2345) rfl rfl rfl (by decide +kernel) (z_room (Nat.le_of_ble_eq_true rfl))) rfl rfl (Nat.le_of_ble_eq_true rfl) dX0_asks_1 ⟨hcl, hsl⟩) hS (fun x_3 hp_1 nx_2 hw H locs hH hz hS => ?_)
  obtain ⟨P_19, hP_19, hw⟩ := hw
  have hJ_19 : ∀ (hp_4 : zHp) (nx_5 : Nat) (kc_6 : Nat) (ks_7 : Nat) (H : Heap) (locs : List Loc) (ls : Array Slot), P_19 hp_4 nx_5 kc_6 ks_7 → lv_has ls 6 [(0, va_rf (some h0)), (1, .int x1), (2, .int x2)] → zHd g hp_4 H → H.size = nx_5 → va_S (zAd g) s.heap H locs → W p l e (zrm (d + 1) mc ms) s m ([.ref h0, .int x1, .int x2] : List Value).toArray below meth c H locs kc_6 ks_7 (MQ below (zQi g Post) ([.ref h0, .int x1, .int x2] : List Value).toArray s mc ms (zAd g)) (F0 m 19 ls []) := by
    intro hp_4 nx_5 kc_6 ks_7 H locs ls hw hl hH hz hS
    have hw := hP_19 hp_4 nx_5 kc_6 ks_7 hw
    refine lv_bipush (v := (-2 : Int32)) hx hb dX0_asks_19 (by decide) ?_
    obtain ⟨hkc, hks, hw⟩ := hw
    exact zr_iret hk hr hH hz hS hw hkc hks dX0_asks_21
  refine lv_if_eq (tgt := 19) hx hb dX0_asks_4 (by decide) (fun hc => ?_) (fun hc => ?_)
  · have hw := hw.1 hc
    exact hJ_19 hp_1 nx_2 0 0 _ _ _ hw hl hH hz hS
  · have hw := hw.2 hc
    refine lv_iload_n hx hb dX0_asks_7 rfl (lv_at hl 2 rfl) ?_
    refine lv_i2l hx hb dX0_asks_8 rfl ?_
    refine lv_lconst (v := (0 : Int64)) hx hb dX0_asks_9 (by decide) ?_
    refine lv_ldc2 hx hb hown (hts _ q2396) dX0_asks_10 ?_
    obtain ⟨hcl, hsl, hw⟩ := hw
    refine zr_calli (zr_runS (As := [.long x2.toInt64, .long (0 : Int64), .long (8 : Int64)]) hk hH hz hS hl.1 hw (va_cwS 3 hts (lw_S q1308 q1309 q131 q1310) rfl rfl rfl (by decide +kernel) (z_room (Nat.le_of_ble_eq_true rfl))) rfl rfl (Nat.le_of_ble_eq_true rfl) dX0_asks_13 ⟨hcl, hsl⟩) hS (fun x_10 hp_8 nx_9 hw H locs hH hz hS => ?_)
    refine lv_if_ne (tgt := 22) hx hb dX0_asks_16 (by decide) (fun hc => ?_) (fun hc => ?_)
    · have hw := hw.2 hc
      refine zr_aload_n (r := some h0) hx hb dX0_asks_22 rfl (lv_at hl 0 rfl) ?_
      obtain ⟨a_11, ci_12, fs_13, r_14, er, he, hc, hv, hw⟩ := zgR_e hw
      refine zw_get hk hH er he hv (fk_X0_37 hc) dX0_asks_23 ?_
      refine lv_iload_n hx hb dX0_asks_26 rfl (lv_at hl 1 rfl) ?_
      obtain ⟨a_15, n_16, f_17, er, he, hi, hw⟩ := zaR_e hw
      have hw := hw _ rfl
      refine zw_aald hk hH 8 er he rfl rfl hi dX0_asks_27 ?_
      generalize f_17 x1.toNatClampNeg = r_18 at hw ⊢
      refine zr_astore_n (r := r_18) (i := 3) (lv' := [(3, va_rf r_18), (0, va_rf (some h0)), (1, .int x1), (2, .int x2)]) hx hb dX0_asks_28 rfl hl (by decide) (by first | rfl | simp [List.filter_cons, z_cat, z_catI, z_catJ, z_catF, z_catD]) (fun ls hl => ?_)
      refine zr_aload_n (r := r_18) hx hb dX0_asks_29 rfl (lv_at hl 0 rfl) ?_
      refine zr_ifnonnull (r := r_18) (tgt := 36) hx hb dX0_asks_30 (by decide) (fun hc => ?_) (fun hc => ?_)
      · have hw := hw.2 hc
        refine lv_iload_n hx hb dX0_asks_36 rfl (lv_at hl 3 rfl) ?_
        by_cases hc0 : x2 = (0 : Int32)
        · have hw := hw.1 hc0
          refine lv_tableIn (tgt := 84) hx hb dX0_asks_37 (by rw [hc0]; decide) (by rw [hc0]; decide) (by rw [hc0]; rfl) (by decide) ?_
          refine lv_iload_n hx hb dX0_asks_84 rfl (lv_at hl 3 rfl) ?_
          obtain ⟨P_109, hP_109, hw⟩ := hw
          have hJ_109 : ∀ (r_19 : Option Nat) (r_20 : Option Nat) (hp_21 : zHp) (nx_22 : Nat) (kc_23 : Nat) (ks_24 : Nat) (H : Heap) (locs : List Loc) (ls : Array Slot), P_109 r_19 r_20 hp_21 nx_22 kc_23 ks_24 → lv_has ls 6 [(0, va_rf (some h0)), (1, .int x1), (2, .int x2), (3, va_rf r_19)] → zHd g hp_21 H → H.size = nx_22 → va_S (zAd g) s.heap H locs → W p l e (zrm (d + 1) mc ms) s m ([.ref h0, .int x1, .int x2] : List Value).toArray below meth c H locs kc_23 ks_24 (MQ below (zQi g Post) ([.ref h0, .int x1, .int x2] : List Value).toArray s mc ms (zAd g)) (F0 m 109 ls [va_rf r_20]) := by
            intro r_19 r_20 hp_21 nx_22 kc_23 ks_24 H locs ls hw hl hH hz hS
            have hw := hP_109 r_19 r_20 hp_21 nx_22 kc_23 ks_24 hw
            refine zr_astore (r := r_20) (lv' := [(4, va_rf r_20), (0, va_rf (some h0)), (1, .int x1), (2, .int x2), (3, va_rf r_19)]) hx hb dX0_asks_109 hl (by decide) (by first | rfl | simp [List.filter_cons, z_cat, z_catI, z_catJ, z_catF, z_catD]) (fun ls hl => ?_)
            refine zr_aload_n (r := some h0) hx hb dX0_asks_111 rfl (lv_at hl 1 rfl) ?_
            refine zr_aload_n (r := r_19) hx hb dX0_asks_112 rfl (lv_at hl 4 rfl) ?_
            obtain ⟨hcl, hsl, hw⟩ := hw
            obtain ⟨a_54, ci_55, fs_56, er, he, hc, hw⟩ := zo_e hw
            obtain rfl := List.mem_singleton.mp hc
            refine zr_callv (zw_runV (As := [va_rf r_19]) hk hH hz hS hl.1 er hw (cwV 1 hts (lw_V q2471 q2156 qs45 q131 q2157) rfl rfl rfl (by decide +kernel) (z_room (Nat.le_of_ble_eq_true rfl))) he rfl rfl rfl (Nat.le_of_ble_eq_true rfl) dX0_asks_113 ⟨hcl, hsl⟩) hS (fun hp_25 nx_26 hw H locs hH hz hS => ?_)
            refine zr_aload (r := r_20) hx hb dX0_asks_116 (lv_at hl 0 rfl) ?_
            refine zr_aload_n (r := r_19) hx hb dX0_asks_118 rfl (lv_at hl 4 rfl) ?_
            obtain ⟨hcl, hsl, hw⟩ := hw
            obtain ⟨a_50, ci_51, fs_52, er, he, hc, PP_53, hPP, hw⟩ := zo_e hw
            have hC : ∀ (x_29 : Int32) (hp_27 : zHp) (nx_28 : Nat), PP_53 x_29 hp_27 nx_28 → ∀ (H : Heap) (locs : List Loc), zHd g hp_27 H → H.size = nx_28 → va_S (zAd g) s.heap H locs → W p l e (zrm (d + 1) mc ms) s m ([.ref h0, .int x1, .int x2] : List Value).toArray below meth c H locs (kc_23 + 0) (ks_24 + 0) (MQ below (zQi g Post) ([.ref h0, .int x1, .int x2] : List Value).toArray s mc ms (zAd g)) (F0 m 122 ls [.int x_29]) := by
              intro x_29 hp_27 nx_28 hw H locs hH hz hS
              have hw := hPP x_29 hp_27 nx_28 hw
              refine lv_istore (lv' := [(5, .int x_29), (4, va_rf r_20), (0, va_rf (some h0)), (1, .int x1), (2, .int x2), (3, va_rf r_19)]) hx hb dX0_asks_122 hl (by decide) (by first | rfl | simp [List.filter_cons, z_cat, z_catI, z_catJ, z_catF, z_catD]) (fun ls hl => ?_)
              refine lv_iload hx hb dX0_asks_124 (lv_at hl 0 rfl) ?_
              refine lv_iconst (v := (-1 : Int32)) hx hb dX0_asks_126 (by decide) ?_
              obtain ⟨P_152, hP_152, hw⟩ := hw
              have hJ_152 : ∀ (r_30 : Option Nat) (r_31 : Option Nat) (x_32 : Int32) (x_33 : Int32) (hp_34 : zHp) (nx_35 : Nat) (kc_36 : Nat) (ks_37 : Nat) (H : Heap) (locs : List Loc) (ls : Array Slot), P_152 r_30 r_31 x_32 x_33 hp_34 nx_35 kc_36 ks_37 → lv_has ls 6 [(0, va_rf (some h0)), (1, .int x1), (2, .int x2), (3, va_rf r_30), (4, va_rf r_31), (5, .int x_32)] → zHd g hp_34 H → H.size = nx_35 → va_S (zAd g) s.heap H locs → W p l e (zrm (d + 1) mc ms) s m ([.ref h0, .int x1, .int x2] : List Value).toArray below meth c H locs kc_36 ks_37 (MQ below (zQi g Post) ([.ref h0, .int x1, .int x2] : List Value).toArray s mc ms (zAd g)) (F0 m 152 ls [.int x_33]) := by
                intro r_30 r_31 x_32 x_33 hp_34 nx_35 kc_36 ks_37 H locs ls hw hl hH hz hS
                have hw := hP_152 r_30 r_31 x_32 x_33 hp_34 nx_35 kc_36 ks_37 hw
                obtain ⟨hkc, hks, hw⟩ := hw
                exact zr_iret hk hr hH hz hS hw hkc hks dX0_asks_152
              refine lv_icmp_ne (tgt := 134) hx hb dX0_asks_127 (by decide) (fun hc => ?_) (fun hc => ?_)
              · have hw := hw.2 hc
                refine lv_bipush (v := (10 : Int32)) hx hb dX0_asks_134 (by decide) ?_
                refine lv_iload hx hb dX0_asks_136 (lv_at hl 0 rfl) ?_
                refine zr_aload_n (r := r_19) hx hb dX0_asks_138 rfl (lv_at hl 5 rfl) ?_
                obtain ⟨hcl, hsl, hw⟩ := hw
                obtain ⟨a_47, ci_48, fs_49, er, he, hc, hw⟩ := zo_e hw
                obtain rfl := List.mem_singleton.mp hc
                refine zr_calli (zw_runV (As := []) hk hH hz hS hl.1 er hw (cwV 0 hts (lw_V q2175 q1177 q1178 q195 q1179) rfl rfl rfl (by decide +kernel) (z_room (Nat.le_of_ble_eq_true rfl))) he rfl rfl rfl (Nat.le_of_ble_eq_true rfl) dX0_asks_139 ⟨hcl, hsl⟩) hS (fun x_40 hp_38 nx_39 hw H locs hH hz hS => ?_)
                obtain ⟨hne, hw⟩ := hw
                refine lv_idiv hx hb dX0_asks_142 hne ?_
                refine lv_imul hx hb dX0_asks_143 ?_
                refine lv_iload hx hb dX0_asks_144 (lv_at hl 0 rfl) ?_
                refine zr_aload_n (r := r_19) hx hb dX0_asks_146 rfl (lv_at hl 5 rfl) ?_
                obtain ⟨hcl, hsl, hw⟩ := hw
                obtain ⟨a_44, ci_45, fs_46, er, he, hc, hw⟩ := zo_e hw
                obtain rfl := List.mem_singleton.mp hc
                refine zr_calli (zw_runV (As := []) hk hH hz hS hl.1 er hw (cwV 0 hts (lw_V q2175 q1177 q1178 q195 q1179) rfl rfl rfl (by decide +kernel) (z_room (Nat.le_of_ble_eq_true rfl))) he rfl rfl rfl (Nat.le_of_ble_eq_true rfl) dX0_asks_147 ⟨hcl, hsl⟩) hS (fun x_43 hp_41 nx_42 hw H locs hH hz hS => ?_)
                obtain ⟨hne, hw⟩ := hw
                refine lv_irem hx hb dX0_asks_150 hne ?_
                refine lv_iadd hx hb dX0_asks_151 ?_
                exact hJ_152 r_19 r_20 x_29 (((10 : Int32) * (x_29 / x_40)) + (x_29 - x_29 / x_43 * x_43)) hp_41 nx_42 kc_23 ks_24 _ _ _ hw (lv_sub hl [2, 3, 4, 5, 1, 0] rfl) hH hz hS
              · have hw := hw.1 hc
                refine lv_iconst (v := (-1 : Int32)) hx hb dX0_asks_130 (by decide) ?_
                refine lv_goto (tgt := 152) hx hb dX0_asks_131 (by decide) ?_
                exact hJ_152 r_19 r_20 x_29 (-1 : Int32) hp_27 nx_28 kc_23 ks_24 _ _ _ hw (lv_sub hl [2, 3, 4, 5, 1, 0] rfl) hH hz hS
            simp only [List.mem_cons, List.not_mem_nil, or_false] at hc
            rcases hc with rfl | rfl
            · exact zr_calli (zw_runV (As := [va_rf r_19]) hk hH hz hS hl.1 er (hw) (cwV 1 hts (lw_V q2472 q2197 q2198 q184 q2201) rfl rfl rfl (by decide +kernel) (z_room (Nat.le_of_ble_eq_true rfl))) he rfl rfl rfl (Nat.le_of_ble_eq_true rfl) dX0_asks_119 ⟨hcl, hsl⟩) hS hC
            · exact zr_calli (zw_runU (As := [va_rf r_19]) hk hH hz hS hl.1 er (hw) (va_cwU 1 hts (z_U q2472 q2199 q2200 q2197 q184 q2201) rfl rfl rfl rfl (by decide +kernel) (z_room (Nat.le_of_ble_eq_true rfl))) he rfl rfl rfl (Nat.le_of_ble_eq_true rfl) dX0_asks_119 ⟨hcl, hsl⟩) hS hC
          refine lv_if_ne (tgt := 100) hx hb dX0_asks_85 (by decide) (fun hc => ?_) (fun hc => ?_)
          · have hw := hw.2 hc
            obtain ⟨hcl, hsl, hw⟩ := hw
            refine zx_new hk hH hz hS (ci := 21) no_X0_504 hcl hsl dX0_asks_100 (fun H hH hz hS hlt hnb => ?_)
            have hw := hw hlt hnb
            generalize va_up hp_8 nx_9 _ = hp_57 at hH hw
            obtain ⟨kc_59, ekc⟩ : ∃ k, k = (0 + 1) := ⟨_, rfl⟩
            obtain ⟨ks_60, eks⟩ : ∃ k, k = (0 + zNn 21) := ⟨_, rfl⟩
            have hw := hw _ _ _ rfl ekc eks
            refine W.widen (Nat.le_of_eq ekc.symm) (Nat.le_of_eq eks.symm) ?_
            clear ekc eks
            generalize (nx_9 + 1) = nx_58 at hz hw
            refine lv_dup hx hb dX0_asks_103 (z_cat _) ?_
            refine zr_aload_n (r := some h0) hx hb dX0_asks_104 rfl (lv_at hl 1 rfl) ?_
            refine lv_iload_n hx hb dX0_asks_105 rfl (lv_at hl 2 rfl) ?_
            obtain ⟨hcl, hsl, hw⟩ := hw
            refine zr_callv (zw_runI (As := [va_rf (some h0), .int x1]) (r := some nx_9) hk hH hz hS hl.1 rfl hw (cwI 2 hts (lw_meth q1777) rfl rfl rfl (hts _ q185) (hts _ q2463) (hts _ q1776) rfl (by decide +kernel) (z_room (Nat.le_of_ble_eq_true rfl))) rfl rfl (by simp only [List.map_cons, List.map_nil, z_cat]; exact Nat.le_of_ble_eq_true rfl) dX0_asks_106 ⟨hcl, hsl⟩) hS (fun hp_61 nx_62 hw H locs hH hz hS => ?_)
            exact hJ_109 r_18 (some nx_9) hp_61 nx_62 kc_59 ks_60 _ _ _ hw (lv_sub hl [1, 2, 3, 0] rfl) hH hz hS
          · have hw := hw.1 hc
            obtain ⟨hcl, hsl, hw⟩ := hw
            refine zx_new hk hH hz hS (ci := 20) no_X0_501 hcl hsl dX0_asks_88 (fun H hH hz hS hlt hnb => ?_)
            have hw := hw hlt hnb
            generalize va_up hp_8 nx_9 _ = hp_66 at hH hw
            obtain ⟨kc_68, ekc⟩ : ∃ k, k = (0 + 1) := ⟨_, rfl⟩
            obtain ⟨ks_69, eks⟩ : ∃ k, k = (0 + zNn 20) := ⟨_, rfl⟩
            have hw := hw _ _ _ rfl ekc eks
            refine W.widen (Nat.le_of_eq ekc.symm) (Nat.le_of_eq eks.symm) ?_
            clear ekc eks
            generalize (nx_9 + 1) = nx_67 at hz hw
            refine lv_dup hx hb dX0_asks_91 (z_cat _) ?_
            refine zr_aload_n (r := some h0) hx hb dX0_asks_92 rfl (lv_at hl 1 rfl) ?_
            refine lv_iload_n hx hb dX0_asks_93 rfl (lv_at hl 2 rfl) ?_
            obtain ⟨hcl, hsl, hw⟩ := hw
            refine zr_callv (zw_runI (As := [va_rf (some h0), .int x1]) (r := some nx_9) hk hH hz hS hl.1 rfl hw (cwI 2 hts (lw_meth q1763) rfl rfl rfl (hts _ q184) (hts _ q2461) (hts _ q1762) rfl (by decide +kernel) (z_room (Nat.le_of_ble_eq_true rfl))) rfl rfl (by simp only [List.map_cons, List.map_nil, z_cat]; exact Nat.le_of_ble_eq_true rfl) dX0_asks_94 ⟨hcl, hsl⟩) hS (fun hp_70 nx_71 hw H locs hH hz hS => ?_)
            refine lv_goto (tgt := 109) hx hb dX0_asks_97 (by decide) ?_
            exact hJ_109 r_18 (some nx_9) hp_70 nx_71 kc_68 ks_69 _ _ _ hw (lv_sub hl [1, 2, 3, 0] rfl) hH hz hS
        by_cases hc1 : x2 = (1 : Int32)
        · have hw := hw.2.1 hc1
          refine lv_tableIn (tgt := 84) hx hb dX0_asks_37 (by rw [hc1]; decide) (by rw [hc1]; decide) (by rw [hc1]; rfl) (by decide) ?_
          refine lv_iload_n hx hb dX0_asks_84 rfl (lv_at hl 3 rfl) ?_
          obtain ⟨P_109, hP_109, hw⟩ := hw
          have hJ_109 : ∀ (r_75 : Option Nat) (r_76 : Option Nat) (hp_77 : zHp) (nx_78 : Nat) (kc_79 : Nat) (ks_80 : Nat) (H : Heap) (locs : List Loc) (ls : Array Slot), P_109 r_75 r_76 hp_77 nx_78 kc_79 ks_80 → lv_has ls 6 [(0, va_rf (some h0)), (1, .int x1), (2, .int x2), (3, va_rf r_75)] → zHd g hp_77 H → H.size = nx_78 → va_S (zAd g) s.heap H locs → W p l e (zrm (d + 1) mc ms) s m ([.ref h0, .int x1, .int x2] : List Value).toArray below meth c H locs kc_79 ks_80 (MQ below (zQi g Post) ([.ref h0, .int x1, .int x2] : List Value).toArray s mc ms (zAd g)) (F0 m 109 ls [va_rf r_76]) := by
            intro r_75 r_76 hp_77 nx_78 kc_79 ks_80 H locs ls hw hl hH hz hS
            have hw := hP_109 r_75 r_76 hp_77 nx_78 kc_79 ks_80 hw
            refine zr_astore (r := r_76) (lv' := [(4, va_rf r_76), (0, va_rf (some h0)), (1, .int x1), (2, .int x2), (3, va_rf r_75)]) hx hb dX0_asks_109 hl (by decide) (by first | rfl | simp [List.filter_cons, z_cat, z_catI, z_catJ, z_catF, z_catD]) (fun ls hl => ?_)
            refine zr_aload_n (r := some h0) hx hb dX0_asks_111 rfl (lv_at hl 1 rfl) ?_
            refine zr_aload_n (r := r_75) hx hb dX0_asks_112 rfl (lv_at hl 4 rfl) ?_
            obtain ⟨hcl, hsl, hw⟩ := hw
            obtain ⟨a_110, ci_111, fs_112, er, he, hc, hw⟩ := zo_e hw
            obtain rfl := List.mem_singleton.mp hc
            refine zr_callv (zw_runV (As := [va_rf r_75]) hk hH hz hS hl.1 er hw (cwV 1 hts (lw_V q2471 q2156 qs45 q131 q2157) rfl rfl rfl (by decide +kernel) (z_room (Nat.le_of_ble_eq_true rfl))) he rfl rfl rfl (Nat.le_of_ble_eq_true rfl) dX0_asks_113 ⟨hcl, hsl⟩) hS (fun hp_81 nx_82 hw H locs hH hz hS => ?_)
            refine zr_aload (r := r_76) hx hb dX0_asks_116 (lv_at hl 0 rfl) ?_
            refine zr_aload_n (r := r_75) hx hb dX0_asks_118 rfl (lv_at hl 4 rfl) ?_
            obtain ⟨hcl, hsl, hw⟩ := hw
            obtain ⟨a_106, ci_107, fs_108, er, he, hc, PP_109, hPP, hw⟩ := zo_e hw
            have hC : ∀ (x_85 : Int32) (hp_83 : zHp) (nx_84 : Nat), PP_109 x_85 hp_83 nx_84 → ∀ (H : Heap) (locs : List Loc), zHd g hp_83 H → H.size = nx_84 → va_S (zAd g) s.heap H locs → W p l e (zrm (d + 1) mc ms) s m ([.ref h0, .int x1, .int x2] : List Value).toArray below meth c H locs (kc_79 + 0) (ks_80 + 0) (MQ below (zQi g Post) ([.ref h0, .int x1, .int x2] : List Value).toArray s mc ms (zAd g)) (F0 m 122 ls [.int x_85]) := by
              intro x_85 hp_83 nx_84 hw H locs hH hz hS
              have hw := hPP x_85 hp_83 nx_84 hw
              refine lv_istore (lv' := [(5, .int x_85), (4, va_rf r_76), (0, va_rf (some h0)), (1, .int x1), (2, .int x2), (3, va_rf r_75)]) hx hb dX0_asks_122 hl (by decide) (by first | rfl | simp [List.filter_cons, z_cat, z_catI, z_catJ, z_catF, z_catD]) (fun ls hl => ?_)
              refine lv_iload hx hb dX0_asks_124 (lv_at hl 0 rfl) ?_
              refine lv_iconst (v := (-1 : Int32)) hx hb dX0_asks_126 (by decide) ?_
              obtain ⟨P_152, hP_152, hw⟩ := hw
              have hJ_152 : ∀ (r_86 : Option Nat) (r_87 : Option Nat) (x_88 : Int32) (x_89 : Int32) (hp_90 : zHp) (nx_91 : Nat) (kc_92 : Nat) (ks_93 : Nat) (H : Heap) (locs : List Loc) (ls : Array Slot), P_152 r_86 r_87 x_88 x_89 hp_90 nx_91 kc_92 ks_93 → lv_has ls 6 [(0, va_rf (some h0)), (1, .int x1), (2, .int x2), (3, va_rf r_86), (4, va_rf r_87), (5, .int x_88)] → zHd g hp_90 H → H.size = nx_91 → va_S (zAd g) s.heap H locs → W p l e (zrm (d + 1) mc ms) s m ([.ref h0, .int x1, .int x2] : List Value).toArray below meth c H locs kc_92 ks_93 (MQ below (zQi g Post) ([.ref h0, .int x1, .int x2] : List Value).toArray s mc ms (zAd g)) (F0 m 152 ls [.int x_89]) := by
                intro r_86 r_87 x_88 x_89 hp_90 nx_91 kc_92 ks_93 H locs ls hw hl hH hz hS
                have hw := hP_152 r_86 r_87 x_88 x_89 hp_90 nx_91 kc_92 ks_93 hw
                obtain ⟨hkc, hks, hw⟩ := hw
                exact zr_iret hk hr hH hz hS hw hkc hks dX0_asks_152
              refine lv_icmp_ne (tgt := 134) hx hb dX0_asks_127 (by decide) (fun hc => ?_) (fun hc => ?_)
              · have hw := hw.2 hc
                refine lv_bipush (v := (10 : Int32)) hx hb dX0_asks_134 (by decide) ?_
                refine lv_iload hx hb dX0_asks_136 (lv_at hl 0 rfl) ?_
                refine zr_aload_n (r := r_75) hx hb dX0_asks_138 rfl (lv_at hl 5 rfl) ?_
                obtain ⟨hcl, hsl, hw⟩ := hw
                obtain ⟨a_103, ci_104, fs_105, er, he, hc, hw⟩ := zo_e hw
                obtain rfl := List.mem_singleton.mp hc
                refine zr_calli (zw_runV (As := []) hk hH hz hS hl.1 er hw (cwV 0 hts (lw_V q2175 q1177 q1178 q195 q1179) rfl rfl rfl (by decide +kernel) (z_room (Nat.le_of_ble_eq_true rfl))) he rfl rfl rfl (Nat.le_of_ble_eq_true rfl) dX0_asks_139 ⟨hcl, hsl⟩) hS (fun x_96 hp_94 nx_95 hw H locs hH hz hS => ?_)
                obtain ⟨hne, hw⟩ := hw
                refine lv_idiv hx hb dX0_asks_142 hne ?_
                refine lv_imul hx hb dX0_asks_143 ?_
                refine lv_iload hx hb dX0_asks_144 (lv_at hl 0 rfl) ?_
                refine zr_aload_n (r := r_75) hx hb dX0_asks_146 rfl (lv_at hl 5 rfl) ?_
                obtain ⟨hcl, hsl, hw⟩ := hw
                obtain ⟨a_100, ci_101, fs_102, er, he, hc, hw⟩ := zo_e hw
                obtain rfl := List.mem_singleton.mp hc
                refine zr_calli (zw_runV (As := []) hk hH hz hS hl.1 er hw (cwV 0 hts (lw_V q2175 q1177 q1178 q195 q1179) rfl rfl rfl (by decide +kernel) (z_room (Nat.le_of_ble_eq_true rfl))) he rfl rfl rfl (Nat.le_of_ble_eq_true rfl) dX0_asks_147 ⟨hcl, hsl⟩) hS (fun x_99 hp_97 nx_98 hw H locs hH hz hS => ?_)
                obtain ⟨hne, hw⟩ := hw
                refine lv_irem hx hb dX0_asks_150 hne ?_
                refine lv_iadd hx hb dX0_asks_151 ?_
                exact hJ_152 r_75 r_76 x_85 (((10 : Int32) * (x_85 / x_96)) + (x_85 - x_85 / x_99 * x_99)) hp_97 nx_98 kc_79 ks_80 _ _ _ hw (lv_sub hl [2, 3, 4, 5, 1, 0] rfl) hH hz hS
              · have hw := hw.1 hc
                refine lv_iconst (v := (-1 : Int32)) hx hb dX0_asks_130 (by decide) ?_
                refine lv_goto (tgt := 152) hx hb dX0_asks_131 (by decide) ?_
                exact hJ_152 r_75 r_76 x_85 (-1 : Int32) hp_83 nx_84 kc_79 ks_80 _ _ _ hw (lv_sub hl [2, 3, 4, 5, 1, 0] rfl) hH hz hS
            simp only [List.mem_cons, List.not_mem_nil, or_false] at hc
            rcases hc with rfl | rfl
            · exact zr_calli (zw_runV (As := [va_rf r_75]) hk hH hz hS hl.1 er (hw) (cwV 1 hts (lw_V q2472 q2197 q2198 q184 q2201) rfl rfl rfl (by decide +kernel) (z_room (Nat.le_of_ble_eq_true rfl))) he rfl rfl rfl (Nat.le_of_ble_eq_true rfl) dX0_asks_119 ⟨hcl, hsl⟩) hS hC
            · exact zr_calli (zw_runU (As := [va_rf r_75]) hk hH hz hS hl.1 er (hw) (va_cwU 1 hts (z_U q2472 q2199 q2200 q2197 q184 q2201) rfl rfl rfl rfl (by decide +kernel) (z_room (Nat.le_of_ble_eq_true rfl))) he rfl rfl rfl (Nat.le_of_ble_eq_true rfl) dX0_asks_119 ⟨hcl, hsl⟩) hS hC
          refine lv_if_ne (tgt := 100) hx hb dX0_asks_85 (by decide) (fun hc => ?_) (fun hc => ?_)
          · have hw := hw.2 hc
            obtain ⟨hcl, hsl, hw⟩ := hw
            refine zx_new hk hH hz hS (ci := 21) no_X0_504 hcl hsl dX0_asks_100 (fun H hH hz hS hlt hnb => ?_)
            have hw := hw hlt hnb
            generalize va_up hp_8 nx_9 _ = hp_113 at hH hw
            obtain ⟨kc_115, ekc⟩ : ∃ k, k = (0 + 1) := ⟨_, rfl⟩
            obtain ⟨ks_116, eks⟩ : ∃ k, k = (0 + zNn 21) := ⟨_, rfl⟩
            have hw := hw _ _ _ rfl ekc eks
            refine W.widen (Nat.le_of_eq ekc.symm) (Nat.le_of_eq eks.symm) ?_
            clear ekc eks
            generalize (nx_9 + 1) = nx_114 at hz hw
            refine lv_dup hx hb dX0_asks_103 (z_cat _) ?_
            refine zr_aload_n (r := some h0) hx hb dX0_asks_104 rfl (lv_at hl 1 rfl) ?_
            refine lv_iload_n hx hb dX0_asks_105 rfl (lv_at hl 2 rfl) ?_
            obtain ⟨hcl, hsl, hw⟩ := hw
            refine zr_callv (zw_runI (As := [va_rf (some h0), .int x1]) (r := some nx_9) hk hH hz hS hl.1 rfl hw (cwI 2 hts (lw_meth q1777) rfl rfl rfl (hts _ q185) (hts _ q2463) (hts _ q1776) rfl (by decide +kernel) (z_room (Nat.le_of_ble_eq_true rfl))) rfl rfl (by simp only [List.map_cons, List.map_nil, z_cat]; exact Nat.le_of_ble_eq_true rfl) dX0_asks_106 ⟨hcl, hsl⟩) hS (fun hp_117 nx_118 hw H locs hH hz hS => ?_)
            exact hJ_109 r_18 (some nx_9) hp_117 nx_118 kc_115 ks_116 _ _ _ hw (lv_sub hl [1, 2, 3, 0] rfl) hH hz hS
          · have hw := hw.1 hc
            obtain ⟨hcl, hsl, hw⟩ := hw
            refine zx_new hk hH hz hS (ci := 20) no_X0_501 hcl hsl dX0_asks_88 (fun H hH hz hS hlt hnb => ?_)
            have hw := hw hlt hnb
            generalize va_up hp_8 nx_9 _ = hp_122 at hH hw
            obtain ⟨kc_124, ekc⟩ : ∃ k, k = (0 + 1) := ⟨_, rfl⟩
            obtain ⟨ks_125, eks⟩ : ∃ k, k = (0 + zNn 20) := ⟨_, rfl⟩
            have hw := hw _ _ _ rfl ekc eks
            refine W.widen (Nat.le_of_eq ekc.symm) (Nat.le_of_eq eks.symm) ?_
            clear ekc eks
            generalize (nx_9 + 1) = nx_123 at hz hw
            refine lv_dup hx hb dX0_asks_91 (z_cat _) ?_
            refine zr_aload_n (r := some h0) hx hb dX0_asks_92 rfl (lv_at hl 1 rfl) ?_
            refine lv_iload_n hx hb dX0_asks_93 rfl (lv_at hl 2 rfl) ?_
            obtain ⟨hcl, hsl, hw⟩ := hw
            refine zr_callv (zw_runI (As := [va_rf (some h0), .int x1]) (r := some nx_9) hk hH hz hS hl.1 rfl hw (cwI 2 hts (lw_meth q1763) rfl rfl rfl (hts _ q184) (hts _ q2461) (hts _ q1762) rfl (by decide +kernel) (z_room (Nat.le_of_ble_eq_true rfl))) rfl rfl (by simp only [List.map_cons, List.map_nil, z_cat]; exact Nat.le_of_ble_eq_true rfl) dX0_asks_94 ⟨hcl, hsl⟩) hS (fun hp_126 nx_127 hw H locs hH hz hS => ?_)
            refine lv_goto (tgt := 109) hx hb dX0_asks_97 (by decide) ?_
            exact hJ_109 r_18 (some nx_9) hp_126 nx_127 kc_124 ks_125 _ _ _ hw (lv_sub hl [1, 2, 3, 0] rfl) hH hz hS
        by_cases hc2 : x2 = (2 : Int32)
        · have hw := hw.2.2.1 hc2
          refine lv_tableIn (tgt := 153) hx hb dX0_asks_37 (by rw [hc2]; decide) (by rw [hc2]; decide) (by rw [hc2]; rfl) (by decide) ?_
          refine zr_aload_n (r := some h0) hx hb dX0_asks_153 rfl (lv_at hl 1 rfl) ?_
          refine zr_aload_n (r := r_18) hx hb dX0_asks_154 rfl (lv_at hl 0 rfl) ?_
          obtain ⟨hcl, hsl, hw⟩ := hw
          obtain ⟨a_134, ci_135, fs_136, er, he, hc, hw⟩ := zo_e hw
          obtain rfl := List.mem_singleton.mp hc
          refine zr_calli (zw_runV (As := [va_rf r_18]) hk hH hz hS hl.1 er hw (cwV 1 hts (lw_V q2473 q2475 qs57 q131 q2476) rfl rfl rfl (by decide +kernel) (z_room (Nat.le_of_ble_eq_true rfl))) he rfl rfl rfl (Nat.le_of_ble_eq_true rfl) dX0_asks_155 ⟨hcl, hsl⟩) hS (fun x_133 hp_131 nx_132 hw H locs hH hz hS => ?_)
          obtain ⟨hkc, hks, hw⟩ := hw
          exact zr_iret hk hr hH hz hS hw hkc hks dX0_asks_158
        by_cases hc3 : x2 = (3 : Int32)
        · have hw := hw.2.2.2.1 hc3
          refine lv_tableIn (tgt := 159) hx hb dX0_asks_37 (by rw [hc3]; decide) (by rw [hc3]; decide) (by rw [hc3]; rfl) (by decide) ?_
          refine zr_aload_n (r := some h0) hx hb dX0_asks_159 rfl (lv_at hl 1 rfl) ?_
          refine lv_iconst (v := (0 : Int32)) hx hb dX0_asks_160 (by decide) ?_
          obtain ⟨a_137, ci_138, fs_139, hp_140, er, he, hc, hA, hkl, eh, hw⟩ := zpt_e hw
          refine zw_put hk hH hz hS er he hA hkl eh (fp_X0_236 hc) rfl rfl dX0_asks_161 (fun H locs hH hz hS => ?_)
          refine zr_aload_n (r := some h0) hx hb dX0_asks_164 rfl (lv_at hl 1 rfl) ?_
          refine zr_aload_n (r := r_18) hx hb dX0_asks_165 rfl (lv_at hl 0 rfl) ?_
          obtain ⟨hcl, hsl, hw⟩ := hw
          obtain ⟨a_147, ci_148, fs_149, er, he, hc, hw⟩ := zo_e hw
          obtain rfl := List.mem_singleton.mp hc
          refine zr_callv (zw_runV (As := [va_rf r_18]) hk hH hz hS hl.1 er hw (cwV 1 hts (lw_V q2471 q2156 qs45 q131 q2157) rfl rfl rfl (by decide +kernel) (z_room (Nat.le_of_ble_eq_true rfl))) he rfl rfl rfl (Nat.le_of_ble_eq_true rfl) dX0_asks_166 ⟨hcl, hsl⟩) hS (fun hp_141 nx_142 hw H locs hH hz hS => ?_)
          refine zr_aload_n (r := some h0) hx hb dX0_asks_169 rfl (lv_at hl 1 rfl) ?_
          obtain ⟨a_143, ci_144, fs_145, x_146, er, he, hc, hv, hw⟩ := zgI_e hw
          refine zw_get hk hH er he hv (fk_X0_236 hc) dX0_asks_170 ?_
          obtain ⟨hkc, hks, hw⟩ := hw
          exact zr_iret hk hr hH hz hS hw hkc hks dX0_asks_173
        by_cases hc4 : x2 = (4 : Int32)
        · have hw := hw.2.2.2.2.1 hc4
          refine lv_tableIn (tgt := 174) hx hb dX0_asks_37 (by rw [hc4]; decide) (by rw [hc4]; decide) (by rw [hc4]; rfl) (by decide) ?_
          refine zr_aload_n (r := some h0) hx hb dX0_asks_174 rfl (lv_at hl 1 rfl) ?_
          obtain ⟨a_150, ci_151, fs_152, r_153, er, he, hc, hv, hw⟩ := zgR_e hw
          refine zw_get hk hH er he hv (fk_X0_72 hc) dX0_asks_175 ?_
          refine lv_iload_n hx hb dX0_asks_178 rfl (lv_at hl 2 rfl) ?_
          obtain ⟨a_154, n_155, f_156, er, he, hi, hw⟩ := zaI_e hw
          have hw := hw _ rfl
          refine zw_iald hk hH er he hi dX0_asks_179 ?_
          generalize f_156 x1.toNatClampNeg = x_157 at hw ⊢
          obtain ⟨hkc, hks, hw⟩ := hw
          exact zr_iret hk hr hH hz hS hw hkc hks dX0_asks_180
        by_cases hc5 : x2 = (5 : Int32)
        · have hw := hw.2.2.2.2.2.1 hc5
          refine lv_tableIn (tgt := 181) hx hb dX0_asks_37 (by rw [hc5]; decide) (by rw [hc5]; decide) (by rw [hc5]; rfl) (by decide) ?_
          refine zr_aload_n (r := r_18) hx hb dX0_asks_181 rfl (lv_at hl 0 rfl) ?_
          obtain ⟨a_158, ci_159, fs_160, r_161, er, he, hc, hv, hw⟩ := zgR_e hw
          refine zw_get hk hH er he hv (fk_X0_171 hc) dX0_asks_182 ?_
          obtain ⟨hcl, hsl, hw⟩ := hw
          obtain ⟨a_165, ci_166, fs_167, er, he, hc, hw⟩ := zo_e hw
          obtain rfl := List.mem_singleton.mp hc
          refine zr_calli (zw_runV (As := []) hk hH hz hS hl.1 er hw (cwV 0 hts (lw_V q2442 q1173 q1174 q196 q1175) rfl rfl rfl (by decide +kernel) (z_room (Nat.le_of_ble_eq_true rfl))) he rfl rfl rfl (Nat.le_of_ble_eq_true rfl) dX0_asks_185 ⟨hcl, hsl⟩) hS (fun x_164 hp_162 nx_163 hw H locs hH hz hS => ?_)
          obtain ⟨hkc, hks, hw⟩ := hw
          exact zr_iret hk hr hH hz hS hw hkc hks dX0_asks_188
        by_cases hc6 : x2 = (6 : Int32)
        · have hw := hw.2.2.2.2.2.2.1 hc6
          refine lv_tableIn (tgt := 189) hx hb dX0_asks_37 (by rw [hc6]; decide) (by rw [hc6]; decide) (by rw [hc6]; rfl) (by decide) ?_
          refine zr_aload_n (r := r_18) hx hb dX0_asks_189 rfl (lv_at hl 0 rfl) ?_
          obtain ⟨a_168, ci_169, fs_170, r_171, er, he, hc, hv, hw⟩ := zgR_e hw
          refine zw_get hk hH er he hv (fk_X0_190 hc) dX0_asks_190 ?_
          obtain ⟨P_207, hP_207, hw⟩ := hw
          have hJ_207 : ∀ (r_172 : Option Nat) (x_173 : Int32) (hp_174 : zHp) (nx_175 : Nat) (kc_176 : Nat) (ks_177 : Nat) (H : Heap) (locs : List Loc) (ls : Array Slot), P_207 r_172 x_173 hp_174 nx_175 kc_176 ks_177 → lv_has ls 6 [(0, va_rf (some h0)), (1, .int x1), (2, .int x2), (3, va_rf r_172)] → zHd g hp_174 H → H.size = nx_175 → va_S (zAd g) s.heap H locs → W p l e (zrm (d + 1) mc ms) s m ([.ref h0, .int x1, .int x2] : List Value).toArray below meth c H locs kc_176 ks_177 (MQ below (zQi g Post) ([.ref h0, .int x1, .int x2] : List Value).toArray s mc ms (zAd g)) (F0 m 207 ls [.int x_173]) := by
            intro r_172 x_173 hp_174 nx_175 kc_176 ks_177 H locs ls hw hl hH hz hS
            have hw := hP_207 r_172 x_173 hp_174 nx_175 kc_176 ks_177 hw
            obtain ⟨hkc, hks, hw⟩ := hw
            exact zr_iret hk hr hH hz hS hw hkc hks dX0_asks_207
          refine zr_ifnonnull (r := r_171) (tgt := 200) hx hb dX0_asks_193 (by decide) (fun hc => ?_) (fun hc => ?_)
          · have hw := hw.2 hc
            refine zr_aload_n (r := r_18) hx hb dX0_asks_200 rfl (lv_at hl 0 rfl) ?_
            obtain ⟨a_178, ci_179, fs_180, r_181, er, he, hc, hv, hw⟩ := zgR_e hw
            refine zw_get hk hH er he hv (fk_X0_190 hc) dX0_asks_201 ?_
            obtain ⟨hcl, hsl, hw⟩ := hw
            obtain ⟨a_185, ci_186, fs_187, er, he, hc, hw⟩ := zo_e hw
            obtain rfl := List.mem_singleton.mp hc
            refine zr_calli (zw_runV (As := []) hk hH hz hS hl.1 er hw (cwV 0 hts (lw_V q2442 q1173 q1174 q196 q1175) rfl rfl rfl (by decide +kernel) (z_room (Nat.le_of_ble_eq_true rfl))) he rfl rfl rfl (Nat.le_of_ble_eq_true rfl) dX0_asks_204 ⟨hcl, hsl⟩) hS (fun x_184 hp_182 nx_183 hw H locs hH hz hS => ?_)
            exact hJ_207 r_18 x_184 hp_182 nx_183 0 0 _ _ _ hw (lv_sub hl [1, 2, 3, 0] rfl) hH hz hS
          · have hw := hw.1 hc
            refine lv_iconst (v := (0 : Int32)) hx hb dX0_asks_196 (by decide) ?_
            refine lv_goto (tgt := 207) hx hb dX0_asks_197 (by decide) ?_
            exact hJ_207 r_18 (0 : Int32) hp_8 nx_9 0 0 _ _ _ hw (lv_sub hl [1, 2, 3, 0] rfl) hH hz hS
        by_cases hc7 : x2 = (7 : Int32)
        · have hw := hw.2.2.2.2.2.2.2.1 hc7
          refine lv_tableIn (tgt := 208) hx hb dX0_asks_37 (by rw [hc7]; decide) (by rw [hc7]; decide) (by rw [hc7]; rfl) (by decide) ?_
          refine zr_aload_n (r := some h0) hx hb dX0_asks_208 rfl (lv_at hl 1 rfl) ?_
          refine zr_aload_n (r := r_18) hx hb dX0_asks_209 rfl (lv_at hl 0 rfl) ?_
          obtain ⟨a_188, ci_189, fs_190, r_191, er, he, hc, hv, hw⟩ := zgR_e hw
          refine zw_get hk hH er he hv (fk_X0_171 hc) dX0_asks_210 ?_
          obtain ⟨hcl, hsl, hw⟩ := hw
          obtain ⟨a_195, ci_196, fs_197, er, he, hc, hw⟩ := zo_e hw
          obtain rfl := List.mem_singleton.mp hc
          refine zr_calli (zw_runV (As := [va_rf r_191]) hk hH hz hS hl.1 er hw (cwV 1 hts (lw_V q2477 q2479 qs58 q131 q2480) rfl rfl rfl (by decide +kernel) (z_room (Nat.le_of_ble_eq_true rfl))) he rfl rfl rfl (Nat.le_of_ble_eq_true rfl) dX0_asks_213 ⟨hcl, hsl⟩) hS (fun x_194 hp_192 nx_193 hw H locs hH hz hS => ?_)
          obtain ⟨hkc, hks, hw⟩ := hw
          exact zr_iret hk hr hH hz hS hw hkc hks dX0_asks_216
        have hw := hw.2.2.2.2.2.2.2.2 ⟨hc0, hc1, hc2, hc3, hc4, hc5, hc6, hc7⟩
        refine lv_tableOut (tgt := 217) hx hb dX0_asks_37 (by have h0 := lv_neT hc0 (a := 0) (by decide); have h1 := lv_neT hc1 (a := 1) (by decide); have h2 := lv_neT hc2 (a := 2) (by decide); have h3 := lv_neT hc3 (a := 3) (by decide); have h4 := lv_neT hc4 (a := 4) (by decide); have h5 := lv_neT hc5 (a := 5) (by decide); have h6 := lv_neT hc6 (a := 6) (by decide); have h7 := lv_neT hc7 (a := 7) (by decide); omega) (by decide) ?_
        refine zr_aload_n (r := some h0) hx hb dX0_asks_217 rfl (lv_at hl 1 rfl) ?_
        refine zr_aload_n (r := r_18) hx hb dX0_asks_218 rfl (lv_at hl 0 rfl) ?_
        obtain ⟨a_198, ci_199, fs_200, r_201, er, he, hc, hv, hw⟩ := zgR_e hw
        refine zw_get hk hH er he hv (fk_X0_190 hc) dX0_asks_219 ?_
        obtain ⟨hcl, hsl, hw⟩ := hw
        obtain ⟨a_205, ci_206, fs_207, er, he, hc, hw⟩ := zo_e hw
        obtain rfl := List.mem_singleton.mp hc
        refine zr_calli (zw_runV (As := [va_rf r_201]) hk hH hz hS hl.1 er hw (cwV 1 hts (lw_V q2477 q2479 qs58 q131 q2480) rfl rfl rfl (by decide +kernel) (z_room (Nat.le_of_ble_eq_true rfl))) he rfl rfl rfl (Nat.le_of_ble_eq_true rfl) dX0_asks_222 ⟨hcl, hsl⟩) hS (fun x_204 hp_202 nx_203 hw H locs hH hz hS => ?_)
        obtain ⟨hkc, hks, hw⟩ := hw
        exact zr_iret hk hr hH hz hS hw hkc hks dX0_asks_225
      · have hw := hw.1 hc
        refine lv_bipush (v := (-3 : Int32)) hx hb dX0_asks_33 (by decide) ?_
        obtain ⟨hkc, hks, hw⟩ := hw
        exact zr_iret hk hr hH hz hS hw hkc hks dX0_asks_35
    · have hw := hw.1 hc
      exact hJ_19 hp_8 nx_9 0 0 _ _ _ hw hl hH hz hS
def wp_X0_slice (l : Launch) (g : zG) (d : Nat) (h0 : Nat) (r1 : Option Nat) (hp : zHp) (nx : Nat) (Post : Int32 → zHp → Nat → Prop) : Prop :=
  (zgR hp (some h0) [0] 11 fun r_4 =>
  (zgI hp r1 [31] 1 fun x_8 =>
  (zaR (g.2.1 10) hp r_4 fun a_9 n_10 f_11 => vp_in x_8 n_10 ∧ ∀ r_12 : Option Nat, r_12 = f_11 x_8.toNatClampNeg →
  (zo hp r_12 [34] fun a_116 ci_117 fs_118 => zMt l g yJ0_nextSetBit cJ0_nextSetBit 5 (some .int) d 0 0 (.ref a_116 :: [.int (0 : Int32)]) hp nx (zQi g fun x_15 hp_13 nx_14 =>
  (∃ I_19 : Nat → Int32 → (Option Nat) → Int32 → zHp → Nat → Prop, (∃ n_115, I_19 n_115 (0 : Int32) r_12 x_15 hp_13 nx_14) ∧ ∀ (n_21 : Nat) (x_16 : Int32) (r_17 : Option Nat) (x_18 : Int32) (hp_19 : zHp) (nx_20 : Nat), I_19 n_21 x_16 r_17 x_18 hp_19 nx_20 →
  ((x_18 < 0 →
  (Post x_16 hp_19 nx_20)) ∧
  (¬ x_18 < 0 →
  (zgR hp_19 (some h0) [0] 12 fun r_25 =>
  (zaR (g.2.1 10) hp_19 r_25 fun a_26 n_27 f_28 => vp_in x_18 n_27 ∧ ∀ r_29 : Option Nat, r_29 = f_28 x_18.toNatClampNeg →
  (zgR hp_19 r1 [31] 2 fun r_33 =>
  (zgI hp_19 r_33 [32] 0 fun x_37 =>
  (zo hp_19 r_29 [34] fun a_112 ci_113 fs_114 => zMt l g yJ0_get cJ0_get 3 (some .boolean) d 0 0 (.ref a_112 :: [.int x_37]) hp_19 nx_20 (zQi g fun x_40 hp_38 nx_39 =>
  (∃ P_76 : Int32 → (Option Nat) → Int32 → Int32 → zHp → Nat → Prop, (∀ (x_41 : Int32) (r_42 : Option Nat) (x_43 : Int32) (x_44 : Int32) (hp_45 : zHp) (nx_46 : Nat), P_76 x_41 r_42 x_43 x_44 hp_45 nx_46 →
  (∃ P_103 : Int32 → (Option Nat) → Int32 → Int32 → zHp → Nat → Prop, (∀ (x_47 : Int32) (r_48 : Option Nat) (x_49 : Int32) (x_50 : Int32) (hp_51 : zHp) (nx_52 : Nat), P_103 x_47 r_48 x_49 x_50 hp_51 nx_52 →
  (zo hp_51 r_48 [34] fun a_57 ci_58 fs_59 => zMt l g yJ0_nextSetBit cJ0_nextSetBit 5 (some .int) d 0 0 (.ref a_57 :: [.int (x_49 + (1 : Int32))]) hp_51 nx_52 (zQi g fun x_55 hp_53 nx_54 =>
  (∃ k_56, k_56 < n_21 ∧ I_19 k_56 x_47 r_48 x_55 hp_53 nx_54)))) ∧
  ((x_44 = 0 →
  P_103 x_41 r_42 x_43 x_44 hp_45 nx_46) ∧
  (¬ x_44 = 0 →
  (zgR hp_45 (some h0) [0] 0 fun r_63 =>
  (zaR (g.2.1 7) hp_45 r_63 fun a_64 n_65 f_66 => vp_in x_43 n_65 ∧ ∀ r_67 : Option Nat, r_67 = f_66 x_43.toNatClampNeg →
  (zo hp_45 r_67 [2, 6, 7, 8, 9, 10] fun a_72 ci_73 fs_74 => ∃ PP_75 : Int32 → zHp → Nat → Prop, (∀ (x_70 : Int32) (hp_68 : zHp) (nx_69 : Nat), PP_75 x_70 hp_68 nx_69 →
  ((x_70 = 0 →
  (∀ x_71 : Int32, x_71 = x_41 ||| ((1 : Int32) <<< (x_43 &&& 31)) →
  P_103 x_71 r_42 x_43 x_44 hp_68 nx_69)) ∧
  (¬ x_70 = 0 →
  P_103 x_41 r_42 x_43 x_44 hp_68 nx_69))) ∧ zMt l g yX2_isInput cX2_isInput 1 (some .boolean) d 0 0 (.ref a_72 :: []) hp_45 nx_46 (zQi g PP_75)))))))) ∧
  (∃ P_71 : Int32 → (Option Nat) → Int32 → zHp → Nat → Prop, (∀ (x_76 : Int32) (r_77 : Option Nat) (x_78 : Int32) (hp_79 : zHp) (nx_80 : Nat), P_71 x_76 r_77 x_78 hp_79 nx_80 →
  P_76 x_76 r_77 x_78 (1 : Int32) hp_79 nx_80) ∧
  ((x_40 = 0 →
  (zgR hp_38 r1 [31] 3 fun r_84 =>
  (∃ P_75 : Int32 → (Option Nat) → Int32 → zHp → Nat → Prop, (∀ (x_85 : Int32) (r_86 : Option Nat) (x_87 : Int32) (hp_88 : zHp) (nx_89 : Nat), P_75 x_85 r_86 x_87 hp_88 nx_89 →
  P_76 x_85 r_86 x_87 (0 : Int32) hp_88 nx_89) ∧
  ((r_84 = none →
  P_75 x_16 r_17 x_18 hp_38 nx_39) ∧
  (¬ r_84 = none →
  (zgR hp_38 (some h0) [0] 12 fun r_93 =>
  (zaR (g.2.1 10) hp_38 r_93 fun a_94 n_95 f_96 => vp_in x_18 n_95 ∧ ∀ r_97 : Option Nat, r_97 = f_96 x_18.toNatClampNeg →
  (zgR hp_38 r1 [31] 3 fun r_101 =>
  (zgI hp_38 r_101 [32] 0 fun x_105 =>
  (zo hp_38 r_97 [34] fun a_109 ci_110 fs_111 => zMt l g yJ0_get cJ0_get 3 (some .boolean) d 0 0 (.ref a_109 :: [.int x_105]) hp_38 nx_39 (zQi g fun x_108 hp_106 nx_107 =>
  ((x_108 = 0 →
  P_75 x_16 r_17 x_18 hp_106 nx_107) ∧
  (¬ x_108 = 0 →
  P_71 x_16 r_17 x_18 hp_106 nx_107))))))))))))) ∧
  (¬ x_40 = 0 →
  P_71 x_16 r_17 x_18 hp_38 nx_39))))))))))))))))))
set_option maxHeartbeats 40000000 in
theorem met_X0_slice {l : Launch} {g : zG} {d : Nat} {h0 : Nat} {r1 : Option Nat} {hp : zHp} {nx : Nat} {Post : Int32 → zHp → Nat → Prop} (hw : wp_X0_slice l g d h0 r1 hp nx Post) : zMt l g yX0_slice cX0_slice 6 (some .int) (d + 1) 0 0 [.ref h0, va_rf r1] hp nx (zQi g Post) := by
  refine z_start (by decide) (by cases r1 <;> exact Nat.le_of_ble_eq_true rfl) ?_
  intro p e s m below meth c hk hr hin hH hz ls hl
  have hx := hk.1.1
  have hb := hk.1.2.1
  have hown := hk.1.2.2.2.1
  have hts := hk.1.2.2.2.2
  have hS : va_S (zAd g) s.heap s.heap [] := va_S.rf
  have hl : lv_has ls 6 [(0, va_rf (some h0)), (1, va_rf r1)] := by cases r1 <;> exact hl
  unfold wp_X0_slice at hw
  refine lv_iconst (v := (0 : Int32)) hx hb dX0_slice_0 (by decide) ?_
  refine lv_istore_n (i := 2) (lv' := [(2, .int (0 : Int32)), (0, va_rf (some h0)), (1, va_rf r1)]) hx hb dX0_slice_1 rfl hl (by decide) (by first | rfl | simp [List.filter_cons, z_cat, z_catI, z_catJ, z_catF, z_catD]) (fun ls hl => ?_)
  refine zr_aload_n (r := some h0) hx hb dX0_slice_2 rfl (lv_at hl 1 rfl) ?_
  obtain ⟨a_1, ci_2, fs_3, r_4, er, he, hc, hv, hw⟩ := zgR_e hw
  refine zw_get hk hH er he hv (fk_X0_58 hc) dX0_slice_3 ?_
  refine zr_aload_n (r := r1) hx hb dX0_slice_6 rfl (lv_at hl 2 rfl) ?_
  obtain ⟨a_5, ci_6, fs_7, x_8, er, he, hc, hv, hw⟩ := zgI_e hw
  refine zw_get hk hH er he hv (fk_X0_269 hc) dX0_slice_7 ?_
  obtain ⟨a_9, n_10, f_11, er, he, hi, hw⟩ := zaR_e hw
  have hw := hw _ rfl
  refine zw_aald hk hH 10 er he rfl rfl hi dX0_slice_10 ?_
  generalize f_11 x_8.toNatClampNeg = r_12 at hw ⊢
  refine zr_astore_n (r := r_12) (i := 3) (lv' := [(3, va_rf r_12), (2, .int (0 : Int32)), (0, va_rf (some h0)), (1, va_rf r1)]) hx hb dX0_slice_11 rfl hl (by decide) (by first | rfl | simp [List.filter_cons, z_cat, z_catI, z_catJ, z_catF, z_catD]) (fun ls hl => ?_)
  refine zr_aload_n (r := r_12) hx hb dX0_slice_12 rfl (lv_at hl 0 rfl) ?_
  refine lv_iconst (v := (0 : Int32)) hx hb dX0_slice_13 (by decide) ?_
  obtain ⟨a_116, ci_117, fs_118, er, he, hc, hw⟩ := zo_e hw
  obtain rfl := List.mem_singleton.mp hc
  refine zr_calli (zw_runV (As := [.int (0 : Int32)]) hk hH hz hS hl.1 er hw (cwV 1 hts (lw_V q944 q945 q946 q133 q947) rfl rfl rfl (by decide +kernel) (z_room (Nat.le_of_ble_eq_true rfl))) he rfl rfl rfl (Nat.le_of_ble_eq_true rfl) dX0_slice_14 ⟨Nat.le_of_ble_eq_true rfl, Nat.le_of_ble_eq_true rfl⟩) hS (fun x_15 hp_13 nx_14 hw H locs hH hz hS => ?_)
  refine lv_istore (lv' := [(4, .int x_15), (3, va_rf r_12), (2, .int (0 : Int32)), (0, va_rf (some h0)), (1, va_rf r1)]) hx hb dX0_slice_17 hl (by decide) (by first | rfl | simp [List.filter_cons, z_cat, z_catI, z_catJ, z_catF, z_catD]) (fun ls hl => ?_)
  obtain ⟨I_19, ⟨n_115, hI⟩, hB_19⟩ := hw
  have hL_19 : ∀ (n_21 : Nat) (x_16 : Int32) (r_17 : Option Nat) (x_18 : Int32) (hp_19 : zHp) (nx_20 : Nat) (H : Heap) (locs : List Loc) (ls : Array Slot), I_19 n_21 x_16 r_17 x_18 hp_19 nx_20 → lv_has ls 6 [(0, va_rf (some h0)), (1, va_rf r1), (2, .int x_16), (3, va_rf r_17), (4, .int x_18)] → zHd g hp_19 H → H.size = nx_20 → va_S (zAd g) s.heap H locs → W p l e (zrm (d + 1) 0 0) s m ([.ref h0, va_rf r1] : List Value).toArray below meth c H locs 0 0 (MQ below (zQi g Post) ([.ref h0, va_rf r1] : List Value).toArray s 0 0 (zAd g)) (F0 m 19 ls []) := by
    intro n_21
    induction n_21 using Nat.strongRecOn with
    | _ n_21 ih_19 =>
      intro x_16 r_17 x_18 hp_19 nx_20 H locs ls hw hl hH hz hS
      have hw := hB_19 n_21 x_16 r_17 x_18 hp_19 nx_20 hw
      refine lv_iload hx hb dX0_slice_19 (lv_at hl 4 rfl) ?_
      refine lv_if_lt (tgt := 116) hx hb dX0_slice_21 (by decide) (fun hc => ?_) (fun hc => ?_)
      · have hw := hw.1 hc
        refine lv_iload_n hx hb dX0_slice_116 rfl (lv_at hl 2 rfl) ?_
        exact zr_iret hk hr hH hz hS hw (Nat.le_of_ble_eq_true rfl) (Nat.le_of_ble_eq_true rfl) dX0_slice_117
      · have hw := hw.2 hc
        refine zr_aload_n (r := some h0) hx hb dX0_slice_24 rfl (lv_at hl 0 rfl) ?_
        obtain ⟨a_22, ci_23, fs_24, r_25, er, he, hc, hv, hw⟩ := zgR_e hw
        refine zw_get hk hH er he hv (fk_X0_62 hc) dX0_slice_25 ?_
        refine lv_iload hx hb dX0_slice_28 (lv_at hl 4 rfl) ?_
        obtain ⟨a_26, n_27, f_28, er, he, hi, hw⟩ := zaR_e hw
        have hw := hw _ rfl
        refine zw_aald hk hH 10 er he rfl rfl hi dX0_slice_30 ?_
        generalize f_28 x_18.toNatClampNeg = r_29 at hw ⊢
        refine zr_aload_n (r := r1) hx hb dX0_slice_31 rfl (lv_at hl 1 rfl) ?_
        obtain ⟨a_30, ci_31, fs_32, r_33, er, he, hc, hv, hw⟩ := zgR_e hw
        refine zw_get hk hH er he hv (fk_X0_171 hc) dX0_slice_32 ?_
        obtain ⟨a_34, ci_35, fs_36, x_37, er, he, hc, hv, hw⟩ := zgI_e hw
        refine zw_get hk hH er he hv (fk_X0_175 hc) dX0_slice_35 ?_
        obtain ⟨a_112, ci_113, fs_114, er, he, hc, hw⟩ := zo_e hw
        obtain rfl := List.mem_singleton.mp hc
        refine zr_calli (zw_runV (As := [.int x_37]) hk hH hz hS hl.1 er hw (cwV 1 hts (lw_V q704 q705 q706 q133 q707) rfl rfl rfl (by decide +kernel) (z_room (Nat.le_of_ble_eq_true rfl))) he rfl rfl rfl (Nat.le_of_ble_eq_true rfl) dX0_slice_38 ⟨Nat.le_of_ble_eq_true rfl, Nat.le_of_ble_eq_true rfl⟩) hS (fun x_40 hp_38 nx_39 hw H locs hH hz hS => ?_)
        obtain ⟨P_76, hP_76, hw⟩ := hw
        have hJ_76 : ∀ (x_41 : Int32) (r_42 : Option Nat) (x_43 : Int32) (x_44 : Int32) (hp_45 : zHp) (nx_46 : Nat) (H : Heap) (locs : List Loc) (ls : Array Slot), P_76 x_41 r_42 x_43 x_44 hp_45 nx_46 → lv_has ls 6 [(0, va_rf (some h0)), (1, va_rf r1), (2, .int x_41), (3, va_rf r_42), (4, .int x_43)] → zHd g hp_45 H → H.size = nx_46 → va_S (zAd g) s.heap H locs → W p l e (zrm (d + 1) 0 0) s m ([.ref h0, va_rf r1] : List Value).toArray below meth c H locs 0 0 (MQ below (zQi g Post) ([.ref h0, va_rf r1] : List Value).toArray s 0 0 (zAd g)) (F0 m 76 ls [.int x_44]) := by
          intro x_41 r_42 x_43 x_44 hp_45 nx_46 H locs ls hw hl hH hz hS
          have hw := hP_76 x_41 r_42 x_43 x_44 hp_45 nx_46 hw
          refine lv_istore (lv' := [(5, .int x_44), (0, va_rf (some h0)), (1, va_rf r1), (2, .int x_41), (3, va_rf r_42), (4, .int x_43)]) hx hb dX0_slice_76 hl (by decide) (by first | rfl | simp [List.filter_cons, z_cat, z_catI, z_catJ, z_catF, z_catD]) (fun ls hl => ?_)
          refine lv_iload hx hb dX0_slice_78 (lv_at hl 0 rfl) ?_
          obtain ⟨P_103, hP_103, hw⟩ := hw
          have hJ_103 : ∀ (x_47 : Int32) (r_48 : Option Nat) (x_49 : Int32) (x_50 : Int32) (hp_51 : zHp) (nx_52 : Nat) (H : Heap) (locs : List Loc) (ls : Array Slot), P_103 x_47 r_48 x_49 x_50 hp_51 nx_52 → lv_has ls 6 [(0, va_rf (some h0)), (1, va_rf r1), (2, .int x_47), (3, va_rf r_48), (4, .int x_49), (5, .int x_50)] → zHd g hp_51 H → H.size = nx_52 → va_S (zAd g) s.heap H locs → W p l e (zrm (d + 1) 0 0) s m ([.ref h0, va_rf r1] : List Value).toArray below meth c H locs 0 0 (MQ below (zQi g Post) ([.ref h0, va_rf r1] : List Value).toArray s 0 0 (zAd g)) (F0 m 103 ls []) := by
            intro x_47 r_48 x_49 x_50 hp_51 nx_52 H locs ls hw hl hH hz hS
            have hw := hP_103 x_47 r_48 x_49 x_50 hp_51 nx_52 hw
            refine zr_aload_n (r := r_48) hx hb dX0_slice_103 rfl (lv_at hl 3 rfl) ?_
            refine lv_iload hx hb dX0_slice_104 (lv_at hl 4 rfl) ?_
            refine lv_iconst (v := (1 : Int32)) hx hb dX0_slice_106 (by decide) ?_
            refine lv_iadd hx hb dX0_slice_107 ?_
            obtain ⟨a_57, ci_58, fs_59, er, he, hc, hw⟩ := zo_e hw
            obtain rfl := List.mem_singleton.mp hc
            refine zr_calli (zw_runV (As := [.int (x_49 + (1 : Int32))]) hk hH hz hS hl.1 er hw (cwV 1 hts (lw_V q944 q945 q946 q133 q947) rfl rfl rfl (by decide +kernel) (z_room (Nat.le_of_ble_eq_true rfl))) he rfl rfl rfl (Nat.le_of_ble_eq_true rfl) dX0_slice_108 ⟨Nat.le_of_ble_eq_true rfl, Nat.le_of_ble_eq_true rfl⟩) hS (fun x_55 hp_53 nx_54 hw H locs hH hz hS => ?_)
            refine lv_istore (lv' := [(4, .int x_55), (0, va_rf (some h0)), (1, va_rf r1), (2, .int x_47), (3, va_rf r_48), (5, .int x_50)]) hx hb dX0_slice_111 hl (by decide) (by first | rfl | simp [List.filter_cons, z_cat, z_catI, z_catJ, z_catF, z_catD]) (fun ls hl => ?_)
            refine lv_goto (tgt := 19) hx hb dX0_slice_113 (by decide) ?_
            obtain ⟨k_56, hlt, hw⟩ := hw
            exact ih_19 k_56 hlt x_47 r_48 x_55 hp_53 nx_54 _ _ _ hw (lv_sub hl [1, 2, 3, 4, 0] rfl) hH hz hS
          refine lv_if_eq (tgt := 103) hx hb dX0_slice_80 (by decide) (fun hc => ?_) (fun hc => ?_)
          · have hw := hw.1 hc
            exact hJ_103 x_41 r_42 x_43 x_44 hp_45 nx_46 _ _ _ hw (lv_sub hl [1, 2, 3, 4, 5, 0] rfl) hH hz hS
          · have hw := hw.2 hc
            refine zr_aload_n (r := some h0) hx hb dX0_slice_83 rfl (lv_at hl 1 rfl) ?_
            obtain ⟨a_60, ci_61, fs_62, r_63, er, he, hc, hv, hw⟩ := zgR_e hw
            refine zw_get hk hH er he hv (fk_X0_31 hc) dX0_slice_84 ?_
            refine lv_iload hx hb dX0_slice_87 (lv_at hl 5 rfl) ?_
            obtain ⟨a_64, n_65, f_66, er, he, hi, hw⟩ := zaR_e hw
            have hw := hw _ rfl
            refine zw_aald hk hH 7 er he rfl rfl hi dX0_slice_89 ?_
            generalize f_66 x_43.toNatClampNeg = r_67 at hw ⊢
            obtain ⟨a_72, ci_73, fs_74, er, he, hc, PP_75, hPP, hw⟩ := zo_e hw
            have hC : ∀ (x_70 : Int32) (hp_68 : zHp) (nx_69 : Nat), PP_75 x_70 hp_68 nx_69 → ∀ (H : Heap) (locs : List Loc), zHd g hp_68 H → H.size = nx_69 → va_S (zAd g) s.heap H locs → W p l e (zrm (d + 1) 0 0) s m ([.ref h0, va_rf r1] : List Value).toArray below meth c H locs (0 + 0) (0 + 0) (MQ below (zQi g Post) ([.ref h0, va_rf r1] : List Value).toArray s 0 0 (zAd g)) (F0 m 93 ls [.int x_70]) := by
              intro x_70 hp_68 nx_69 hw H locs hH hz hS
              have hw := hPP x_70 hp_68 nx_69 hw
              refine lv_if_ne (tgt := 103) hx hb dX0_slice_93 (by decide) (fun hc => ?_) (fun hc => ?_)
              · have hw := hw.2 hc
                exact hJ_103 x_41 r_42 x_43 x_44 hp_68 nx_69 _ _ _ hw (lv_sub hl [1, 2, 3, 4, 5, 0] rfl) hH hz hS
              · have hw := hw.1 hc
                refine lv_iload_n hx hb dX0_slice_96 rfl (lv_at hl 3 rfl) ?_
                refine lv_iconst (v := (1 : Int32)) hx hb dX0_slice_97 (by decide) ?_
                refine lv_iload hx hb dX0_slice_98 (lv_at hl 5 rfl) ?_
                refine lv_ishl hx hb dX0_slice_100 ?_
                refine lv_ior hx hb dX0_slice_101 ?_
                refine lv_topi (fun x_71 ex_71 => ?_)
                have hw := hw x_71 ex_71
                refine lv_istore_n (i := 2) (lv' := [(2, .int x_71), (5, .int x_44), (0, va_rf (some h0)), (1, va_rf r1), (3, va_rf r_42), (4, .int x_43)]) hx hb dX0_slice_102 rfl hl (by decide) (by first | rfl | simp [List.filter_cons, z_cat, z_catI, z_catJ, z_catF, z_catD]) (fun ls hl => ?_)
                exact hJ_103 x_71 r_42 x_43 x_44 hp_68 nx_69 _ _ _ hw (lv_sub hl [2, 3, 0, 4, 5, 1] rfl) hH hz hS
            simp only [List.mem_cons, List.not_mem_nil, or_false] at hc
            rcases hc with rfl | rfl | rfl | rfl | rfl | rfl
            · exact zr_calli (zw_runV (As := []) hk hH hz hS hl.1 er (hw) (cwV 0 hts (lw_V q1969 q1970 q1971 q152 q1978) rfl rfl rfl (by decide +kernel) (z_room (Nat.le_of_ble_eq_true rfl))) he rfl rfl rfl (Nat.le_of_ble_eq_true rfl) dX0_slice_90 ⟨Nat.le_of_ble_eq_true rfl, Nat.le_of_ble_eq_true rfl⟩) hS hC
            · exact zr_calli (zw_runU (As := []) hk hH hz hS hl.1 er (hw) (va_cwU 0 hts (z_U q1969 q1972 q1977 q1970 q152 q1978) rfl rfl rfl rfl (by decide +kernel) (z_room (Nat.le_of_ble_eq_true rfl))) he rfl rfl rfl (Nat.le_of_ble_eq_true rfl) dX0_slice_90 ⟨Nat.le_of_ble_eq_true rfl, Nat.le_of_ble_eq_true rfl⟩) hS hC
            · exact zr_calli (zw_runU (As := []) hk hH hz hS hl.1 er (hw) (va_cwU 0 hts (z_U q1969 q1972 q1974 q1970 q152 q1978) rfl rfl rfl rfl (by decide +kernel) (z_room (Nat.le_of_ble_eq_true rfl))) he rfl rfl rfl (Nat.le_of_ble_eq_true rfl) dX0_slice_90 ⟨Nat.le_of_ble_eq_true rfl, Nat.le_of_ble_eq_true rfl⟩) hS hC
            · exact zr_calli (zw_runU (As := []) hk hH hz hS hl.1 er (hw) (va_cwU 0 hts (z_U q1969 q1972 q1975 q1970 q152 q1978) rfl rfl rfl rfl (by decide +kernel) (z_room (Nat.le_of_ble_eq_true rfl))) he rfl rfl rfl (Nat.le_of_ble_eq_true rfl) dX0_slice_90 ⟨Nat.le_of_ble_eq_true rfl, Nat.le_of_ble_eq_true rfl⟩) hS hC
            · exact zr_calli (zw_runU (As := []) hk hH hz hS hl.1 er (hw) (va_cwU 0 hts (z_U q1969 q1972 q1976 q1970 q152 q1978) rfl rfl rfl rfl (by decide +kernel) (z_room (Nat.le_of_ble_eq_true rfl))) he rfl rfl rfl (Nat.le_of_ble_eq_true rfl) dX0_slice_90 ⟨Nat.le_of_ble_eq_true rfl, Nat.le_of_ble_eq_true rfl⟩) hS hC
            · exact zr_calli (zw_runU (As := []) hk hH hz hS hl.1 er (hw) (va_cwU 0 hts (z_U q1969 q1972 q1973 q1970 q152 q1978) rfl rfl rfl rfl (by decide +kernel) (z_room (Nat.le_of_ble_eq_true rfl))) he rfl rfl rfl (Nat.le_of_ble_eq_true rfl) dX0_slice_90 ⟨Nat.le_of_ble_eq_true rfl, Nat.le_of_ble_eq_true rfl⟩) hS hC
        obtain ⟨P_71, hP_71, hw⟩ := hw
        have hJ_71 : ∀ (x_76 : Int32) (r_77 : Option Nat) (x_78 : Int32) (hp_79 : zHp) (nx_80 : Nat) (H : Heap) (locs : List Loc) (ls : Array Slot), P_71 x_76 r_77 x_78 hp_79 nx_80 → lv_has ls 6 [(0, va_rf (some h0)), (1, va_rf r1), (2, .int x_76), (3, va_rf r_77), (4, .int x_78)] → zHd g hp_79 H → H.size = nx_80 → va_S (zAd g) s.heap H locs → W p l e (zrm (d + 1) 0 0) s m ([.ref h0, va_rf r1] : List Value).toArray below meth c H locs 0 0 (MQ below (zQi g Post) ([.ref h0, va_rf r1] : List Value).toArray s 0 0 (zAd g)) (F0 m 71 ls []) := by
          intro x_76 r_77 x_78 hp_79 nx_80 H locs ls hw hl hH hz hS
          have hw := hP_71 x_76 r_77 x_78 hp_79 nx_80 hw
          refine lv_iconst (v := (1 : Int32)) hx hb dX0_slice_71 (by decide) ?_
          refine lv_goto (tgt := 76) hx hb dX0_slice_72 (by decide) ?_
          exact hJ_76 x_76 r_77 x_78 (1 : Int32) hp_79 nx_80 _ _ _ hw hl hH hz hS
        refine lv_if_ne (tgt := 71) hx hb dX0_slice_41 (by decide) (fun hc => ?_) (fun hc => ?_)
        · have hw := hw.2 hc
          exact hJ_71 x_16 r_17 x_18 hp_38 nx_39 _ _ _ hw hl hH hz hS
        · have hw := hw.1 hc
          refine zr_aload_n (r := r1) hx hb dX0_slice_44 rfl (lv_at hl 1 rfl) ?_
          obtain ⟨a_81, ci_82, fs_83, r_84, er, he, hc, hv, hw⟩ := zgR_e hw
          refine zw_get hk hH er he hv (fk_X0_190 hc) dX0_slice_45 ?_
          obtain ⟨P_75, hP_75, hw⟩ := hw
          have hJ_75 : ∀ (x_85 : Int32) (r_86 : Option Nat) (x_87 : Int32) (hp_88 : zHp) (nx_89 : Nat) (H : Heap) (locs : List Loc) (ls : Array Slot), P_75 x_85 r_86 x_87 hp_88 nx_89 → lv_has ls 6 [(0, va_rf (some h0)), (1, va_rf r1), (2, .int x_85), (3, va_rf r_86), (4, .int x_87)] → zHd g hp_88 H → H.size = nx_89 → va_S (zAd g) s.heap H locs → W p l e (zrm (d + 1) 0 0) s m ([.ref h0, va_rf r1] : List Value).toArray below meth c H locs 0 0 (MQ below (zQi g Post) ([.ref h0, va_rf r1] : List Value).toArray s 0 0 (zAd g)) (F0 m 75 ls []) := by
            intro x_85 r_86 x_87 hp_88 nx_89 H locs ls hw hl hH hz hS
            have hw := hP_75 x_85 r_86 x_87 hp_88 nx_89 hw
            refine lv_iconst (v := (0 : Int32)) hx hb dX0_slice_75 (by decide) ?_
            exact hJ_76 x_85 r_86 x_87 (0 : Int32) hp_88 nx_89 _ _ _ hw hl hH hz hS
          refine zr_ifnull (r := r_84) (tgt := 75) hx hb dX0_slice_48 (by decide) (fun hc => ?_) (fun hc => ?_)
          · have hw := hw.1 hc
            exact hJ_75 x_16 r_17 x_18 hp_38 nx_39 _ _ _ hw hl hH hz hS
          · have hw := hw.2 hc
            refine zr_aload_n (r := some h0) hx hb dX0_slice_51 rfl (lv_at hl 0 rfl) ?_
            obtain ⟨a_90, ci_91, fs_92, r_93, er, he, hc, hv, hw⟩ := zgR_e hw
            refine zw_get hk hH er he hv (fk_X0_62 hc) dX0_slice_52 ?_
            refine lv_iload hx hb dX0_slice_55 (lv_at hl 4 rfl) ?_
            obtain ⟨a_94, n_95, f_96, er, he, hi, hw⟩ := zaR_e hw
            have hw := hw _ rfl
            refine zw_aald hk hH 10 er he rfl rfl hi dX0_slice_57 ?_
            generalize f_96 x_18.toNatClampNeg = r_97 at hw ⊢
            refine zr_aload_n (r := r1) hx hb dX0_slice_58 rfl (lv_at hl 1 rfl) ?_
            obtain ⟨a_98, ci_99, fs_100, r_101, er, he, hc, hv, hw⟩ := zgR_e hw
            refine zw_get hk hH er he hv (fk_X0_190 hc) dX0_slice_59 ?_
            obtain ⟨a_102, ci_103, fs_104, x_105, er, he, hc, hv, hw⟩ := zgI_e hw
            refine zw_get hk hH er he hv (fk_X0_175 hc) dX0_slice_62 ?_
            obtain ⟨a_109, ci_110, fs_111, er, he, hc, hw⟩ := zo_e hw
            obtain rfl := List.mem_singleton.mp hc
            refine zr_calli (zw_runV (As := [.int x_105]) hk hH hz hS hl.1 er hw (cwV 1 hts (lw_V q704 q705 q706 q133 q707) rfl rfl rfl (by decide +kernel) (z_room (Nat.le_of_ble_eq_true rfl))) he rfl rfl rfl (Nat.le_of_ble_eq_true rfl) dX0_slice_65 ⟨Nat.le_of_ble_eq_true rfl, Nat.le_of_ble_eq_true rfl⟩) hS (fun x_108 hp_106 nx_107 hw H locs hH hz hS => ?_)
            refine lv_if_eq (tgt := 75) hx hb dX0_slice_68 (by decide) (fun hc => ?_) (fun hc => ?_)
            · have hw := hw.1 hc
              exact hJ_75 x_16 r_17 x_18 hp_106 nx_107 _ _ _ hw hl hH hz hS
            · have hw := hw.2 hc
              exact hJ_71 x_16 r_17 x_18 hp_106 nx_107 _ _ _ hw hl hH hz hS
  exact hL_19 n_115 (0 : Int32) r_12 x_15 hp_13 nx_14 _ _ _ hI (lv_sub hl [3, 4, 2, 1, 0] rfl) hH hz hS
theorem fk_X0_94 {ci : Nat} (h : ci ∈ [0]) : zFk "WhatIfSheet" 94 ci 21 := by
  simp only [List.mem_cons, List.not_mem_nil, or_false] at h
  rcases h with rfl
  · exact ⟨RX0, TX0, 30, rfl, by decide, q1233⟩
theorem fk_X0_98 {ci : Nat} (h : ci ∈ [0]) : zFk "WhatIfSheet" 98 ci 22 := by
  simp only [List.mem_cons, List.not_mem_nil, or_false] at h
  rcases h with rfl
  · exact ⟨RX0, TX0, 30, rfl, by decide, q1234⟩
def wp_X0_unlike (l : Launch) (g : zG) (d : Nat) (h0 : Nat) (r1 : Option Nat) (hp : zHp) (nx : Nat) (Post : Int32 → zHp → Nat → Prop) : Prop :=
  (∃ P_29 : Int32 → zHp → Nat → Prop, (∀ (x_1 : Int32) (hp_2 : zHp) (nx_3 : Nat), P_29 x_1 hp_2 nx_3 →
  (Post x_1 hp_2 nx_3)) ∧
  ((r1 = none →
  P_29 (0 : Int32) hp nx) ∧
  (¬ r1 = none →
  (zgR hp (some h0) [0] 0 fun r_7 =>
  (zgI hp r1 [32] 0 fun x_11 =>
  (zaR (g.2.1 7) hp r_7 fun a_12 n_13 f_14 => vp_in x_11 n_13 ∧ ∀ r_15 : Option Nat, r_15 = f_14 x_11.toNatClampNeg →
  (zgR hp (some h0) [0] 21 fun r_19 =>
  (zgR hp (some h0) [0] 22 fun r_23 =>
  (zMt l g yX1_keeps cX1_keeps 7 (some .int) d 0 0 [va_rf r1, va_rf r_15, va_rf r_19, va_rf r_23] hp nx (zQi g fun x_26 hp_24 nx_25 =>
  P_29 x_26 hp_24 nx_25))))))))))
set_option maxHeartbeats 40000000 in
theorem met_X0_unlike {l : Launch} {g : zG} {d : Nat} {h0 : Nat} {r1 : Option Nat} {hp : zHp} {nx : Nat} {Post : Int32 → zHp → Nat → Prop} (hw : wp_X0_unlike l g d h0 r1 hp nx Post) : zMt l g yX0_unlike cX0_unlike 2 (some .int) (d + 1) 0 0 [.ref h0, va_rf r1] hp nx (zQi g Post) := by
  refine z_start (by decide) (by cases r1 <;> exact Nat.le_of_ble_eq_true rfl) ?_
  intro p e s m below meth c hk hr hin hH hz ls hl
  have hx := hk.1.1
  have hb := hk.1.2.1
  have hown := hk.1.2.2.2.1
  have hts := hk.1.2.2.2.2
  have hS : va_S (zAd g) s.heap s.heap [] := va_S.rf
  have hl : lv_has ls 2 [(0, va_rf (some h0)), (1, va_rf r1)] := by cases r1 <;> exact hl
  unfold wp_X0_unlike at hw
  refine zr_aload_n (r := r1) hx hb dX0_unlike_0 rfl (lv_at hl 1 rfl) ?_
  obtain ⟨P_29, hP_29, hw⟩ := hw
  have hJ_29 : ∀ (x_1 : Int32) (hp_2 : zHp) (nx_3 : Nat) (H : Heap) (locs : List Loc) (ls : Array Slot), P_29 x_1 hp_2 nx_3 → lv_has ls 2 [(0, va_rf (some h0)), (1, va_rf r1)] → zHd g hp_2 H → H.size = nx_3 → va_S (zAd g) s.heap H locs → W p l e (zrm (d + 1) 0 0) s m ([.ref h0, va_rf r1] : List Value).toArray below meth c H locs 0 0 (MQ below (zQi g Post) ([.ref h0, va_rf r1] : List Value).toArray s 0 0 (zAd g)) (F0 m 29 ls [.int x_1]) := by
    intro x_1 hp_2 nx_3 H locs ls hw hl hH hz hS
    have hw := hP_29 x_1 hp_2 nx_3 hw
    exact zr_iret hk hr hH hz hS hw (Nat.le_of_ble_eq_true rfl) (Nat.le_of_ble_eq_true rfl) dX0_unlike_29
  refine zr_ifnonnull (r := r1) (tgt := 8) hx hb dX0_unlike_1 (by decide) (fun hc => ?_) (fun hc => ?_)
  · have hw := hw.2 hc
    refine zr_aload_n (r := r1) hx hb dX0_unlike_8 rfl (lv_at hl 1 rfl) ?_
    refine zr_aload_n (r := some h0) hx hb dX0_unlike_9 rfl (lv_at hl 0 rfl) ?_
    obtain ⟨a_4, ci_5, fs_6, r_7, er, he, hc, hv, hw⟩ := zgR_e hw
    refine zw_get hk hH er he hv (fk_X0_31 hc) dX0_unlike_10 ?_
    refine zr_aload_n (r := r1) hx hb dX0_unlike_13 rfl (lv_at hl 1 rfl) ?_
    obtain ⟨a_8, ci_9, fs_10, x_11, er, he, hc, hv, hw⟩ := zgI_e hw
    refine zw_get hk hH er he hv (fk_X0_175 hc) dX0_unlike_14 ?_
    obtain ⟨a_12, n_13, f_14, er, he, hi, hw⟩ := zaR_e hw
    have hw := hw _ rfl
    refine zw_aald hk hH 7 er he rfl rfl hi dX0_unlike_17 ?_
    generalize f_14 x_11.toNatClampNeg = r_15 at hw ⊢
    refine zr_aload_n (r := some h0) hx hb dX0_unlike_18 rfl (lv_at hl 0 rfl) ?_
    obtain ⟨a_16, ci_17, fs_18, r_19, er, he, hc, hv, hw⟩ := zgR_e hw
    refine zw_get hk hH er he hv (fk_X0_94 hc) dX0_unlike_19 ?_
    refine zr_aload_n (r := some h0) hx hb dX0_unlike_22 rfl (lv_at hl 0 rfl) ?_
    obtain ⟨a_20, ci_21, fs_22, r_23, er, he, hc, hv, hw⟩ := zgR_e hw
    refine zw_get hk hH er he hv (fk_X0_98 hc) dX0_unlike_23 ?_
    refine zr_calli (zr_runS (As := [va_rf r1, va_rf r_15, va_rf r_19, va_rf r_23]) hk hH hz hS hl.1 hw (va_cwS 4 hts (lw_S q2166 q2167 q132 q2168) rfl rfl rfl (by decide +kernel) (z_room (Nat.le_of_ble_eq_true rfl))) rfl rfl (Nat.le_of_ble_eq_true rfl) dX0_unlike_26 ⟨Nat.le_of_ble_eq_true rfl, Nat.le_of_ble_eq_true rfl⟩) hS (fun x_26 hp_24 nx_25 hw H locs hH hz hS => ?_)
    exact hJ_29 x_26 hp_24 nx_25 _ _ _ hw hl hH hz hS
  · have hw := hw.1 hc
    refine lv_iconst (v := (0 : Int32)) hx hb dX0_unlike_4 (by decide) ?_
    refine lv_goto (tgt := 29) hx hb dX0_unlike_5 (by decide) ?_
    exact hJ_29 (0 : Int32) hp nx _ _ _ hw hl hH hz hS
theorem no_X0_534 : zNo "WhatIfSheet" 534 33 := ⟨RX33, TX33, 11, rfl, q2486, q2487, q198⟩
theorem fk_X0_548 {ci : Nat} (h : ci ∈ [33]) : zFk "WhatIfSheet" 548 ci 8 := by
  simp only [List.mem_cons, List.not_mem_nil, or_false] at h
  rcases h with rfl
  · exact ⟨RX33, TX33, 11, rfl, by decide, q2503⟩
theorem fk_X0_545 {ci : Nat} (h : ci ∈ [33]) : zFk "WhatIfSheet" 545 ci 7 := by
  simp only [List.mem_cons, List.not_mem_nil, or_false] at h
  rcases h with rfl
  · exact ⟨RX33, TX33, 11, rfl, by decide, q2501⟩
theorem fk_X0_542 {ci : Nat} (h : ci ∈ [33]) : zFk "WhatIfSheet" 542 ci 9 := by
  simp only [List.mem_cons, List.not_mem_nil, or_false] at h
  rcases h with rfl
  · exact ⟨RX33, TX33, 11, rfl, by decide, q2505⟩
def wp_X0_seek (l : Launch) (g : zG) (d : Nat) (mc ms : Nat) (h0 : Nat) (x1 : Int32) (x2 : Int32) (x3 : Int32) (x4 : Int32) (x5 : Int32) (x6 : Int32) (hp : zHp) (nx : Nat) (Post : Int64 → zHp → Nat → Prop) : Prop :=
  (0 ≤ mc ∧ 0 ≤ ms ∧ zMt l g yX0_isCell cX0_isCell 1 (some .boolean) d 0 0 [.int x1] hp nx (zQi g fun x_3 hp_1 nx_2 =>
  (∃ P_72 : zHp → Nat → Nat → Nat → Prop, (∀ (hp_4 : zHp) (nx_5 : Nat) (kc_6 : Nat) (ks_7 : Nat), P_72 hp_4 nx_5 kc_6 ks_7 →
  (kc_6 ≤ mc ∧ ks_7 ≤ ms ∧ Post (-2 : Int64) hp_4 nx_5)) ∧
  ((x_3 = 0 →
  P_72 hp_1 nx_2 0 0) ∧
  (¬ x_3 = 0 →
  (0 ≤ mc ∧ 0 ≤ ms ∧ zMt l g yX0_isCell cX0_isCell 1 (some .boolean) d 0 0 [.int x2] hp_1 nx_2 (zQi g fun x_10 hp_8 nx_9 =>
  ((x_10 = 0 →
  P_72 hp_8 nx_9 0 0) ∧
  (¬ x_10 = 0 →
  (0 ≤ mc ∧ 0 ≤ ms ∧ zMt l g yX0_in cX0_in 6 (some .boolean) d 0 0 [.long x3.toInt64, .long (-80000 : Int64), .long (80000 : Int64)] hp_8 nx_9 (zQi g fun x_13 hp_11 nx_12 =>
  ((x_13 = 0 →
  P_72 hp_11 nx_12 0 0) ∧
  (¬ x_13 = 0 →
  (0 ≤ mc ∧ 0 ≤ ms ∧ zMt l g yX0_in cX0_in 6 (some .boolean) d 0 0 [.long x4.toInt64, .long (x3.toInt64 + (1 : Int64)), .long (80000 : Int64)] hp_11 nx_12 (zQi g fun x_16 hp_14 nx_15 =>
  ((x_16 = 0 →
  P_72 hp_14 nx_15 0 0) ∧
  (¬ x_16 = 0 →
  (0 ≤ mc ∧ 0 ≤ ms ∧ zMt l g yX0_in cX0_in 6 (some .boolean) d 0 0 [.long x5.toInt64, .long (-80000 : Int64), .long (80000 : Int64)] hp_14 nx_15 (zQi g fun x_19 hp_17 nx_18 =>
  ((x_19 = 0 →
  P_72 hp_17 nx_18 0 0) ∧
  (¬ x_19 = 0 →
  (0 ≤ mc ∧ 0 ≤ ms ∧ zMt l g yX0_in cX0_in 6 (some .boolean) d 0 0 [.long x6.toInt64, .long (0 : Int64), .long (2 : Int64)] hp_17 nx_18 (zQi g fun x_22 hp_20 nx_21 =>
  ((x_22 = 0 →
  P_72 hp_20 nx_21 0 0) ∧
  (¬ x_22 = 0 →
  (zgR hp_20 (some h0) [0] 0 fun r_26 =>
  (zaR (g.2.1 7) hp_20 r_26 fun a_27 n_28 f_29 => vp_in x1 n_28 ∧ ∀ r_30 : Option Nat, r_30 = f_29 x1.toNatClampNeg →
  (0 ≤ mc ∧ 0 ≤ ms ∧ zo hp_20 r_30 [2, 6, 7, 8, 9, 10] fun a_84 ci_85 fs_86 => ∃ PP_87 : Int32 → zHp → Nat → Prop, (∀ (x_33 : Int32) (hp_31 : zHp) (nx_32 : Nat), PP_87 x_33 hp_31 nx_32 →
  ((x_33 = 0 →
  (0 ≤ mc ∧ 0 ≤ ms ∧ Post (-3 : Int64) hp_31 nx_32)) ∧
  (¬ x_33 = 0 →
  (znw g mc ms hp_31 nx_32 0 0 33 fun hp_34 =>
  ∀ nx_35 kc_36 ks_37 : Nat, nx_35 = (nx_32 + 1) → kc_36 = (0 + 1) → ks_37 = (0 + zNn 33) →
  (zgR hp_34 (some h0) [0] 0 fun r_41 =>
  (zaR (g.2.1 7) hp_34 r_41 fun a_42 n_43 f_44 => vp_in x1 n_43 ∧ ∀ r_45 : Option Nat, r_45 = f_44 x1.toNatClampNeg →
  (vf_n64 (FP.ddiv (FP.i2d x3) (4620693217682128896 : UInt64)) ∧ (vf_n64 (FP.ddiv (FP.i2d x4) (4620693217682128896 : UInt64)) ∧ (vf_n64 (FP.ddiv (FP.i2d x5) (4620693217682128896 : UInt64)) ∧ (kc_36 ≤ mc ∧ ks_37 ≤ ms ∧ zMt l g yX33_init cX33_init 10 none d 0 0 (.ref nx_32 :: [va_rf (some h0), va_rf r_45, .int x2, .double (FP.ddiv (FP.i2d x3) (4620693217682128896 : UInt64)), .double (FP.ddiv (FP.i2d x4) (4620693217682128896 : UInt64)), .double (FP.ddiv (FP.i2d x5) (4620693217682128896 : UInt64))]) hp_34 nx_35 (zQv g fun hp_46 nx_47 =>
  (kc_36 ≤ mc ∧ ks_37 ≤ ms ∧ zo hp_46 (some nx_32) [33] fun a_78 ci_79 fs_80 => zMtW l g yX33_seeks cX33_seeks 4 none [(8, 30, 176, 0), (39, 61, 176, 0), (70, 165, 176, 0)] d 0 0 (.ref a_78 :: []) hp_46 nx_47 (zQv g fun hp_48 nx_49 =>
  ((x6 = (2 : Int32) →
  (zgI hp_48 (some nx_32) [33] 9 fun x_77 =>
  (kc_36 ≤ mc ∧ ks_37 ≤ ms ∧ Post x_77.toInt64 hp_48 nx_49))) ∧
  (¬ x6 = (2 : Int32) →
  (∃ P_165 : (Option Nat) → UInt64 → zHp → Nat → Nat → Nat → Prop, (∀ (r_50 : Option Nat) (x_51 : UInt64) (hp_52 : zHp) (nx_53 : Nat) (kc_54 : Nat) (ks_55 : Nat), P_165 r_50 x_51 hp_52 nx_53 kc_54 ks_55 →
  (∃ P_186 : (Option Nat) → UInt64 → Int64 → zHp → Nat → Nat → Nat → Prop, (∀ (r_56 : Option Nat) (x_57 : UInt64) (x_58 : Int64) (hp_59 : zHp) (nx_60 : Nat) (kc_61 : Nat) (ks_62 : Nat), P_186 r_56 x_57 x_58 hp_59 nx_60 kc_61 ks_62 →
  (kc_61 ≤ mc ∧ ks_62 ≤ ms ∧ Post x_58 hp_59 nx_60)) ∧
  (((Op.cmpValue (FP.dcmp x_51 x_51) .l) = 0 →
  (kc_54 ≤ mc ∧ ks_55 ≤ ms ∧ zMt l g yJ23_doubleToLongBits cJ23_doubleToLongBits 2 (some .long) d 0 0 [.double x_51] hp_52 nx_53 (zQl g fun x_65 hp_63 nx_64 =>
  P_186 r_50 x_51 x_65 hp_63 nx_64 kc_54 ks_55))) ∧
  (¬ (Op.cmpValue (FP.dcmp x_51 x_51) .l) = 0 →
  P_186 r_50 x_51 (-1 : Int64) hp_52 nx_53 kc_54 ks_55)))) ∧
  ((x6 = 0 →
  (zgD hp_48 (some nx_32) [33] 7 fun x_73 =>
  P_165 (some nx_32) x_73 hp_48 nx_49 kc_36 ks_37)) ∧
  (¬ x6 = 0 →
  (zgD hp_48 (some nx_32) [33] 8 fun x_69 =>
  P_165 (some nx_32) x_69 hp_48 nx_49 kc_36 ks_37))))))))))))))))))) ∧ zMt l g yX2_isInput cX2_isInput 1 (some .boolean) d 0 0 (.ref a_84 :: []) hp_20 nx_21 (zQi g PP_87)))))))))))))))))))))))))))))
set_option maxHeartbeats 40000000 in
theorem met_X0_seek {l : Launch} {g : zG} {d : Nat} {mc ms : Nat} {h0 : Nat} {x1 : Int32} {x2 : Int32} {x3 : Int32} {x4 : Int32} {x5 : Int32} {x6 : Int32} {hp : zHp} {nx : Nat} {Post : Int64 → zHp → Nat → Prop} (hw : wp_X0_seek l g d mc ms h0 x1 x2 x3 x4 x5 x6 hp nx Post) : zMt l g yX0_seek cX0_seek 10 (some .long) (d + 1) mc ms [.ref h0, .int x1, .int x2, .int x3, .int x4, .int x5, .int x6] hp nx (zQl g Post) := by
  refine z_start (by decide) (Nat.le_of_ble_eq_true rfl) ?_
  intro p e s m below meth c hk hr hin hH hz ls hl
  have hx := hk.1.1
  have hb := hk.1.2.1
  have hown := hk.1.2.2.2.1
  have hts := hk.1.2.2.2.2
  have hS : va_S (zAd g) s.heap s.heap [] := va_S.rf
  have hl : lv_has ls 10 [(0, va_rf (some h0)), (1, .int x1), (2, .int x2), (3, .int x3), (4, .int x4), (5, .int x5), (6, .int x6)] := hl
  unfold wp_X0_seek at hw
  refine lv_iload_n hx hb dX0_seek_0 rfl (lv_at hl 1 rfl) ?_
  obtain ⟨hcl, hsl, hw⟩ := hw
  refine zr_calli (zr_runS (As := [.int x1]) hk hH hz hS hl.1 hw (va_cwS 1 hts (lw_S q1317 q1318 q131 q1319) rfl rfl rfl (by decide +kernel) (z_room (Nat.le_of_ble_eq_true rfl))) rfl rfl (Nat.le_of_ble_eq_true rfl) dX0_seek_1 ⟨hcl, hsl⟩) hS (fun x_3 hp_1 nx_2 hw H locs hH hz hS => ?_)
  obtain ⟨P_72, hP_72, hw⟩ := hw
  have hJ_72 : ∀ (hp_4 : zHp) (nx_5 : Nat) (kc_6 : Nat) (ks_7 : Nat) (H : Heap) (locs : List Loc) (ls : Array Slot), P_72 hp_4 nx_5 kc_6 ks_7 → lv_has ls 10 [(0, va_rf (some h0)), (1, .int x1), (2, .int x2), (3, .int x3), (4, .int x4), (5, .int x5), (6, .int x6)] → zHd g hp_4 H → H.size = nx_5 → va_S (zAd g) s.heap H locs → W p l e (zrm (d + 1) mc ms) s m ([.ref h0, .int x1, .int x2, .int x3, .int x4, .int x5, .int x6] : List Value).toArray below meth c H locs kc_6 ks_7 (MQ below (zQl g Post) ([.ref h0, .int x1, .int x2, .int x3, .int x4, .int x5, .int x6] : List Value).toArray s mc ms (zAd g)) (F0 m 72 ls []) := by
    intro hp_4 nx_5 kc_6 ks_7 H locs ls hw hl hH hz hS
    have hw := hP_72 hp_4 nx_5 kc_6 ks_7 hw
    refine lv_ldc2 hx hb hown (hts _ q2310) dX0_seek_72 ?_
    obtain ⟨hkc, hks, hw⟩ := hw
    exact zr_lret hk hr hH hz hS hw hkc hks dX0_seek_75
  refine lv_if_eq (tgt := 72) hx hb dX0_seek_4 (by decide) (fun hc => ?_) (fun hc => ?_)
  · have hw := hw.1 hc
    exact hJ_72 hp_1 nx_2 0 0 _ _ _ hw hl hH hz hS
  · have hw := hw.2 hc
    refine lv_iload_n hx hb dX0_seek_7 rfl (lv_at hl 2 rfl) ?_
    obtain ⟨hcl, hsl, hw⟩ := hw
    refine zr_calli (zr_runS (As := [.int x2]) hk hH hz hS hl.1 hw (va_cwS 1 hts (lw_S q1317 q1318 q131 q1319) rfl rfl rfl (by decide +kernel) (z_room (Nat.le_of_ble_eq_true rfl))) rfl rfl (Nat.le_of_ble_eq_true rfl) dX0_seek_8 ⟨hcl, hsl⟩) hS (fun x_10 hp_8 nx_9 hw H locs hH hz hS => ?_)
    refine lv_if_eq (tgt := 72) hx hb dX0_seek_11 (by decide) (fun hc => ?_) (fun hc => ?_)
    · have hw := hw.1 hc
      exact hJ_72 hp_8 nx_9 0 0 _ _ _ hw hl hH hz hS
    · have hw := hw.2 hc
      refine lv_iload_n hx hb dX0_seek_14 rfl (lv_at hl 3 rfl) ?_
      refine lv_i2l hx hb dX0_seek_15 rfl ?_
      refine lv_ldc2 hx hb hown (hts _ q2392) dX0_seek_16 ?_
      refine lv_ldc2 hx hb hown (hts _ q2393) dX0_seek_19 ?_
      obtain ⟨hcl, hsl, hw⟩ := hw
      refine zr_calli (zr_runS (As := [.long x3.toInt64, .long (-80000 : Int64), .long (80000 : Int64)]) hk hH hz hS hl.1 hw (va_cwS 3 hts (lw_S q1308 q1309 q131 q1310) rfl rfl rfl (by decide +kernel) (z_room (Nat.le_of_ble_eq_true rfl))) rfl rfl (Nat.le_of_ble_eq_true rfl) dX0_seek_22 ⟨hcl, hsl⟩) hS (fun x_13 hp_11 nx_12 hw H locs hH hz hS => ?_)
      refine lv_if_eq (tgt := 72) hx hb dX0_seek_25 (by decide) (fun hc => ?_) (fun hc => ?_)
      · have hw := hw.1 hc
        exact hJ_72 hp_11 nx_12 0 0 _ _ _ hw hl hH hz hS
      · have hw := hw.2 hc
        refine lv_iload hx hb dX0_seek_28 (lv_at hl 4 rfl) ?_
        refine lv_i2l hx hb dX0_seek_30 rfl ?_
        refine lv_iload_n hx hb dX0_seek_31 rfl (lv_at hl 3 rfl) ?_
        refine lv_i2l hx hb dX0_seek_32 rfl ?_
        refine lv_lconst (v := (1 : Int64)) hx hb dX0_seek_33 (by decide) ?_
        refine lv_ladd hx hb dX0_seek_34 ?_
        refine lv_ldc2 hx hb hown (hts _ q2393) dX0_seek_35 ?_
        obtain ⟨hcl, hsl, hw⟩ := hw
        refine zr_calli (zr_runS (As := [.long x4.toInt64, .long (x3.toInt64 + (1 : Int64)), .long (80000 : Int64)]) hk hH hz hS hl.1 hw (va_cwS 3 hts (lw_S q1308 q1309 q131 q1310) rfl rfl rfl (by decide +kernel) (z_room (Nat.le_of_ble_eq_true rfl))) rfl rfl (Nat.le_of_ble_eq_true rfl) dX0_seek_38 ⟨hcl, hsl⟩) hS (fun x_16 hp_14 nx_15 hw H locs hH hz hS => ?_)
        refine lv_if_eq (tgt := 72) hx hb dX0_seek_41 (by decide) (fun hc => ?_) (fun hc => ?_)
        · have hw := hw.1 hc
          exact hJ_72 hp_14 nx_15 0 0 _ _ _ hw hl hH hz hS
        · have hw := hw.2 hc
          refine lv_iload hx hb dX0_seek_44 (lv_at hl 5 rfl) ?_
          refine lv_i2l hx hb dX0_seek_46 rfl ?_
          refine lv_ldc2 hx hb hown (hts _ q2392) dX0_seek_47 ?_
          refine lv_ldc2 hx hb hown (hts _ q2393) dX0_seek_50 ?_
          obtain ⟨hcl, hsl, hw⟩ := hw
          refine zr_calli (zr_runS (As := [.long x5.toInt64, .long (-80000 : Int64), .long (80000 : Int64)]) hk hH hz hS hl.1 hw (va_cwS 3 hts (lw_S q1308 q1309 q131 q1310) rfl rfl rfl (by decide +kernel) (z_room (Nat.le_of_ble_eq_true rfl))) rfl rfl (Nat.le_of_ble_eq_true rfl) dX0_seek_53 ⟨hcl, hsl⟩) hS (fun x_19 hp_17 nx_18 hw H locs hH hz hS => ?_)
          refine lv_if_eq (tgt := 72) hx hb dX0_seek_56 (by decide) (fun hc => ?_) (fun hc => ?_)
          · have hw := hw.1 hc
            exact hJ_72 hp_17 nx_18 0 0 _ _ _ hw hl hH hz hS
          · have hw := hw.2 hc
            refine lv_iload hx hb dX0_seek_59 (lv_at hl 6 rfl) ?_
            refine lv_i2l hx hb dX0_seek_61 rfl ?_
            refine lv_lconst (v := (0 : Int64)) hx hb dX0_seek_62 (by decide) ?_
            refine lv_ldc2 hx hb hown (hts _ q2485) dX0_seek_63 ?_
            obtain ⟨hcl, hsl, hw⟩ := hw
            refine zr_calli (zr_runS (As := [.long x6.toInt64, .long (0 : Int64), .long (2 : Int64)]) hk hH hz hS hl.1 hw (va_cwS 3 hts (lw_S q1308 q1309 q131 q1310) rfl rfl rfl (by decide +kernel) (z_room (Nat.le_of_ble_eq_true rfl))) rfl rfl (Nat.le_of_ble_eq_true rfl) dX0_seek_66 ⟨hcl, hsl⟩) hS (fun x_22 hp_20 nx_21 hw H locs hH hz hS => ?_)
            refine lv_if_ne (tgt := 76) hx hb dX0_seek_69 (by decide) (fun hc => ?_) (fun hc => ?_)
            · have hw := hw.2 hc
              refine zr_aload_n (r := some h0) hx hb dX0_seek_76 rfl (lv_at hl 0 rfl) ?_
              obtain ⟨a_23, ci_24, fs_25, r_26, er, he, hc, hv, hw⟩ := zgR_e hw
              refine zw_get hk hH er he hv (fk_X0_31 hc) dX0_seek_77 ?_
              refine lv_iload_n hx hb dX0_seek_80 rfl (lv_at hl 1 rfl) ?_
              obtain ⟨a_27, n_28, f_29, er, he, hi, hw⟩ := zaR_e hw
              have hw := hw _ rfl
              refine zw_aald hk hH 7 er he rfl rfl hi dX0_seek_81 ?_
              generalize f_29 x1.toNatClampNeg = r_30 at hw ⊢
              obtain ⟨hcl, hsl, hw⟩ := hw
              obtain ⟨a_84, ci_85, fs_86, er, he, hc, PP_87, hPP, hw⟩ := zo_e hw
              have hC : ∀ (x_33 : Int32) (hp_31 : zHp) (nx_32 : Nat), PP_87 x_33 hp_31 nx_32 → ∀ (H : Heap) (locs : List Loc), zHd g hp_31 H → H.size = nx_32 → va_S (zAd g) s.heap H locs → W p l e (zrm (d + 1) mc ms) s m ([.ref h0, .int x1, .int x2, .int x3, .int x4, .int x5, .int x6] : List Value).toArray below meth c H locs (0 + 0) (0 + 0) (MQ below (zQl g Post) ([.ref h0, .int x1, .int x2, .int x3, .int x4, .int x5, .int x6] : List Value).toArray s mc ms (zAd g)) (F0 m 85 ls [.int x_33]) := by
                intro x_33 hp_31 nx_32 hw H locs hH hz hS
                have hw := hPP x_33 hp_31 nx_32 hw
                refine lv_if_ne (tgt := 92) hx hb dX0_seek_85 (by decide) (fun hc => ?_) (fun hc => ?_)
                · have hw := hw.2 hc
                  obtain ⟨hcl, hsl, hw⟩ := hw
                  refine zx_new hk hH hz hS (ci := 33) no_X0_534 hcl hsl dX0_seek_92 (fun H hH hz hS hlt hnb => ?_)
                  have hw := hw hlt hnb
                  generalize va_up hp_31 nx_32 _ = hp_34 at hH hw
                  obtain ⟨kc_36, ekc⟩ : ∃ k, k = (0 + 1) := ⟨_, rfl⟩
                  obtain ⟨ks_37, eks⟩ : ∃ k, k = (0 + zNn 33) := ⟨_, rfl⟩
                  have hw := hw _ _ _ rfl ekc eks
                  refine W.widen (Nat.le_of_eq ekc.symm) (Nat.le_of_eq eks.symm) ?_
                  clear ekc eks
                  generalize (nx_32 + 1) = nx_35 at hz hw
                  refine lv_dup hx hb dX0_seek_95 (z_cat _) ?_
                  refine zr_aload_n (r := some h0) hx hb dX0_seek_96 rfl (lv_at hl 0 rfl) ?_
                  refine zr_aload_n (r := some h0) hx hb dX0_seek_97 rfl (lv_at hl 0 rfl) ?_
                  obtain ⟨a_38, ci_39, fs_40, r_41, er, he, hc, hv, hw⟩ := zgR_e hw
                  refine zw_get hk hH er he hv (fk_X0_31 hc) dX0_seek_98 ?_
                  refine lv_iload_n hx hb dX0_seek_101 rfl (lv_at hl 1 rfl) ?_
                  obtain ⟨a_42, n_43, f_44, er, he, hi, hw⟩ := zaR_e hw
                  have hw := hw _ rfl
                  refine zw_aald hk hH 7 er he rfl rfl hi dX0_seek_102 ?_
                  generalize f_44 x1.toNatClampNeg = r_45 at hw ⊢
                  refine lv_iload_n hx hb dX0_seek_103 rfl (lv_at hl 2 rfl) ?_
                  refine lv_iload_n hx hb dX0_seek_104 rfl (lv_at hl 3 rfl) ?_
                  refine lv_i2d hx hb dX0_seek_105 ?_
                  refine lv_ldc2d hx hb hown (hts _ q1979) dX0_seek_106 ?_
                  obtain ⟨hne, hw⟩ := hw
                  refine lv_ddiv hx hb dX0_seek_109 hne ?_
                  refine lv_iload hx hb dX0_seek_110 (lv_at hl 4 rfl) ?_
                  refine lv_i2d hx hb dX0_seek_112 ?_
                  refine lv_ldc2d hx hb hown (hts _ q1979) dX0_seek_113 ?_
                  obtain ⟨hne, hw⟩ := hw
                  refine lv_ddiv hx hb dX0_seek_116 hne ?_
                  refine lv_iload hx hb dX0_seek_117 (lv_at hl 5 rfl) ?_
                  refine lv_i2d hx hb dX0_seek_119 ?_
                  refine lv_ldc2d hx hb hown (hts _ q1979) dX0_seek_120 ?_
                  obtain ⟨hne, hw⟩ := hw
                  refine lv_ddiv hx hb dX0_seek_123 hne ?_
                  obtain ⟨hcl, hsl, hw⟩ := hw
                  refine zr_callv (zw_runI (As := [va_rf (some h0), va_rf r_45, .int x2, .double (FP.ddiv (FP.i2d x3) (4620693217682128896 : UInt64)), .double (FP.ddiv (FP.i2d x4) (4620693217682128896 : UInt64)), .double (FP.ddiv (FP.i2d x5) (4620693217682128896 : UInt64))]) (r := some nx_32) hk hH hz hS hl.1 rfl hw (cwI 6 hts (lw_meth q2490) rfl rfl rfl (hts _ q198) (hts _ q2488) (hts _ q2489) rfl (by decide +kernel) (z_room (Nat.le_of_ble_eq_true rfl))) rfl rfl (by simp only [List.map_cons, List.map_nil, z_cat]; exact Nat.le_of_ble_eq_true rfl) dX0_seek_124 ⟨hcl, hsl⟩) hS (fun hp_46 nx_47 hw H locs hH hz hS => ?_)
                  refine zr_astore (r := some nx_32) (lv' := [(7, va_rf (some nx_32)), (0, va_rf (some h0)), (1, .int x1), (2, .int x2), (3, .int x3), (4, .int x4), (5, .int x5), (6, .int x6)]) hx hb dX0_seek_127 hl (by decide) (by first | rfl | simp [List.filter_cons, z_cat, z_catI, z_catJ, z_catF, z_catD]) (fun ls hl => ?_)
                  refine zr_aload (r := some nx_32) hx hb dX0_seek_129 (lv_at hl 0 rfl) ?_
                  obtain ⟨hcl, hsl, hw⟩ := hw
                  obtain ⟨a_78, ci_79, fs_80, er, he, hc, hw⟩ := zo_e hw
                  obtain rfl := List.mem_singleton.mp hc
                  refine zr_callv (zw_runVW (As := []) hk hH hz hS hl.1 er hw (vx_cwVW 0 hts (lw_VW q2530 q2531 q2532 q198 q2533) rfl rfl rfl (by decide +kernel) (z_room (Nat.le_of_ble_eq_true rfl))) he rfl rfl rfl (Nat.le_of_ble_eq_true rfl) dX0_seek_131 ⟨hcl, hsl⟩) hS (fun hp_48 nx_49 hw H locs hH hz hS => ?_)
                  refine lv_iload hx hb dX0_seek_134 (lv_at hl 7 rfl) ?_
                  refine lv_iconst (v := (2 : Int32)) hx hb dX0_seek_136 (by decide) ?_
                  refine lv_icmp_ne (tgt := 147) hx hb dX0_seek_137 (by decide) (fun hc => ?_) (fun hc => ?_)
                  · have hw := hw.2 hc
                    refine lv_iload hx hb dX0_seek_147 (lv_at hl 7 rfl) ?_
                    obtain ⟨P_165, hP_165, hw⟩ := hw
                    have hJ_165 : ∀ (r_50 : Option Nat) (x_51 : UInt64) (hp_52 : zHp) (nx_53 : Nat) (kc_54 : Nat) (ks_55 : Nat) (H : Heap) (locs : List Loc) (ls : Array Slot), P_165 r_50 x_51 hp_52 nx_53 kc_54 ks_55 → lv_has ls 10 [(0, va_rf (some h0)), (1, .int x1), (2, .int x2), (3, .int x3), (4, .int x4), (5, .int x5), (6, .int x6), (7, va_rf r_50)] → zHd g hp_52 H → H.size = nx_53 → va_S (zAd g) s.heap H locs → W p l e (zrm (d + 1) mc ms) s m ([.ref h0, .int x1, .int x2, .int x3, .int x4, .int x5, .int x6] : List Value).toArray below meth c H locs kc_54 ks_55 (MQ below (zQl g Post) ([.ref h0, .int x1, .int x2, .int x3, .int x4, .int x5, .int x6] : List Value).toArray s mc ms (zAd g)) (F0 m 165 ls [.double x_51]) := by
                      intro r_50 x_51 hp_52 nx_53 kc_54 ks_55 H locs ls hw hl hH hz hS
                      have hw := hP_165 r_50 x_51 hp_52 nx_53 kc_54 ks_55 hw
                      refine lv_dstore (lv' := [(8, .double x_51), (0, va_rf (some h0)), (1, .int x1), (2, .int x2), (3, .int x3), (4, .int x4), (5, .int x5), (6, .int x6), (7, va_rf r_50)]) hx hb dX0_seek_165 hl (by decide) (by first | rfl | simp [List.filter_cons, z_cat, z_catI, z_catJ, z_catF, z_catD]) (fun ls hl => ?_)
                      refine lv_dload hx hb dX0_seek_167 (lv_at hl 0 rfl) ?_
                      refine lv_dload hx hb dX0_seek_169 (lv_at hl 0 rfl) ?_
                      refine lv_dcmp hx hb dX0_seek_171 ?_
                      obtain ⟨P_186, hP_186, hw⟩ := hw
                      have hJ_186 : ∀ (r_56 : Option Nat) (x_57 : UInt64) (x_58 : Int64) (hp_59 : zHp) (nx_60 : Nat) (kc_61 : Nat) (ks_62 : Nat) (H : Heap) (locs : List Loc) (ls : Array Slot), P_186 r_56 x_57 x_58 hp_59 nx_60 kc_61 ks_62 → lv_has ls 10 [(0, va_rf (some h0)), (1, .int x1), (2, .int x2), (3, .int x3), (4, .int x4), (5, .int x5), (6, .int x6), (7, va_rf r_56), (8, .double x_57)] → zHd g hp_59 H → H.size = nx_60 → va_S (zAd g) s.heap H locs → W p l e (zrm (d + 1) mc ms) s m ([.ref h0, .int x1, .int x2, .int x3, .int x4, .int x5, .int x6] : List Value).toArray below meth c H locs kc_61 ks_62 (MQ below (zQl g Post) ([.ref h0, .int x1, .int x2, .int x3, .int x4, .int x5, .int x6] : List Value).toArray s mc ms (zAd g)) (F0 m 186 ls [.long x_58]) := by
                        intro r_56 x_57 x_58 hp_59 nx_60 kc_61 ks_62 H locs ls hw hl hH hz hS
                        have hw := hP_186 r_56 x_57 x_58 hp_59 nx_60 kc_61 ks_62 hw
                        obtain ⟨hkc, hks, hw⟩ := hw
                        exact zr_lret hk hr hH hz hS hw hkc hks dX0_seek_186
                      refine lv_if_eq (tgt := 181) hx hb dX0_seek_172 (by decide) (fun hc => ?_) (fun hc => ?_)
                      · have hw := hw.1 hc
                        refine lv_dload hx hb dX0_seek_181 (lv_at hl 0 rfl) ?_
                        obtain ⟨hcl, hsl, hw⟩ := hw
                        refine zr_calll (zr_runS (As := [.double x_51]) hk hH hz hS hl.1 hw (va_cwS 1 hts (lw_S q2300 q2301 q168 q2302) rfl rfl rfl (by decide +kernel) (z_room (Nat.le_of_ble_eq_true rfl))) rfl rfl (Nat.le_of_ble_eq_true rfl) dX0_seek_183 ⟨hcl, hsl⟩) hS (fun x_65 hp_63 nx_64 hw H locs hH hz hS => ?_)
                        exact hJ_186 r_50 x_51 x_65 hp_63 nx_64 kc_54 ks_55 _ _ _ hw (lv_sub hl [1, 2, 3, 4, 5, 6, 7, 8, 0] rfl) hH hz hS
                      · have hw := hw.2 hc
                        refine lv_ldc2 hx hb hown (hts _ q2557) dX0_seek_175 ?_
                        refine lv_goto (tgt := 186) hx hb dX0_seek_178 (by decide) ?_
                        exact hJ_186 r_50 x_51 (-1 : Int64) hp_52 nx_53 kc_54 ks_55 _ _ _ hw (lv_sub hl [1, 2, 3, 4, 5, 6, 7, 8, 0] rfl) hH hz hS
                    refine lv_if_ne (tgt := 160) hx hb dX0_seek_149 (by decide) (fun hc => ?_) (fun hc => ?_)
                    · have hw := hw.2 hc
                      refine zr_aload (r := some nx_32) hx hb dX0_seek_160 (lv_at hl 0 rfl) ?_
                      obtain ⟨a_66, ci_67, fs_68, x_69, er, he, hc, hv, hw⟩ := zgD_e hw
                      refine zw_get hk hH er he hv (fk_X0_548 hc) dX0_seek_162 ?_
                      exact hJ_165 (some nx_32) x_69 hp_48 nx_49 kc_36 ks_37 _ _ _ hw (lv_sub hl [1, 2, 3, 4, 5, 6, 7, 0] rfl) hH hz hS
                    · have hw := hw.1 hc
                      refine zr_aload (r := some nx_32) hx hb dX0_seek_152 (lv_at hl 0 rfl) ?_
                      obtain ⟨a_70, ci_71, fs_72, x_73, er, he, hc, hv, hw⟩ := zgD_e hw
                      refine zw_get hk hH er he hv (fk_X0_545 hc) dX0_seek_154 ?_
                      refine lv_goto (tgt := 165) hx hb dX0_seek_157 (by decide) ?_
                      exact hJ_165 (some nx_32) x_73 hp_48 nx_49 kc_36 ks_37 _ _ _ hw (lv_sub hl [1, 2, 3, 4, 5, 6, 7, 0] rfl) hH hz hS
                  · have hw := hw.1 hc
                    refine zr_aload (r := some nx_32) hx hb dX0_seek_140 (lv_at hl 0 rfl) ?_
                    obtain ⟨a_74, ci_75, fs_76, x_77, er, he, hc, hv, hw⟩ := zgI_e hw
                    refine zw_get hk hH er he hv (fk_X0_542 hc) dX0_seek_142 ?_
                    refine lv_i2l hx hb dX0_seek_145 rfl ?_
                    obtain ⟨hkc, hks, hw⟩ := hw
                    exact zr_lret hk hr hH hz hS hw hkc hks dX0_seek_146
                · have hw := hw.1 hc
                  refine lv_ldc2 hx hb hown (hts _ q2315) dX0_seek_88 ?_
                  obtain ⟨hkc, hks, hw⟩ := hw
                  exact zr_lret hk hr hH hz hS hw hkc hks dX0_seek_91
              simp only [List.mem_cons, List.not_mem_nil, or_false] at hc
              rcases hc with rfl | rfl | rfl | rfl | rfl | rfl
              · exact zr_calli (zw_runV (As := []) hk hH hz hS hl.1 er (hw) (cwV 0 hts (lw_V q1969 q1970 q1971 q152 q1978) rfl rfl rfl (by decide +kernel) (z_room (Nat.le_of_ble_eq_true rfl))) he rfl rfl rfl (Nat.le_of_ble_eq_true rfl) dX0_seek_82 ⟨hcl, hsl⟩) hS hC
              · exact zr_calli (zw_runU (As := []) hk hH hz hS hl.1 er (hw) (va_cwU 0 hts (z_U q1969 q1972 q1977 q1970 q152 q1978) rfl rfl rfl rfl (by decide +kernel) (z_room (Nat.le_of_ble_eq_true rfl))) he rfl rfl rfl (Nat.le_of_ble_eq_true rfl) dX0_seek_82 ⟨hcl, hsl⟩) hS hC
              · exact zr_calli (zw_runU (As := []) hk hH hz hS hl.1 er (hw) (va_cwU 0 hts (z_U q1969 q1972 q1974 q1970 q152 q1978) rfl rfl rfl rfl (by decide +kernel) (z_room (Nat.le_of_ble_eq_true rfl))) he rfl rfl rfl (Nat.le_of_ble_eq_true rfl) dX0_seek_82 ⟨hcl, hsl⟩) hS hC
              · exact zr_calli (zw_runU (As := []) hk hH hz hS hl.1 er (hw) (va_cwU 0 hts (z_U q1969 q1972 q1975 q1970 q152 q1978) rfl rfl rfl rfl (by decide +kernel) (z_room (Nat.le_of_ble_eq_true rfl))) he rfl rfl rfl (Nat.le_of_ble_eq_true rfl) dX0_seek_82 ⟨hcl, hsl⟩) hS hC
              · exact zr_calli (zw_runU (As := []) hk hH hz hS hl.1 er (hw) (va_cwU 0 hts (z_U q1969 q1972 q1976 q1970 q152 q1978) rfl rfl rfl rfl (by decide +kernel) (z_room (Nat.le_of_ble_eq_true rfl))) he rfl rfl rfl (Nat.le_of_ble_eq_true rfl) dX0_seek_82 ⟨hcl, hsl⟩) hS hC
              · exact zr_calli (zw_runU (As := []) hk hH hz hS hl.1 er (hw) (va_cwU 0 hts (z_U q1969 q1972 q1973 q1970 q152 q1978) rfl rfl rfl rfl (by decide +kernel) (z_room (Nat.le_of_ble_eq_true rfl))) he rfl rfl rfl (Nat.le_of_ble_eq_true rfl) dX0_seek_82 ⟨hcl, hsl⟩) hS hC
            · have hw := hw.1 hc
              exact hJ_72 hp_20 nx_21 0 0 _ _ _ hw hl hH hz hS
def wp_X0_swing (l : Launch) (g : zG) (d : Nat) (h0 : Nat) (x1 : Int32) (x2 : Int32) (x3 : Int32) (hp : zHp) (nx : Nat) (Post : Int64 → zHp → Nat → Prop) : Prop :=
  (zMt l g yX0_isCell cX0_isCell 1 (some .boolean) d 0 0 [.int x1] hp nx (zQi g fun x_3 hp_1 nx_2 =>
  (∃ P_29 : zHp → Nat → Prop, (∀ (hp_4 : zHp) (nx_5 : Nat), P_29 hp_4 nx_5 →
  (Post (-2 : Int64) hp_4 nx_5)) ∧
  ((x_3 = 0 →
  P_29 hp_1 nx_2) ∧
  (¬ x_3 = 0 →
  (zMt l g yX0_in cX0_in 6 (some .boolean) d 0 0 [.long x2.toInt64, .long (1 : Int64), .long (80000 : Int64)] hp_1 nx_2 (zQi g fun x_8 hp_6 nx_7 =>
  ((x_8 = 0 →
  P_29 hp_6 nx_7) ∧
  (¬ x_8 = 0 →
  (zMt l g yX0_in cX0_in 6 (some .boolean) d 0 0 [.long x3.toInt64, .long (0 : Int64), .long (1 : Int64)] hp_6 nx_7 (zQi g fun x_11 hp_9 nx_10 =>
  ((x_11 = 0 →
  P_29 hp_9 nx_10) ∧
  (¬ x_11 = 0 →
  (zgR hp_9 (some h0) [0] 12 fun r_15 =>
  (zaR (g.2.1 10) hp_9 r_15 fun a_16 n_17 f_18 => vp_in x1 n_17 ∧ ∀ r_19 : Option Nat, r_19 = f_18 x1.toNatClampNeg →
  (∀ x_20 : UInt64, x_20 = FP.dconst0 →
  (zo hp_9 r_19 [34] fun a_161 ci_162 fs_163 => zMt l g yJ0_nextSetBit cJ0_nextSetBit 5 (some .int) d 0 0 (.ref a_161 :: [.int (0 : Int32)]) hp_9 nx_10 (zQi g fun x_23 hp_21 nx_22 =>
  (∃ I_55 : Nat → (Option Nat) → Int32 → UInt64 → Int32 → zHp → Nat → Prop, (∃ n_160, I_55 n_160 r_19 (-1 : Int32) x_20 x_23 hp_21 nx_22) ∧ ∀ (n_30 : Nat) (r_24 : Option Nat) (x_25 : Int32) (x_26 : UInt64) (x_27 : Int32) (hp_28 : zHp) (nx_29 : Nat), I_55 n_30 r_24 x_25 x_26 x_27 hp_28 nx_29 →
  ((x_27 < 0 →
  (∃ P_285 : (Option Nat) → Int32 → UInt64 → Int32 → Int64 → zHp → Nat → Prop, (∀ (r_31 : Option Nat) (x_32 : Int32) (x_33 : UInt64) (x_34 : Int32) (x_35 : Int64) (hp_36 : zHp) (nx_37 : Nat), P_285 r_31 x_32 x_33 x_34 x_35 hp_36 nx_37 →
  (Post x_35 hp_36 nx_37)) ∧
  (∃ P_274 : (Option Nat) → Int32 → UInt64 → Int32 → zHp → Nat → Prop, (∀ (r_38 : Option Nat) (x_39 : Int32) (x_40 : UInt64) (x_41 : Int32) (hp_42 : zHp) (nx_43 : Nat), P_274 r_38 x_39 x_40 x_41 hp_42 nx_43 →
  P_285 r_38 x_39 x_40 x_41 x_39.toInt64 hp_42 nx_43) ∧
  ((x3 = 0 →
  P_274 r_24 x_25 x_26 x_27 hp_28 nx_29) ∧
  (¬ x3 = 0 →
  ((x_25 = (-1 : Int32) →
  P_274 r_24 x_25 x_26 x_27 hp_28 nx_29) ∧
  (¬ x_25 = (-1 : Int32) →
  (zMt l g yJ23_doubleToLongBits cJ23_doubleToLongBits 2 (some .long) d 0 0 [.double x_26] hp_28 nx_29 (zQl g fun x_46 hp_44 nx_45 =>
  P_285 r_24 x_25 x_26 x_27 x_46 hp_44 nx_45))))))))) ∧
  (¬ x_27 < 0 →
  (zgR hp_28 (some h0) [0] 0 fun r_50 =>
  (zaR (g.2.1 7) hp_28 r_50 fun a_51 n_52 f_53 => vp_in x_27 n_52 ∧ ∀ r_54 : Option Nat, r_54 = f_53 x_27.toNatClampNeg →
  (zo hp_28 r_54 [2, 6, 7, 8, 9, 10] fun a_156 ci_157 fs_158 => ∃ PP_159 : Int32 → zHp → Nat → Prop, (∀ (x_57 : Int32) (hp_55 : zHp) (nx_56 : Nat), PP_159 x_57 hp_55 nx_56 →
  (∃ P_250 : (Option Nat) → Int32 → UInt64 → Int32 → (Option Nat) → zHp → Nat → Prop, (∀ (r_58 : Option Nat) (x_59 : Int32) (x_60 : UInt64) (x_61 : Int32) (r_62 : Option Nat) (hp_63 : zHp) (nx_64 : Nat), P_250 r_58 x_59 x_60 x_61 r_62 hp_63 nx_64 →
  (zo hp_63 r_58 [34] fun a_69 ci_70 fs_71 => zMt l g yJ0_nextSetBit cJ0_nextSetBit 5 (some .int) d 0 0 (.ref a_69 :: [.int (x_61 + (1 : Int32))]) hp_63 nx_64 (zQi g fun x_67 hp_65 nx_66 =>
  (∃ k_68, k_68 < n_30 ∧ I_55 k_68 r_58 x_59 x_60 x_67 hp_65 nx_66)))) ∧
  ((x_57 = 0 →
  (zgD hp_55 r_54 [2, 6, 7, 8, 9, 10] 2 fun x_75 =>
  (vf_n64 (FP.ddiv (FP.i2d x2) (4620693217682128896 : UInt64)) ∧ (vf_n64 (FP.dadd x_75 (FP.ddiv (FP.i2d x2) (4620693217682128896 : UInt64))) ∧ (zo hp_55 r_54 [2, 6, 7, 8, 9, 10] fun a_152 ci_153 fs_154 => ∃ PP_155 : UInt64 → zHp → Nat → Prop, (∀ (x_78 : UInt64) (hp_76 : zHp) (nx_77 : Nat), PP_155 x_78 hp_76 nx_77 →
  (zpt g hp_76 r_54 [2, 6, 7, 8, 9, 10] 2 (.double x_78) fun hp_82 =>
  (zo hp_82 (some h0) [0] fun a_149 ci_150 fs_151 => zMt l g yX0_asked cX0_asked 2 (some .double) d 0 0 (.ref a_149 :: [.int x1]) hp_82 nx_77 (zQd g fun x_85 hp_83 nx_84 =>
  (zgI hp_83 (some h0) [0] 2 fun x_89 =>
  ((x_89 = 0 →
  (vf_n64 (FP.ddiv (FP.i2d x2) (4620693217682128896 : UInt64)) ∧ (vf_n64 (FP.dsub x_75 (FP.ddiv (FP.i2d x2) (4620693217682128896 : UInt64))) ∧ (zo hp_83 r_54 [2, 6, 7, 8, 9, 10] fun a_141 ci_142 fs_143 => ∃ PP_144 : UInt64 → zHp → Nat → Prop, (∀ (x_92 : UInt64) (hp_90 : zHp) (nx_91 : Nat), PP_144 x_92 hp_90 nx_91 →
  (zpt g hp_90 r_54 [2, 6, 7, 8, 9, 10] 2 (.double x_92) fun hp_96 =>
  (zo hp_96 (some h0) [0] fun a_138 ci_139 fs_140 => zMt l g yX0_asked cX0_asked 2 (some .double) d 0 0 (.ref a_138 :: [.int x1]) hp_96 nx_91 (zQd g fun x_99 hp_97 nx_98 =>
  (zgI hp_97 (some h0) [0] 2 fun x_103 =>
  ((x_103 = 0 →
  (∃ P_194 : (Option Nat) → Int32 → UInt64 → Int32 → (Option Nat) → UInt64 → UInt64 → UInt64 → UInt64 → zHp → Nat → Prop, (∀ (r_104 : Option Nat) (x_105 : Int32) (x_106 : UInt64) (x_107 : Int32) (r_108 : Option Nat) (x_109 : UInt64) (x_110 : UInt64) (x_111 : UInt64) (x_112 : UInt64) (hp_113 : zHp) (nx_114 : Nat), P_194 r_104 x_105 x_106 x_107 r_108 x_109 x_110 x_111 x_112 hp_113 nx_114 →
  (∃ P_220 : (Option Nat) → Int32 → UInt64 → Int32 → (Option Nat) → UInt64 → UInt64 → UInt64 → UInt64 → zHp → Nat → Prop, (∀ (r_115 : Option Nat) (x_116 : Int32) (x_117 : UInt64) (x_118 : Int32) (r_119 : Option Nat) (x_120 : UInt64) (x_121 : UInt64) (x_122 : UInt64) (x_123 : UInt64) (hp_124 : zHp) (nx_125 : Nat), P_220 r_115 x_116 x_117 x_118 r_119 x_120 x_121 x_122 x_123 hp_124 nx_125 →
  (zpt g hp_124 r_119 [2, 6, 7, 8, 9, 10] 2 (.double x_120) fun hp_129 =>
  P_250 r_115 x_118 x_123 x_118 r_119 hp_129 nx_125)) ∧
  ((x_105 = (-1 : Int32) →
  P_220 r_104 x_105 x_106 x_107 r_108 x_109 x_110 x_111 x_112 hp_113 nx_114) ∧
  (¬ x_105 = (-1 : Int32) →
  ((0 < (Op.cmpValue (FP.dcmp x_112 x_106) .g) →
  P_220 r_104 x_105 x_106 x_107 r_108 x_109 x_110 x_111 x_112 hp_113 nx_114) ∧
  (¬ 0 < (Op.cmpValue (FP.dcmp x_112 x_106) .g) →
  (zpt g hp_113 r_108 [2, 6, 7, 8, 9, 10] 2 (.double x_109) fun hp_133 =>
  P_250 r_104 x_105 x_106 x_107 r_108 hp_133 nx_114))))))) ∧
  ((0 ≤ (Op.cmpValue (FP.dcmp x_85 x_99) .g) →
  (vf_n64 (FP.dsub x_85 x_99) ∧ P_194 r_24 x_25 x_26 x_27 r_54 x_75 x_85 x_99 (FP.dsub x_85 x_99) hp_97 nx_98)) ∧
  (¬ 0 ≤ (Op.cmpValue (FP.dcmp x_85 x_99) .g) →
  (vf_n64 (FP.dsub x_99 x_85) ∧ P_194 r_24 x_25 x_26 x_27 r_54 x_75 x_85 x_99 (FP.dsub x_99 x_85) hp_97 nx_98))))) ∧
  (¬ x_103 = 0 →
  (zpt g hp_97 r_54 [2, 6, 7, 8, 9, 10] 2 (.double x_75) fun hp_137 =>
  P_250 r_24 x_25 x_26 x_27 r_54 hp_137 nx_98)))))))) ∧ zMt l g yX2_kept cX2_kept 5 (some .double) d 0 0 (.ref a_141 :: [.double (FP.dsub x_75 (FP.ddiv (FP.i2d x2) (4620693217682128896 : UInt64)))]) hp_83 nx_84 (zQd g PP_144))))) ∧
  (¬ x_89 = 0 →
  (zpt g hp_83 r_54 [2, 6, 7, 8, 9, 10] 2 (.double x_75) fun hp_148 =>
  P_250 r_24 x_25 x_26 x_27 r_54 hp_148 nx_84)))))))) ∧ zMt l g yX2_kept cX2_kept 5 (some .double) d 0 0 (.ref a_152 :: [.double (FP.dadd x_75 (FP.ddiv (FP.i2d x2) (4620693217682128896 : UInt64)))]) hp_55 nx_56 (zQd g PP_155)))))) ∧
  (¬ x_57 = 0 →
  P_250 r_24 x_25 x_26 x_27 r_54 hp_55 nx_56)))) ∧ zMt l g yX2_isEmpty cX2_isEmpty 1 (some .boolean) d 0 0 (.ref a_156 :: []) hp_28 nx_29 (zQi g PP_159)))))))))))))))))))))))))
set_option maxHeartbeats 40000000 in
theorem met_X0_swing {l : Launch} {g : zG} {d : Nat} {h0 : Nat} {x1 : Int32} {x2 : Int32} {x3 : Int32} {hp : zHp} {nx : Nat} {Post : Int64 → zHp → Nat → Prop} (hw : wp_X0_swing l g d h0 x1 x2 x3 hp nx Post) : zMtW l g yX0_swing cX0_swing 19 (some .long) [(87, 120, 238, 0), (130, 163, 238, 0), (173, 210, 238, 0), (220, 228, 238, 0), (238, 240, 238, 0)] (d + 1) 0 0 [.ref h0, .int x1, .int x2, .int x3] hp nx (zQl g Post) := by
  refine z_startW (by decide) (Nat.le_of_ble_eq_true rfl) ?_
  intro p e s m below meth c hk hr hin hH hz ls hl
  have hx := hk.1.1
  have hb := hk.1.2.1
  have hown := hk.1.2.2.2.1
  have hts := hk.1.2.2.2.2
  have hS : va_S (zAd g) s.heap s.heap [] := va_S.rf
  have hl : lv_has ls 19 [(0, va_rf (some h0)), (1, .int x1), (2, .int x2), (3, .int x3)] := hl
  unfold wp_X0_swing at hw
  refine lv_iload_n hx hb dX0_swing_0 rfl (lv_at hl 1 rfl) ?_
  refine zr_calli (zr_runS (As := [.int x1]) hk hH hz hS hl.1 hw (va_cwS 1 hts (lw_S q1317 q1318 q131 q1319) rfl rfl rfl (by decide +kernel) (z_room (Nat.le_of_ble_eq_true rfl))) rfl rfl (Nat.le_of_ble_eq_true rfl) dX0_swing_1 ⟨Nat.le_of_ble_eq_true rfl, Nat.le_of_ble_eq_true rfl⟩) hS (fun x_3 hp_1 nx_2 hw H locs hH hz hS => ?_)
  obtain ⟨P_29, hP_29, hw⟩ := hw
  have hJ_29 : ∀ (hp_4 : zHp) (nx_5 : Nat) (H : Heap) (locs : List Loc) (ls : Array Slot), P_29 hp_4 nx_5 → lv_has ls 19 [(0, va_rf (some h0)), (1, .int x1), (2, .int x2), (3, .int x3)] → zHd g hp_4 H → H.size = nx_5 → va_S (zAd g) s.heap H locs → W p l e (zrm (d + 1) 0 0) s m ([.ref h0, .int x1, .int x2, .int x3] : List Value).toArray below meth c H locs 0 0 (MQ below (zQl g Post) ([.ref h0, .int x1, .int x2, .int x3] : List Value).toArray s 0 0 (zAd g)) (F0 m 29 ls []) := by
    intro hp_4 nx_5 H locs ls hw hl hH hz hS
    have hw := hP_29 hp_4 nx_5 hw
    refine lv_ldc2 hx hb hown (hts _ q2310) dX0_swing_29 ?_
    exact zr_lret hk hr hH hz hS hw (Nat.le_of_ble_eq_true rfl) (Nat.le_of_ble_eq_true rfl) dX0_swing_32
  refine lv_if_eq (tgt := 29) hx hb dX0_swing_4 (by decide) (fun hc => ?_) (fun hc => ?_)
  · have hw := hw.1 hc
    exact hJ_29 hp_1 nx_2 _ _ _ hw hl hH hz hS
  · have hw := hw.2 hc
    refine lv_iload_n hx hb dX0_swing_7 rfl (lv_at hl 2 rfl) ?_
    refine lv_i2l hx hb dX0_swing_8 rfl ?_
    refine lv_lconst (v := (1 : Int64)) hx hb dX0_swing_9 (by decide) ?_
    refine lv_ldc2 hx hb hown (hts _ q2393) dX0_swing_10 ?_
    refine zr_calli (zr_runS (As := [.long x2.toInt64, .long (1 : Int64), .long (80000 : Int64)]) hk hH hz hS hl.1 hw (va_cwS 3 hts (lw_S q1308 q1309 q131 q1310) rfl rfl rfl (by decide +kernel) (z_room (Nat.le_of_ble_eq_true rfl))) rfl rfl (Nat.le_of_ble_eq_true rfl) dX0_swing_13 ⟨Nat.le_of_ble_eq_true rfl, Nat.le_of_ble_eq_true rfl⟩) hS (fun x_8 hp_6 nx_7 hw H locs hH hz hS => ?_)
    refine lv_if_eq (tgt := 29) hx hb dX0_swing_16 (by decide) (fun hc => ?_) (fun hc => ?_)
    · have hw := hw.1 hc
      exact hJ_29 hp_6 nx_7 _ _ _ hw hl hH hz hS
    · have hw := hw.2 hc
      refine lv_iload_n hx hb dX0_swing_19 rfl (lv_at hl 3 rfl) ?_
      refine lv_i2l hx hb dX0_swing_20 rfl ?_
      refine lv_lconst (v := (0 : Int64)) hx hb dX0_swing_21 (by decide) ?_
      refine lv_lconst (v := (1 : Int64)) hx hb dX0_swing_22 (by decide) ?_
      refine zr_calli (zr_runS (As := [.long x3.toInt64, .long (0 : Int64), .long (1 : Int64)]) hk hH hz hS hl.1 hw (va_cwS 3 hts (lw_S q1308 q1309 q131 q1310) rfl rfl rfl (by decide +kernel) (z_room (Nat.le_of_ble_eq_true rfl))) rfl rfl (Nat.le_of_ble_eq_true rfl) dX0_swing_23 ⟨Nat.le_of_ble_eq_true rfl, Nat.le_of_ble_eq_true rfl⟩) hS (fun x_11 hp_9 nx_10 hw H locs hH hz hS => ?_)
      refine lv_if_ne (tgt := 33) hx hb dX0_swing_26 (by decide) (fun hc => ?_) (fun hc => ?_)
      · have hw := hw.2 hc
        refine zr_aload_n (r := some h0) hx hb dX0_swing_33 rfl (lv_at hl 0 rfl) ?_
        obtain ⟨a_12, ci_13, fs_14, r_15, er, he, hc, hv, hw⟩ := zgR_e hw
        refine zw_get hk hH er he hv (fk_X0_62 hc) dX0_swing_34 ?_
        refine lv_iload_n hx hb dX0_swing_37 rfl (lv_at hl 1 rfl) ?_
        obtain ⟨a_16, n_17, f_18, er, he, hi, hw⟩ := zaR_e hw
        have hw := hw _ rfl
        refine zw_aald hk hH 10 er he rfl rfl hi dX0_swing_38 ?_
        generalize f_18 x1.toNatClampNeg = r_19 at hw ⊢
        refine zr_astore (r := r_19) (lv' := [(4, va_rf r_19), (0, va_rf (some h0)), (1, .int x1), (2, .int x2), (3, .int x3)]) hx hb dX0_swing_39 hl (by decide) (by first | rfl | simp [List.filter_cons, z_cat, z_catI, z_catJ, z_catF, z_catD]) (fun ls hl => ?_)
        refine lv_iconst (v := (-1 : Int32)) hx hb dX0_swing_41 (by decide) ?_
        refine lv_istore (lv' := [(5, .int (-1 : Int32)), (4, va_rf r_19), (0, va_rf (some h0)), (1, .int x1), (2, .int x2), (3, .int x3)]) hx hb dX0_swing_42 hl (by decide) (by first | rfl | simp [List.filter_cons, z_cat, z_catI, z_catJ, z_catF, z_catD]) (fun ls hl => ?_)
        refine lv_dconst0 hx hb dX0_swing_44 ?_
        refine lv_topd (fun x_20 ex_20 => ?_)
        have hw := hw x_20 ex_20
        refine lv_dstore (lv' := [(6, .double x_20), (5, .int (-1 : Int32)), (4, va_rf r_19), (0, va_rf (some h0)), (1, .int x1), (2, .int x2), (3, .int x3)]) hx hb dX0_swing_45 hl (by decide) (by first | rfl | simp [List.filter_cons, z_cat, z_catI, z_catJ, z_catF, z_catD]) (fun ls hl => ?_)
        refine zr_aload (r := r_19) hx hb dX0_swing_47 (lv_at hl 2 rfl) ?_
        refine lv_iconst (v := (0 : Int32)) hx hb dX0_swing_49 (by decide) ?_
        obtain ⟨a_161, ci_162, fs_163, er, he, hc, hw⟩ := zo_e hw
        obtain rfl := List.mem_singleton.mp hc
        refine zr_calli (zw_runV (As := [.int (0 : Int32)]) hk hH hz hS hl.1 er hw (cwV 1 hts (lw_V q944 q945 q946 q133 q947) rfl rfl rfl (by decide +kernel) (z_room (Nat.le_of_ble_eq_true rfl))) he rfl rfl rfl (Nat.le_of_ble_eq_true rfl) dX0_swing_50 ⟨Nat.le_of_ble_eq_true rfl, Nat.le_of_ble_eq_true rfl⟩) hS (fun x_23 hp_21 nx_22 hw H locs hH hz hS => ?_)
        refine lv_istore (lv' := [(8, .int x_23), (6, .double x_20), (5, .int (-1 : Int32)), (4, va_rf r_19), (0, va_rf (some h0)), (1, .int x1), (2, .int x2), (3, .int x3)]) hx hb dX0_swing_53 hl (by decide) (by first | rfl | simp [List.filter_cons, z_cat, z_catI, z_catJ, z_catF, z_catD]) (fun ls hl => ?_)
        obtain ⟨I_55, ⟨n_160, hI⟩, hB_55⟩ := hw
        have hL_55 : ∀ (n_30 : Nat) (r_24 : Option Nat) (x_25 : Int32) (x_26 : UInt64) (x_27 : Int32) (hp_28 : zHp) (nx_29 : Nat) (H : Heap) (locs : List Loc) (ls : Array Slot), I_55 n_30 r_24 x_25 x_26 x_27 hp_28 nx_29 → lv_has ls 19 [(0, va_rf (some h0)), (1, .int x1), (2, .int x2), (3, .int x3), (4, va_rf r_24), (5, .int x_25), (6, .double x_26), (8, .int x_27)] → zHd g hp_28 H → H.size = nx_29 → va_S (zAd g) s.heap H locs → W p l e (zrm (d + 1) 0 0) s m ([.ref h0, .int x1, .int x2, .int x3] : List Value).toArray below meth c H locs 0 0 (MQ below (zQl g Post) ([.ref h0, .int x1, .int x2, .int x3] : List Value).toArray s 0 0 (zAd g)) (F0 m 55 ls []) := by
          intro n_30
          induction n_30 using Nat.strongRecOn with
          | _ n_30 ih_55 =>
            intro r_24 x_25 x_26 x_27 hp_28 nx_29 H locs ls hw hl hH hz hS
            have hw := hB_55 n_30 r_24 x_25 x_26 x_27 hp_28 nx_29 hw
            refine lv_iload hx hb dX0_swing_55 (lv_at hl 7 rfl) ?_
            refine lv_if_lt (tgt := 264) hx hb dX0_swing_57 (by decide) (fun hc => ?_) (fun hc => ?_)
            · have hw := hw.1 hc
              refine lv_iload_n hx hb dX0_swing_264 rfl (lv_at hl 3 rfl) ?_
              obtain ⟨P_285, hP_285, hw⟩ := hw
              have hJ_285 : ∀ (r_31 : Option Nat) (x_32 : Int32) (x_33 : UInt64) (x_34 : Int32) (x_35 : Int64) (hp_36 : zHp) (nx_37 : Nat) (H : Heap) (locs : List Loc) (ls : Array Slot), P_285 r_31 x_32 x_33 x_34 x_35 hp_36 nx_37 → lv_has ls 19 [(0, va_rf (some h0)), (1, .int x1), (2, .int x2), (3, .int x3), (4, va_rf r_31), (5, .int x_32), (6, .double x_33), (8, .int x_34)] → zHd g hp_36 H → H.size = nx_37 → va_S (zAd g) s.heap H locs → W p l e (zrm (d + 1) 0 0) s m ([.ref h0, .int x1, .int x2, .int x3] : List Value).toArray below meth c H locs 0 0 (MQ below (zQl g Post) ([.ref h0, .int x1, .int x2, .int x3] : List Value).toArray s 0 0 (zAd g)) (F0 m 285 ls [.long x_35]) := by
                intro r_31 x_32 x_33 x_34 x_35 hp_36 nx_37 H locs ls hw hl hH hz hS
                have hw := hP_285 r_31 x_32 x_33 x_34 x_35 hp_36 nx_37 hw
                exact zr_lret hk hr hH hz hS hw (Nat.le_of_ble_eq_true rfl) (Nat.le_of_ble_eq_true rfl) dX0_swing_285
              obtain ⟨P_274, hP_274, hw⟩ := hw
              have hJ_274 : ∀ (r_38 : Option Nat) (x_39 : Int32) (x_40 : UInt64) (x_41 : Int32) (hp_42 : zHp) (nx_43 : Nat) (H : Heap) (locs : List Loc) (ls : Array Slot), P_274 r_38 x_39 x_40 x_41 hp_42 nx_43 → lv_has ls 19 [(0, va_rf (some h0)), (1, .int x1), (2, .int x2), (3, .int x3), (4, va_rf r_38), (5, .int x_39), (6, .double x_40), (8, .int x_41)] → zHd g hp_42 H → H.size = nx_43 → va_S (zAd g) s.heap H locs → W p l e (zrm (d + 1) 0 0) s m ([.ref h0, .int x1, .int x2, .int x3] : List Value).toArray below meth c H locs 0 0 (MQ below (zQl g Post) ([.ref h0, .int x1, .int x2, .int x3] : List Value).toArray s 0 0 (zAd g)) (F0 m 274 ls []) := by
                intro r_38 x_39 x_40 x_41 hp_42 nx_43 H locs ls hw hl hH hz hS
                have hw := hP_274 r_38 x_39 x_40 x_41 hp_42 nx_43 hw
                refine lv_iload hx hb dX0_swing_274 (lv_at hl 5 rfl) ?_
                refine lv_i2l hx hb dX0_swing_276 rfl ?_
                refine lv_goto (tgt := 285) hx hb dX0_swing_277 (by decide) ?_
                exact hJ_285 r_38 x_39 x_40 x_41 x_39.toInt64 hp_42 nx_43 _ _ _ hw hl hH hz hS
              refine lv_if_eq (tgt := 274) hx hb dX0_swing_265 (by decide) (fun hc => ?_) (fun hc => ?_)
              · have hw := hw.1 hc
                exact hJ_274 r_24 x_25 x_26 x_27 hp_28 nx_29 _ _ _ hw hl hH hz hS
              · have hw := hw.2 hc
                refine lv_iload hx hb dX0_swing_268 (lv_at hl 5 rfl) ?_
                refine lv_iconst (v := (-1 : Int32)) hx hb dX0_swing_270 (by decide) ?_
                refine lv_icmp_ne (tgt := 280) hx hb dX0_swing_271 (by decide) (fun hc => ?_) (fun hc => ?_)
                · have hw := hw.2 hc
                  refine lv_dload hx hb dX0_swing_280 (lv_at hl 6 rfl) ?_
                  refine zr_calll (zr_runS (As := [.double x_26]) hk hH hz hS hl.1 hw (va_cwS 1 hts (lw_S q2300 q2301 q168 q2302) rfl rfl rfl (by decide +kernel) (z_room (Nat.le_of_ble_eq_true rfl))) rfl rfl (Nat.le_of_ble_eq_true rfl) dX0_swing_282 ⟨Nat.le_of_ble_eq_true rfl, Nat.le_of_ble_eq_true rfl⟩) hS (fun x_46 hp_44 nx_45 hw H locs hH hz hS => ?_)
                  exact hJ_285 r_24 x_25 x_26 x_27 x_46 hp_44 nx_45 _ _ _ hw hl hH hz hS
                · have hw := hw.1 hc
                  exact hJ_274 r_24 x_25 x_26 x_27 hp_28 nx_29 _ _ _ hw hl hH hz hS
            · have hw := hw.2 hc
              refine zr_aload_n (r := some h0) hx hb dX0_swing_60 rfl (lv_at hl 0 rfl) ?_
              obtain ⟨a_47, ci_48, fs_49, r_50, er, he, hc, hv, hw⟩ := zgR_e hw
              refine zw_get hk hH er he hv (fk_X0_31 hc) dX0_swing_61 ?_
              refine lv_iload hx hb dX0_swing_64 (lv_at hl 7 rfl) ?_
              obtain ⟨a_51, n_52, f_53, er, he, hi, hw⟩ := zaR_e hw
              have hw := hw _ rfl
              refine zw_aald hk hH 7 er he rfl rfl hi dX0_swing_66 ?_
              generalize f_53 x_27.toNatClampNeg = r_54 at hw ⊢
              refine zr_astore (r := r_54) (lv' := [(9, va_rf r_54), (0, va_rf (some h0)), (1, .int x1), (2, .int x2), (3, .int x3), (4, va_rf r_24), (5, .int x_25), (6, .double x_26), (8, .int x_27)]) hx hb dX0_swing_67 hl (by decide) (by first | rfl | simp [List.filter_cons, z_cat, z_catI, z_catJ, z_catF, z_catD]) (fun ls hl => ?_)
              refine zr_aload (r := r_54) hx hb dX0_swing_69 (lv_at hl 0 rfl) ?_
              obtain ⟨a_156, ci_157, fs_158, er, he, hc, PP_159, hPP, hw⟩ := zo_e hw
              have hC : ∀ (x_57 : Int32) (hp_55 : zHp) (nx_56 : Nat), PP_159 x_57 hp_55 nx_56 → ∀ (H : Heap) (locs : List Loc), zHd g hp_55 H → H.size = nx_56 → va_S (zAd g) s.heap H locs → W p l e (zrm (d + 1) 0 0) s m ([.ref h0, .int x1, .int x2, .int x3] : List Value).toArray below meth c H locs (0 + 0) (0 + 0) (MQ below (zQl g Post) ([.ref h0, .int x1, .int x2, .int x3] : List Value).toArray s 0 0 (zAd g)) (F0 m 74 ls [.int x_57]) := by
                intro x_57 hp_55 nx_56 hw H locs hH hz hS
                have hw := hPP x_57 hp_55 nx_56 hw
                obtain ⟨P_250, hP_250, hw⟩ := hw
                have hJ_250 : ∀ (r_58 : Option Nat) (x_59 : Int32) (x_60 : UInt64) (x_61 : Int32) (r_62 : Option Nat) (hp_63 : zHp) (nx_64 : Nat) (H : Heap) (locs : List Loc) (ls : Array Slot), P_250 r_58 x_59 x_60 x_61 r_62 hp_63 nx_64 → lv_has ls 19 [(0, va_rf (some h0)), (1, .int x1), (2, .int x2), (3, .int x3), (4, va_rf r_58), (5, .int x_59), (6, .double x_60), (8, .int x_61), (9, va_rf r_62)] → zHd g hp_63 H → H.size = nx_64 → va_S (zAd g) s.heap H locs → W p l e (zrm (d + 1) 0 0) s m ([.ref h0, .int x1, .int x2, .int x3] : List Value).toArray below meth c H locs 0 0 (MQ below (zQl g Post) ([.ref h0, .int x1, .int x2, .int x3] : List Value).toArray s 0 0 (zAd g)) (F0 m 250 ls []) := by
                  intro r_58 x_59 x_60 x_61 r_62 hp_63 nx_64 H locs ls hw hl hH hz hS
                  have hw := hP_250 r_58 x_59 x_60 x_61 r_62 hp_63 nx_64 hw
                  refine zr_aload (r := r_58) hx hb dX0_swing_250 (lv_at hl 4 rfl) ?_
                  refine lv_iload hx hb dX0_swing_252 (lv_at hl 7 rfl) ?_
                  refine lv_iconst (v := (1 : Int32)) hx hb dX0_swing_254 (by decide) ?_
                  refine lv_iadd hx hb dX0_swing_255 ?_
                  obtain ⟨a_69, ci_70, fs_71, er, he, hc, hw⟩ := zo_e hw
                  obtain rfl := List.mem_singleton.mp hc
                  refine zr_calli (zw_runV (As := [.int (x_61 + (1 : Int32))]) hk hH hz hS hl.1 er hw (cwV 1 hts (lw_V q944 q945 q946 q133 q947) rfl rfl rfl (by decide +kernel) (z_room (Nat.le_of_ble_eq_true rfl))) he rfl rfl rfl (Nat.le_of_ble_eq_true rfl) dX0_swing_256 ⟨Nat.le_of_ble_eq_true rfl, Nat.le_of_ble_eq_true rfl⟩) hS (fun x_67 hp_65 nx_66 hw H locs hH hz hS => ?_)
                  refine lv_istore (lv' := [(8, .int x_67), (0, va_rf (some h0)), (1, .int x1), (2, .int x2), (3, .int x3), (4, va_rf r_58), (5, .int x_59), (6, .double x_60), (9, va_rf r_62)]) hx hb dX0_swing_259 hl (by decide) (by first | rfl | simp [List.filter_cons, z_cat, z_catI, z_catJ, z_catF, z_catD]) (fun ls hl => ?_)
                  refine lv_goto (tgt := 55) hx hb dX0_swing_261 (by decide) ?_
                  obtain ⟨k_68, hlt, hw⟩ := hw
                  exact ih_55 k_68 hlt r_58 x_59 x_60 x_67 hp_65 nx_66 _ _ _ hw (lv_sub hl [1, 2, 3, 4, 5, 6, 7, 0] rfl) hH hz hS
                refine lv_if_eq (tgt := 80) hx hb dX0_swing_74 (by decide) (fun hc => ?_) (fun hc => ?_)
                · have hw := hw.1 hc
                  refine zr_aload (r := r_54) hx hb dX0_swing_80 (lv_at hl 0 rfl) ?_
                  obtain ⟨a_72, ci_73, fs_74, x_75, er, he, hc, hv, hw⟩ := zgD_e hw
                  refine zw_get hk hH er he hv (fk_X0_209 hc) dX0_swing_82 ?_
                  refine lv_dstore (lv' := [(10, .double x_75), (9, va_rf r_54), (0, va_rf (some h0)), (1, .int x1), (2, .int x2), (3, .int x3), (4, va_rf r_24), (5, .int x_25), (6, .double x_26), (8, .int x_27)]) hx hb dX0_swing_85 hl (by decide) (by first | rfl | simp [List.filter_cons, z_cat, z_catI, z_catJ, z_catF, z_catD]) (fun ls hl => ?_)
                  refine zr_aload (r := r_54) hx hb dX0_swing_87 (lv_at hl 1 rfl) ?_
                  refine zr_aload (r := r_54) hx hb dX0_swing_89 (lv_at hl 1 rfl) ?_
                  refine lv_dload hx hb dX0_swing_91 (lv_at hl 0 rfl) ?_
                  refine lv_iload_n hx hb dX0_swing_93 rfl (lv_at hl 4 rfl) ?_
                  refine lv_i2d hx hb dX0_swing_94 ?_
                  refine lv_ldc2d hx hb hown (hts _ q1979) dX0_swing_95 ?_
                  obtain ⟨hne, hw⟩ := hw
                  refine lv_ddiv hx hb dX0_swing_98 hne ?_
                  obtain ⟨hne, hw⟩ := hw
                  refine lv_dadd hx hb dX0_swing_99 hne ?_
                  obtain ⟨a_152, ci_153, fs_154, er, he, hc, PP_155, hPP, hw⟩ := zo_e hw
                  have hC : ∀ (x_78 : UInt64) (hp_76 : zHp) (nx_77 : Nat), PP_155 x_78 hp_76 nx_77 → ∀ (H : Heap) (locs : List Loc), zHd g hp_76 H → H.size = nx_77 → va_S (zAd g) s.heap H locs → W p l e (zrm (d + 1) 0 0) s m ([.ref h0, .int x1, .int x2, .int x3] : List Value).toArray below meth c H locs (0 + 0) (0 + 0) (MQ below (zQl g Post) ([.ref h0, .int x1, .int x2, .int x3] : List Value).toArray s 0 0 (zAd g)) (F0 m 103 ls [.double x_78, va_rf r_54]) := by
                    intro x_78 hp_76 nx_77 hw H locs hH hz hS
                    have hw := hPP x_78 hp_76 nx_77 hw
                    obtain ⟨a_79, ci_80, fs_81, hp_82, er, he, hc, hA, hkl, eh, hw⟩ := zpt_e hw
                    refine zw_put hk hH hz hS er he hA hkl eh (fp_X0_209 hc) rfl rfl dX0_swing_103 (fun H locs hH hz hS => ?_)
                    refine zr_aload_n (r := some h0) hx hb dX0_swing_106 rfl (lv_at hl 2 rfl) ?_
                    refine lv_iload_n hx hb dX0_swing_107 rfl (lv_at hl 3 rfl) ?_
                    obtain ⟨a_149, ci_150, fs_151, er, he, hc, hw⟩ := zo_e hw
                    obtain rfl := List.mem_singleton.mp hc
                    refine zr_calld (zw_runV (As := [.int x1]) hk hH hz hS hl.1 er hw (cwV 1 hts (lw_V q2127 q2129 qs40 q131 q2130) rfl rfl rfl (by decide +kernel) (z_room (Nat.le_of_ble_eq_true rfl))) he rfl rfl rfl (Nat.le_of_ble_eq_true rfl) dX0_swing_108 ⟨Nat.le_of_ble_eq_true rfl, Nat.le_of_ble_eq_true rfl⟩) hS (fun x_85 hp_83 nx_84 hw H locs hH hz hS => ?_)
                    refine lv_dstore (lv' := [(12, .double x_85), (10, .double x_75), (9, va_rf r_54), (0, va_rf (some h0)), (1, .int x1), (2, .int x2), (3, .int x3), (4, va_rf r_24), (5, .int x_25), (6, .double x_26), (8, .int x_27)]) hx hb dX0_swing_111 hl (by decide) (by first | rfl | simp [List.filter_cons, z_cat, z_catI, z_catJ, z_catF, z_catD]) (fun ls hl => ?_)
                    refine zr_aload_n (r := some h0) hx hb dX0_swing_113 rfl (lv_at hl 3 rfl) ?_
                    obtain ⟨a_86, ci_87, fs_88, x_89, er, he, hc, hv, hw⟩ := zgI_e hw
                    refine zw_get hk hH er he hv (fk_X0_138 hc) dX0_swing_114 ?_
                    refine lv_if_eq (tgt := 130) hx hb dX0_swing_117 (by decide) (fun hc => ?_) (fun hc => ?_)
                    · have hw := hw.1 hc
                      refine zr_aload (r := r_54) hx hb dX0_swing_130 (lv_at hl 2 rfl) ?_
                      refine zr_aload (r := r_54) hx hb dX0_swing_132 (lv_at hl 2 rfl) ?_
                      refine lv_dload hx hb dX0_swing_134 (lv_at hl 1 rfl) ?_
                      refine lv_iload_n hx hb dX0_swing_136 rfl (lv_at hl 5 rfl) ?_
                      refine lv_i2d hx hb dX0_swing_137 ?_
                      refine lv_ldc2d hx hb hown (hts _ q1979) dX0_swing_138 ?_
                      obtain ⟨hne, hw⟩ := hw
                      refine lv_ddiv hx hb dX0_swing_141 hne ?_
                      obtain ⟨hne, hw⟩ := hw
                      refine lv_dsub hx hb dX0_swing_142 hne ?_
                      obtain ⟨a_141, ci_142, fs_143, er, he, hc, PP_144, hPP, hw⟩ := zo_e hw
                      have hC : ∀ (x_92 : UInt64) (hp_90 : zHp) (nx_91 : Nat), PP_144 x_92 hp_90 nx_91 → ∀ (H : Heap) (locs : List Loc), zHd g hp_90 H → H.size = nx_91 → va_S (zAd g) s.heap H locs → W p l e (zrm (d + 1) 0 0) s m ([.ref h0, .int x1, .int x2, .int x3] : List Value).toArray below meth c H locs (0 + 0) (0 + 0) (MQ below (zQl g Post) ([.ref h0, .int x1, .int x2, .int x3] : List Value).toArray s 0 0 (zAd g)) (F0 m 146 ls [.double x_92, va_rf r_54]) := by
                        intro x_92 hp_90 nx_91 hw H locs hH hz hS
                        have hw := hPP x_92 hp_90 nx_91 hw
                        obtain ⟨a_93, ci_94, fs_95, hp_96, er, he, hc, hA, hkl, eh, hw⟩ := zpt_e hw
                        refine zw_put hk hH hz hS er he hA hkl eh (fp_X0_209 hc) rfl rfl dX0_swing_146 (fun H locs hH hz hS => ?_)
                        refine zr_aload_n (r := some h0) hx hb dX0_swing_149 rfl (lv_at hl 3 rfl) ?_
                        refine lv_iload_n hx hb dX0_swing_150 rfl (lv_at hl 4 rfl) ?_
                        obtain ⟨a_138, ci_139, fs_140, er, he, hc, hw⟩ := zo_e hw
                        obtain rfl := List.mem_singleton.mp hc
                        refine zr_calld (zw_runV (As := [.int x1]) hk hH hz hS hl.1 er hw (cwV 1 hts (lw_V q2127 q2129 qs40 q131 q2130) rfl rfl rfl (by decide +kernel) (z_room (Nat.le_of_ble_eq_true rfl))) he rfl rfl rfl (Nat.le_of_ble_eq_true rfl) dX0_swing_151 ⟨Nat.le_of_ble_eq_true rfl, Nat.le_of_ble_eq_true rfl⟩) hS (fun x_99 hp_97 nx_98 hw H locs hH hz hS => ?_)
                        refine lv_dstore (lv' := [(14, .double x_99), (12, .double x_85), (10, .double x_75), (9, va_rf r_54), (0, va_rf (some h0)), (1, .int x1), (2, .int x2), (3, .int x3), (4, va_rf r_24), (5, .int x_25), (6, .double x_26), (8, .int x_27)]) hx hb dX0_swing_154 hl (by decide) (by first | rfl | simp [List.filter_cons, z_cat, z_catI, z_catJ, z_catF, z_catD]) (fun ls hl => ?_)
                        refine zr_aload_n (r := some h0) hx hb dX0_swing_156 rfl (lv_at hl 4 rfl) ?_
                        obtain ⟨a_100, ci_101, fs_102, x_103, er, he, hc, hv, hw⟩ := zgI_e hw
                        refine zw_get hk hH er he hv (fk_X0_138 hc) dX0_swing_157 ?_
                        refine lv_if_eq (tgt := 173) hx hb dX0_swing_160 (by decide) (fun hc => ?_) (fun hc => ?_)
                        · have hw := hw.1 hc
                          refine lv_dload hx hb dX0_swing_173 (lv_at hl 1 rfl) ?_
                          refine lv_dload hx hb dX0_swing_175 (lv_at hl 0 rfl) ?_
                          refine lv_dcmp hx hb dX0_swing_177 ?_
                          obtain ⟨P_194, hP_194, hw⟩ := hw
                          have hJ_194 : ∀ (r_104 : Option Nat) (x_105 : Int32) (x_106 : UInt64) (x_107 : Int32) (r_108 : Option Nat) (x_109 : UInt64) (x_110 : UInt64) (x_111 : UInt64) (x_112 : UInt64) (hp_113 : zHp) (nx_114 : Nat) (H : Heap) (locs : List Loc) (ls : Array Slot), P_194 r_104 x_105 x_106 x_107 r_108 x_109 x_110 x_111 x_112 hp_113 nx_114 → lv_has ls 19 [(0, va_rf (some h0)), (1, .int x1), (2, .int x2), (3, .int x3), (4, va_rf r_104), (5, .int x_105), (6, .double x_106), (8, .int x_107), (9, va_rf r_108), (10, .double x_109), (12, .double x_110), (14, .double x_111)] → zHd g hp_113 H → H.size = nx_114 → va_S (zAd g) s.heap H locs → W p l e (zrm (d + 1) 0 0) s m ([.ref h0, .int x1, .int x2, .int x3] : List Value).toArray below meth c H locs 0 0 (MQ below (zQl g Post) ([.ref h0, .int x1, .int x2, .int x3] : List Value).toArray s 0 0 (zAd g)) (F0 m 194 ls [.double x_112]) := by
                            intro r_104 x_105 x_106 x_107 r_108 x_109 x_110 x_111 x_112 hp_113 nx_114 H locs ls hw hl hH hz hS
                            have hw := hP_194 r_104 x_105 x_106 x_107 r_108 x_109 x_110 x_111 x_112 hp_113 nx_114 hw
                            refine lv_dstore (lv' := [(16, .double x_112), (0, va_rf (some h0)), (1, .int x1), (2, .int x2), (3, .int x3), (4, va_rf r_104), (5, .int x_105), (6, .double x_106), (8, .int x_107), (9, va_rf r_108), (10, .double x_109), (12, .double x_110), (14, .double x_111)]) hx hb dX0_swing_194 hl (by decide) (by first | rfl | simp [List.filter_cons, z_cat, z_catI, z_catJ, z_catF, z_catD]) (fun ls hl => ?_)
                            refine lv_iload hx hb dX0_swing_196 (lv_at hl 6 rfl) ?_
                            refine lv_iconst (v := (-1 : Int32)) hx hb dX0_swing_198 (by decide) ?_
                            obtain ⟨P_220, hP_220, hw⟩ := hw
                            have hJ_220 : ∀ (r_115 : Option Nat) (x_116 : Int32) (x_117 : UInt64) (x_118 : Int32) (r_119 : Option Nat) (x_120 : UInt64) (x_121 : UInt64) (x_122 : UInt64) (x_123 : UInt64) (hp_124 : zHp) (nx_125 : Nat) (H : Heap) (locs : List Loc) (ls : Array Slot), P_220 r_115 x_116 x_117 x_118 r_119 x_120 x_121 x_122 x_123 hp_124 nx_125 → lv_has ls 19 [(0, va_rf (some h0)), (1, .int x1), (2, .int x2), (3, .int x3), (4, va_rf r_115), (5, .int x_116), (6, .double x_117), (8, .int x_118), (9, va_rf r_119), (10, .double x_120), (12, .double x_121), (14, .double x_122), (16, .double x_123)] → zHd g hp_124 H → H.size = nx_125 → va_S (zAd g) s.heap H locs → W p l e (zrm (d + 1) 0 0) s m ([.ref h0, .int x1, .int x2, .int x3] : List Value).toArray below meth c H locs 0 0 (MQ below (zQl g Post) ([.ref h0, .int x1, .int x2, .int x3] : List Value).toArray s 0 0 (zAd g)) (F0 m 220 ls []) := by
                              intro r_115 x_116 x_117 x_118 r_119 x_120 x_121 x_122 x_123 hp_124 nx_125 H locs ls hw hl hH hz hS
                              have hw := hP_220 r_115 x_116 x_117 x_118 r_119 x_120 x_121 x_122 x_123 hp_124 nx_125 hw
                              refine lv_iload hx hb dX0_swing_220 (lv_at hl 7 rfl) ?_
                              refine lv_istore (lv' := [(5, .int x_118), (0, va_rf (some h0)), (1, .int x1), (2, .int x2), (3, .int x3), (4, va_rf r_115), (6, .double x_117), (8, .int x_118), (9, va_rf r_119), (10, .double x_120), (12, .double x_121), (14, .double x_122), (16, .double x_123)]) hx hb dX0_swing_222 hl (by decide) (by first | rfl | simp [List.filter_cons, z_cat, z_catI, z_catJ, z_catF, z_catD]) (fun ls hl => ?_)
                              refine lv_dload hx hb dX0_swing_224 (lv_at hl 12 rfl) ?_
                              refine lv_dstore (lv' := [(6, .double x_123), (5, .int x_118), (0, va_rf (some h0)), (1, .int x1), (2, .int x2), (3, .int x3), (4, va_rf r_115), (8, .int x_118), (9, va_rf r_119), (10, .double x_120), (12, .double x_121), (14, .double x_122), (16, .double x_123)]) hx hb dX0_swing_226 hl (by decide) (by first | rfl | simp [List.filter_cons, z_cat, z_catI, z_catJ, z_catF, z_catD]) (fun ls hl => ?_)
                              refine zr_aload (r := r_119) hx hb dX0_swing_228 (lv_at hl 8 rfl) ?_
                              refine lv_dload hx hb dX0_swing_230 (lv_at hl 9 rfl) ?_
                              obtain ⟨a_126, ci_127, fs_128, hp_129, er, he, hc, hA, hkl, eh, hw⟩ := zpt_e hw
                              refine zw_put hk hH hz hS er he hA hkl eh (fp_X0_209 hc) rfl rfl dX0_swing_232 (fun H locs hH hz hS => ?_)
                              refine lv_goto (tgt := 250) hx hb dX0_swing_235 (by decide) ?_
                              exact hJ_250 r_115 x_118 x_123 x_118 r_119 hp_129 nx_125 _ _ _ hw (lv_sub hl [2, 3, 4, 5, 6, 1, 0, 7, 8] rfl) hH hz hS
                            refine lv_icmp_eq (tgt := 220) hx hb dX0_swing_199 (by decide) (fun hc => ?_) (fun hc => ?_)
                            · have hw := hw.1 hc
                              exact hJ_220 r_104 x_105 x_106 x_107 r_108 x_109 x_110 x_111 x_112 hp_113 nx_114 _ _ _ hw (lv_sub hl [1, 2, 3, 4, 5, 6, 7, 8, 9, 10, 11, 12, 0] rfl) hH hz hS
                            · have hw := hw.2 hc
                              refine lv_dload hx hb dX0_swing_202 (lv_at hl 0 rfl) ?_
                              refine lv_dload hx hb dX0_swing_204 (lv_at hl 7 rfl) ?_
                              refine lv_dcmp hx hb dX0_swing_206 ?_
                              refine lv_if_gt (tgt := 220) hx hb dX0_swing_207 (by decide) (fun hc => ?_) (fun hc => ?_)
                              · have hw := hw.1 hc
                                exact hJ_220 r_104 x_105 x_106 x_107 r_108 x_109 x_110 x_111 x_112 hp_113 nx_114 _ _ _ hw (lv_sub hl [1, 2, 3, 4, 5, 6, 7, 8, 9, 10, 11, 12, 0] rfl) hH hz hS
                              · have hw := hw.2 hc
                                refine zr_aload (r := r_108) hx hb dX0_swing_210 (lv_at hl 9 rfl) ?_
                                refine lv_dload hx hb dX0_swing_212 (lv_at hl 10 rfl) ?_
                                obtain ⟨a_130, ci_131, fs_132, hp_133, er, he, hc, hA, hkl, eh, hw⟩ := zpt_e hw
                                refine zw_put hk hH hz hS er he hA hkl eh (fp_X0_209 hc) rfl rfl dX0_swing_214 (fun H locs hH hz hS => ?_)
                                refine lv_goto (tgt := 250) hx hb dX0_swing_217 (by decide) ?_
                                exact hJ_250 r_104 x_105 x_106 x_107 r_108 hp_133 nx_114 _ _ _ hw (lv_sub hl [1, 2, 3, 4, 5, 6, 7, 8, 9] rfl) hH hz hS
                          refine lv_if_ge (tgt := 189) hx hb dX0_swing_178 (by decide) (fun hc => ?_) (fun hc => ?_)
                          · have hw := hw.1 hc
                            refine lv_dload hx hb dX0_swing_189 (lv_at hl 1 rfl) ?_
                            refine lv_dload hx hb dX0_swing_191 (lv_at hl 0 rfl) ?_
                            obtain ⟨hne, hw⟩ := hw
                            refine lv_dsub hx hb dX0_swing_193 hne ?_
                            exact hJ_194 r_24 x_25 x_26 x_27 r_54 x_75 x_85 x_99 (FP.dsub x_85 x_99) hp_97 nx_98 _ _ _ hw (lv_sub hl [4, 5, 6, 7, 8, 9, 10, 11, 3, 2, 1, 0] rfl) hH hz hS
                          · have hw := hw.2 hc
                            refine lv_dload hx hb dX0_swing_181 (lv_at hl 0 rfl) ?_
                            refine lv_dload hx hb dX0_swing_183 (lv_at hl 1 rfl) ?_
                            obtain ⟨hne, hw⟩ := hw
                            refine lv_dsub hx hb dX0_swing_185 hne ?_
                            refine lv_goto (tgt := 194) hx hb dX0_swing_186 (by decide) ?_
                            exact hJ_194 r_24 x_25 x_26 x_27 r_54 x_75 x_85 x_99 (FP.dsub x_99 x_85) hp_97 nx_98 _ _ _ hw (lv_sub hl [4, 5, 6, 7, 8, 9, 10, 11, 3, 2, 1, 0] rfl) hH hz hS
                        · have hw := hw.2 hc
                          refine zr_aload (r := r_54) hx hb dX0_swing_163 (lv_at hl 3 rfl) ?_
                          refine lv_dload hx hb dX0_swing_165 (lv_at hl 2 rfl) ?_
                          obtain ⟨a_134, ci_135, fs_136, hp_137, er, he, hc, hA, hkl, eh, hw⟩ := zpt_e hw
                          refine zw_put hk hH hz hS er he hA hkl eh (fp_X0_209 hc) rfl rfl dX0_swing_167 (fun H locs hH hz hS => ?_)
                          refine lv_goto (tgt := 250) hx hb dX0_swing_170 (by decide) ?_
                          exact hJ_250 r_24 x_25 x_26 x_27 r_54 hp_137 nx_98 _ _ _ hw (lv_sub hl [4, 5, 6, 7, 8, 9, 10, 11, 3] rfl) hH hz hS
                      simp only [List.mem_cons, List.not_mem_nil, or_false] at hc
                      rcases hc with rfl | rfl | rfl | rfl | rfl | rfl
                      · exact zr_calld (zw_runV (As := [.double (FP.dsub x_75 (FP.ddiv (FP.i2d x2) (4620693217682128896 : UInt64)))]) hk hH hz hS hl.1 er (hw) (cwV 1 hts (lw_V q1980 q1981 q1982 q152 q1989) rfl rfl rfl (by decide +kernel) (z_room (Nat.le_of_ble_eq_true rfl))) he rfl rfl rfl (by simp only [List.map_cons, List.map_nil, z_cat]; exact Nat.le_of_ble_eq_true rfl) dX0_swing_143 ⟨Nat.le_of_ble_eq_true rfl, Nat.le_of_ble_eq_true rfl⟩) hS hC
                      · exact zr_calld (zw_runU (As := [.double (FP.dsub x_75 (FP.ddiv (FP.i2d x2) (4620693217682128896 : UInt64)))]) hk hH hz hS hl.1 er (hw) (va_cwU 1 hts (z_U q1980 q1983 q1988 q1981 q152 q1989) rfl rfl rfl rfl (by decide +kernel) (z_room (Nat.le_of_ble_eq_true rfl))) he rfl rfl rfl (by simp only [List.map_cons, List.map_nil, z_cat]; exact Nat.le_of_ble_eq_true rfl) dX0_swing_143 ⟨Nat.le_of_ble_eq_true rfl, Nat.le_of_ble_eq_true rfl⟩) hS hC
                      · exact zr_calld (zw_runU (As := [.double (FP.dsub x_75 (FP.ddiv (FP.i2d x2) (4620693217682128896 : UInt64)))]) hk hH hz hS hl.1 er (hw) (va_cwU 1 hts (z_U q1980 q1983 q1985 q1981 q152 q1989) rfl rfl rfl rfl (by decide +kernel) (z_room (Nat.le_of_ble_eq_true rfl))) he rfl rfl rfl (by simp only [List.map_cons, List.map_nil, z_cat]; exact Nat.le_of_ble_eq_true rfl) dX0_swing_143 ⟨Nat.le_of_ble_eq_true rfl, Nat.le_of_ble_eq_true rfl⟩) hS hC
                      · exact zr_calld (zw_runU (As := [.double (FP.dsub x_75 (FP.ddiv (FP.i2d x2) (4620693217682128896 : UInt64)))]) hk hH hz hS hl.1 er (hw) (va_cwU 1 hts (z_U q1980 q1983 q1986 q1981 q152 q1989) rfl rfl rfl rfl (by decide +kernel) (z_room (Nat.le_of_ble_eq_true rfl))) he rfl rfl rfl (by simp only [List.map_cons, List.map_nil, z_cat]; exact Nat.le_of_ble_eq_true rfl) dX0_swing_143 ⟨Nat.le_of_ble_eq_true rfl, Nat.le_of_ble_eq_true rfl⟩) hS hC
                      · exact zr_calld (zw_runU (As := [.double (FP.dsub x_75 (FP.ddiv (FP.i2d x2) (4620693217682128896 : UInt64)))]) hk hH hz hS hl.1 er (hw) (va_cwU 1 hts (z_U q1980 q1983 q1987 q1981 q152 q1989) rfl rfl rfl rfl (by decide +kernel) (z_room (Nat.le_of_ble_eq_true rfl))) he rfl rfl rfl (by simp only [List.map_cons, List.map_nil, z_cat]; exact Nat.le_of_ble_eq_true rfl) dX0_swing_143 ⟨Nat.le_of_ble_eq_true rfl, Nat.le_of_ble_eq_true rfl⟩) hS hC
                      · exact zr_calld (zw_runU (As := [.double (FP.dsub x_75 (FP.ddiv (FP.i2d x2) (4620693217682128896 : UInt64)))]) hk hH hz hS hl.1 er (hw) (va_cwU 1 hts (z_U q1980 q1983 q1984 q1981 q152 q1989) rfl rfl rfl rfl (by decide +kernel) (z_room (Nat.le_of_ble_eq_true rfl))) he rfl rfl rfl (by simp only [List.map_cons, List.map_nil, z_cat]; exact Nat.le_of_ble_eq_true rfl) dX0_swing_143 ⟨Nat.le_of_ble_eq_true rfl, Nat.le_of_ble_eq_true rfl⟩) hS hC
                    · have hw := hw.2 hc
                      refine zr_aload (r := r_54) hx hb dX0_swing_120 (lv_at hl 2 rfl) ?_
                      refine lv_dload hx hb dX0_swing_122 (lv_at hl 1 rfl) ?_
                      obtain ⟨a_145, ci_146, fs_147, hp_148, er, he, hc, hA, hkl, eh, hw⟩ := zpt_e hw
                      refine zw_put hk hH hz hS er he hA hkl eh (fp_X0_209 hc) rfl rfl dX0_swing_124 (fun H locs hH hz hS => ?_)
                      refine lv_goto (tgt := 250) hx hb dX0_swing_127 (by decide) ?_
                      exact hJ_250 r_24 x_25 x_26 x_27 r_54 hp_148 nx_84 _ _ _ hw (lv_sub hl [3, 4, 5, 6, 7, 8, 9, 10, 2] rfl) hH hz hS
                  simp only [List.mem_cons, List.not_mem_nil, or_false] at hc
                  rcases hc with rfl | rfl | rfl | rfl | rfl | rfl
                  · exact zr_calld (zw_runV (As := [.double (FP.dadd x_75 (FP.ddiv (FP.i2d x2) (4620693217682128896 : UInt64)))]) hk hH hz hS hl.1 er (hw) (cwV 1 hts (lw_V q1980 q1981 q1982 q152 q1989) rfl rfl rfl (by decide +kernel) (z_room (Nat.le_of_ble_eq_true rfl))) he rfl rfl rfl (by simp only [List.map_cons, List.map_nil, z_cat]; exact Nat.le_of_ble_eq_true rfl) dX0_swing_100 ⟨Nat.le_of_ble_eq_true rfl, Nat.le_of_ble_eq_true rfl⟩) hS hC
                  · exact zr_calld (zw_runU (As := [.double (FP.dadd x_75 (FP.ddiv (FP.i2d x2) (4620693217682128896 : UInt64)))]) hk hH hz hS hl.1 er (hw) (va_cwU 1 hts (z_U q1980 q1983 q1988 q1981 q152 q1989) rfl rfl rfl rfl (by decide +kernel) (z_room (Nat.le_of_ble_eq_true rfl))) he rfl rfl rfl (by simp only [List.map_cons, List.map_nil, z_cat]; exact Nat.le_of_ble_eq_true rfl) dX0_swing_100 ⟨Nat.le_of_ble_eq_true rfl, Nat.le_of_ble_eq_true rfl⟩) hS hC
                  · exact zr_calld (zw_runU (As := [.double (FP.dadd x_75 (FP.ddiv (FP.i2d x2) (4620693217682128896 : UInt64)))]) hk hH hz hS hl.1 er (hw) (va_cwU 1 hts (z_U q1980 q1983 q1985 q1981 q152 q1989) rfl rfl rfl rfl (by decide +kernel) (z_room (Nat.le_of_ble_eq_true rfl))) he rfl rfl rfl (by simp only [List.map_cons, List.map_nil, z_cat]; exact Nat.le_of_ble_eq_true rfl) dX0_swing_100 ⟨Nat.le_of_ble_eq_true rfl, Nat.le_of_ble_eq_true rfl⟩) hS hC
                  · exact zr_calld (zw_runU (As := [.double (FP.dadd x_75 (FP.ddiv (FP.i2d x2) (4620693217682128896 : UInt64)))]) hk hH hz hS hl.1 er (hw) (va_cwU 1 hts (z_U q1980 q1983 q1986 q1981 q152 q1989) rfl rfl rfl rfl (by decide +kernel) (z_room (Nat.le_of_ble_eq_true rfl))) he rfl rfl rfl (by simp only [List.map_cons, List.map_nil, z_cat]; exact Nat.le_of_ble_eq_true rfl) dX0_swing_100 ⟨Nat.le_of_ble_eq_true rfl, Nat.le_of_ble_eq_true rfl⟩) hS hC
                  · exact zr_calld (zw_runU (As := [.double (FP.dadd x_75 (FP.ddiv (FP.i2d x2) (4620693217682128896 : UInt64)))]) hk hH hz hS hl.1 er (hw) (va_cwU 1 hts (z_U q1980 q1983 q1987 q1981 q152 q1989) rfl rfl rfl rfl (by decide +kernel) (z_room (Nat.le_of_ble_eq_true rfl))) he rfl rfl rfl (by simp only [List.map_cons, List.map_nil, z_cat]; exact Nat.le_of_ble_eq_true rfl) dX0_swing_100 ⟨Nat.le_of_ble_eq_true rfl, Nat.le_of_ble_eq_true rfl⟩) hS hC
                  · exact zr_calld (zw_runU (As := [.double (FP.dadd x_75 (FP.ddiv (FP.i2d x2) (4620693217682128896 : UInt64)))]) hk hH hz hS hl.1 er (hw) (va_cwU 1 hts (z_U q1980 q1983 q1984 q1981 q152 q1989) rfl rfl rfl rfl (by decide +kernel) (z_room (Nat.le_of_ble_eq_true rfl))) he rfl rfl rfl (by simp only [List.map_cons, List.map_nil, z_cat]; exact Nat.le_of_ble_eq_true rfl) dX0_swing_100 ⟨Nat.le_of_ble_eq_true rfl, Nat.le_of_ble_eq_true rfl⟩) hS hC
                · have hw := hw.2 hc
                  refine lv_goto (tgt := 250) hx hb dX0_swing_77 (by decide) ?_
                  exact hJ_250 r_24 x_25 x_26 x_27 r_54 hp_55 nx_56 _ _ _ hw (lv_sub hl [1, 2, 3, 4, 5, 6, 7, 8, 0] rfl) hH hz hS
              simp only [List.mem_cons, List.not_mem_nil, or_false] at hc
              rcases hc with rfl | rfl | rfl | rfl | rfl | rfl
              · exact zr_calli (zw_runV (As := []) hk hH hz hS hl.1 er (hw) (cwV 0 hts (lw_V q2135 q2110 q2111 q152 q2118) rfl rfl rfl (by decide +kernel) (z_room (Nat.le_of_ble_eq_true rfl))) he rfl rfl rfl (Nat.le_of_ble_eq_true rfl) dX0_swing_71 ⟨Nat.le_of_ble_eq_true rfl, Nat.le_of_ble_eq_true rfl⟩) hS hC
              · exact zr_calli (zw_runU (As := []) hk hH hz hS hl.1 er (hw) (va_cwU 0 hts (z_U q2135 q2112 q2117 q2110 q152 q2118) rfl rfl rfl rfl (by decide +kernel) (z_room (Nat.le_of_ble_eq_true rfl))) he rfl rfl rfl (Nat.le_of_ble_eq_true rfl) dX0_swing_71 ⟨Nat.le_of_ble_eq_true rfl, Nat.le_of_ble_eq_true rfl⟩) hS hC
              · exact zr_calli (zw_runU (As := []) hk hH hz hS hl.1 er (hw) (va_cwU 0 hts (z_U q2135 q2112 q2114 q2110 q152 q2118) rfl rfl rfl rfl (by decide +kernel) (z_room (Nat.le_of_ble_eq_true rfl))) he rfl rfl rfl (Nat.le_of_ble_eq_true rfl) dX0_swing_71 ⟨Nat.le_of_ble_eq_true rfl, Nat.le_of_ble_eq_true rfl⟩) hS hC
              · exact zr_calli (zw_runU (As := []) hk hH hz hS hl.1 er (hw) (va_cwU 0 hts (z_U q2135 q2112 q2115 q2110 q152 q2118) rfl rfl rfl rfl (by decide +kernel) (z_room (Nat.le_of_ble_eq_true rfl))) he rfl rfl rfl (Nat.le_of_ble_eq_true rfl) dX0_swing_71 ⟨Nat.le_of_ble_eq_true rfl, Nat.le_of_ble_eq_true rfl⟩) hS hC
              · exact zr_calli (zw_runU (As := []) hk hH hz hS hl.1 er (hw) (va_cwU 0 hts (z_U q2135 q2112 q2116 q2110 q152 q2118) rfl rfl rfl rfl (by decide +kernel) (z_room (Nat.le_of_ble_eq_true rfl))) he rfl rfl rfl (Nat.le_of_ble_eq_true rfl) dX0_swing_71 ⟨Nat.le_of_ble_eq_true rfl, Nat.le_of_ble_eq_true rfl⟩) hS hC
              · exact zr_calli (zw_runU (As := []) hk hH hz hS hl.1 er (hw) (va_cwU 0 hts (z_U q2135 q2112 q2113 q2110 q152 q2118) rfl rfl rfl rfl (by decide +kernel) (z_room (Nat.le_of_ble_eq_true rfl))) he rfl rfl rfl (Nat.le_of_ble_eq_true rfl) dX0_swing_71 ⟨Nat.le_of_ble_eq_true rfl, Nat.le_of_ble_eq_true rfl⟩) hS hC
        exact hL_55 n_160 r_19 (-1 : Int32) x_20 x_23 hp_21 nx_22 _ _ _ hI (lv_sub hl [4, 5, 6, 7, 3, 2, 1, 0] rfl) hH hz hS
      · have hw := hw.1 hc
        exact hJ_29 hp_9 nx_10 _ _ _ hw hl hH hz hS
def wp_X0_chance (l : Launch) (g : zG) (d : Nat) (h0 : Nat) (x1 : Int32) (x2 : Int32) (x3 : Int32) (x4 : Int32) (x5 : Int32) (hp : zHp) (nx : Nat) (Post : Int32 → zHp → Nat → Prop) : Prop :=
  (zMt l g yX0_isCell cX0_isCell 1 (some .boolean) d 0 0 [.int x1] hp nx (zQi g fun x_3 hp_1 nx_2 =>
  (∃ P_45 : zHp → Nat → Prop, (∀ (hp_4 : zHp) (nx_5 : Nat), P_45 hp_4 nx_5 →
  (Post (-2 : Int32) hp_4 nx_5)) ∧
  ((x_3 = 0 →
  P_45 hp_1 nx_2) ∧
  (¬ x_3 = 0 →
  (zMt l g yX0_in cX0_in 6 (some .boolean) d 0 0 [.long x3.toInt64, .long (1 : Int64), .long (20 : Int64)] hp_1 nx_2 (zQi g fun x_8 hp_6 nx_7 =>
  ((x_8 = 0 →
  P_45 hp_6 nx_7) ∧
  (¬ x_8 = 0 →
  (zMt l g yX0_in cX0_in 6 (some .boolean) d 0 0 [.long x4.toInt64, .long (-80000 : Int64), .long (80000 : Int64)] hp_6 nx_7 (zQi g fun x_11 hp_9 nx_10 =>
  ((x_11 = 0 →
  P_45 hp_9 nx_10) ∧
  (¬ x_11 = 0 →
  (zMt l g yX0_in cX0_in 6 (some .boolean) d 0 0 [.long x5.toInt64, .long (0 : Int64), .long (1 : Int64)] hp_9 nx_10 (zQi g fun x_14 hp_12 nx_13 =>
  ((x_14 = 0 →
  P_45 hp_12 nx_13) ∧
  (¬ x_14 = 0 →
  (∃ I_54 : Nat → Int32 → Int32 → zHp → Nat → Prop, (∃ n_48, I_54 n_48 (0 : Int32) (0 : Int32) hp_12 nx_13) ∧ ∀ (n_19 : Nat) (x_15 : Int32) (x_16 : Int32) (hp_17 : zHp) (nx_18 : Nat), I_54 n_19 x_15 x_16 hp_17 nx_18 →
  ((x3 ≤ x_16 →
  (∃ I_95 : Nat → Int32 → Int32 → Int32 → zHp → Nat → Prop, (∃ n_34, I_95 n_34 x_15 x_15 x3 hp_17 nx_18) ∧ ∀ (n_25 : Nat) (x_20 : Int32) (x_21 : Int32) (x_22 : Int32) (hp_23 : zHp) (nx_24 : Nat), I_95 n_25 x_20 x_21 x_22 hp_23 nx_24 →
  ((x_22 = 0 →
  (∃ P_135 : Int32 → Int32 → Int32 → Int32 → zHp → Nat → Prop, (∀ (x_26 : Int32) (x_27 : Int32) (x_28 : Int32) (x_29 : Int32) (hp_30 : zHp) (nx_31 : Nat), P_135 x_26 x_27 x_28 x_29 hp_30 nx_31 →
  (Post x_29 hp_30 nx_31)) ∧
  ((x5 = 0 →
  (¬ x_21 = 0 ∧ P_135 x_20 x_21 x_22 (x_20 / x_21) hp_23 nx_24)) ∧
  (¬ x5 = 0 →
  (¬ x_21 = 0 ∧ P_135 x_20 x_21 x_22 (x3 / x_21) hp_23 nx_24))))) ∧
  (¬ x_22 = 0 →
  (¬ x_22 = 0 ∧ (∀ x_32 : Int32, x_32 = x_21 - x_21 / x_22 * x_22 →
  (∃ k_33, k_33 < n_25 ∧ I_95 k_33 x_20 x_22 x_32 hp_23 nx_24))))))) ∧
  (¬ x3 ≤ x_16 →
  (vf_n64 (FP.ddiv (FP.i2d x4) (4620693217682128896 : UInt64)) ∧ (zo hp_17 (some h0) [0] fun a_45 ci_46 fs_47 => zMtW l g yX0_comes cX0_comes 13 (some .boolean) [(105, 133, 180, 0), (180, 182, 180, 0)] d 0 0 (.ref a_45 :: [.int x1, .int (x2 + x_16), .double (FP.ddiv (FP.i2d x4) (4620693217682128896 : UInt64))]) hp_17 nx_18 (zQi g fun x_37 hp_35 nx_36 =>
  (∃ P_82 : Int32 → Int32 → zHp → Nat → Prop, (∀ (x_38 : Int32) (x_39 : Int32) (hp_40 : zHp) (nx_41 : Nat), P_82 x_38 x_39 hp_40 nx_41 →
  (∀ x_42 : Int32, x_42 = x_39 + (1 : Int32) →
  (∃ k_43, k_43 < n_19 ∧ I_54 k_43 x_38 x_42 hp_40 nx_41))) ∧
  ((x_37 = 0 →
  P_82 x_15 x_16 hp_35 nx_36) ∧
  (¬ x_37 = 0 →
  (∀ x_44 : Int32, x_44 = x_15 + (1 : Int32) →
  P_82 x_44 x_16 hp_35 nx_36)))))))))))))))))))))))))))
set_option maxHeartbeats 40000000 in
theorem met_X0_chance {l : Launch} {g : zG} {d : Nat} {h0 : Nat} {x1 : Int32} {x2 : Int32} {x3 : Int32} {x4 : Int32} {x5 : Int32} {hp : zHp} {nx : Nat} {Post : Int32 → zHp → Nat → Prop} (hw : wp_X0_chance l g d h0 x1 x2 x3 x4 x5 hp nx Post) : zMt l g yX0_chance cX0_chance 10 (some .int) (d + 1) 0 0 [.ref h0, .int x1, .int x2, .int x3, .int x4, .int x5] hp nx (zQi g Post) := by
  refine z_start (by decide) (Nat.le_of_ble_eq_true rfl) ?_
  intro p e s m below meth c hk hr hin hH hz ls hl
  have hx := hk.1.1
  have hb := hk.1.2.1
  have hown := hk.1.2.2.2.1
  have hts := hk.1.2.2.2.2
  have hS : va_S (zAd g) s.heap s.heap [] := va_S.rf
  have hl : lv_has ls 10 [(0, va_rf (some h0)), (1, .int x1), (2, .int x2), (3, .int x3), (4, .int x4), (5, .int x5)] := hl
  unfold wp_X0_chance at hw
  refine lv_iload_n hx hb dX0_chance_0 rfl (lv_at hl 1 rfl) ?_
  refine zr_calli (zr_runS (As := [.int x1]) hk hH hz hS hl.1 hw (va_cwS 1 hts (lw_S q1317 q1318 q131 q1319) rfl rfl rfl (by decide +kernel) (z_room (Nat.le_of_ble_eq_true rfl))) rfl rfl (Nat.le_of_ble_eq_true rfl) dX0_chance_1 ⟨Nat.le_of_ble_eq_true rfl, Nat.le_of_ble_eq_true rfl⟩) hS (fun x_3 hp_1 nx_2 hw H locs hH hz hS => ?_)
  obtain ⟨P_45, hP_45, hw⟩ := hw
  have hJ_45 : ∀ (hp_4 : zHp) (nx_5 : Nat) (H : Heap) (locs : List Loc) (ls : Array Slot), P_45 hp_4 nx_5 → lv_has ls 10 [(0, va_rf (some h0)), (1, .int x1), (2, .int x2), (3, .int x3), (4, .int x4), (5, .int x5)] → zHd g hp_4 H → H.size = nx_5 → va_S (zAd g) s.heap H locs → W p l e (zrm (d + 1) 0 0) s m ([.ref h0, .int x1, .int x2, .int x3, .int x4, .int x5] : List Value).toArray below meth c H locs 0 0 (MQ below (zQi g Post) ([.ref h0, .int x1, .int x2, .int x3, .int x4, .int x5] : List Value).toArray s 0 0 (zAd g)) (F0 m 45 ls []) := by
    intro hp_4 nx_5 H locs ls hw hl hH hz hS
    have hw := hP_45 hp_4 nx_5 hw
    refine lv_bipush (v := (-2 : Int32)) hx hb dX0_chance_45 (by decide) ?_
    exact zr_iret hk hr hH hz hS hw (Nat.le_of_ble_eq_true rfl) (Nat.le_of_ble_eq_true rfl) dX0_chance_47
  refine lv_if_eq (tgt := 45) hx hb dX0_chance_4 (by decide) (fun hc => ?_) (fun hc => ?_)
  · have hw := hw.1 hc
    exact hJ_45 hp_1 nx_2 _ _ _ hw hl hH hz hS
  · have hw := hw.2 hc
    refine lv_iload_n hx hb dX0_chance_7 rfl (lv_at hl 3 rfl) ?_
    refine lv_i2l hx hb dX0_chance_8 rfl ?_
    refine lv_lconst (v := (1 : Int64)) hx hb dX0_chance_9 (by decide) ?_
    refine lv_ldc2 hx hb hown (hts _ q2566) dX0_chance_10 ?_
    refine zr_calli (zr_runS (As := [.long x3.toInt64, .long (1 : Int64), .long (20 : Int64)]) hk hH hz hS hl.1 hw (va_cwS 3 hts (lw_S q1308 q1309 q131 q1310) rfl rfl rfl (by decide +kernel) (z_room (Nat.le_of_ble_eq_true rfl))) rfl rfl (Nat.le_of_ble_eq_true rfl) dX0_chance_13 ⟨Nat.le_of_ble_eq_true rfl, Nat.le_of_ble_eq_true rfl⟩) hS (fun x_8 hp_6 nx_7 hw H locs hH hz hS => ?_)
    refine lv_if_eq (tgt := 45) hx hb dX0_chance_16 (by decide) (fun hc => ?_) (fun hc => ?_)
    · have hw := hw.1 hc
      exact hJ_45 hp_6 nx_7 _ _ _ hw hl hH hz hS
    · have hw := hw.2 hc
      refine lv_iload hx hb dX0_chance_19 (lv_at hl 4 rfl) ?_
      refine lv_i2l hx hb dX0_chance_21 rfl ?_
      refine lv_ldc2 hx hb hown (hts _ q2392) dX0_chance_22 ?_
      refine lv_ldc2 hx hb hown (hts _ q2393) dX0_chance_25 ?_
      refine zr_calli (zr_runS (As := [.long x4.toInt64, .long (-80000 : Int64), .long (80000 : Int64)]) hk hH hz hS hl.1 hw (va_cwS 3 hts (lw_S q1308 q1309 q131 q1310) rfl rfl rfl (by decide +kernel) (z_room (Nat.le_of_ble_eq_true rfl))) rfl rfl (Nat.le_of_ble_eq_true rfl) dX0_chance_28 ⟨Nat.le_of_ble_eq_true rfl, Nat.le_of_ble_eq_true rfl⟩) hS (fun x_11 hp_9 nx_10 hw H locs hH hz hS => ?_)
      refine lv_if_eq (tgt := 45) hx hb dX0_chance_31 (by decide) (fun hc => ?_) (fun hc => ?_)
      · have hw := hw.1 hc
        exact hJ_45 hp_9 nx_10 _ _ _ hw hl hH hz hS
      · have hw := hw.2 hc
        refine lv_iload hx hb dX0_chance_34 (lv_at hl 5 rfl) ?_
        refine lv_i2l hx hb dX0_chance_36 rfl ?_
        refine lv_lconst (v := (0 : Int64)) hx hb dX0_chance_37 (by decide) ?_
        refine lv_lconst (v := (1 : Int64)) hx hb dX0_chance_38 (by decide) ?_
        refine zr_calli (zr_runS (As := [.long x5.toInt64, .long (0 : Int64), .long (1 : Int64)]) hk hH hz hS hl.1 hw (va_cwS 3 hts (lw_S q1308 q1309 q131 q1310) rfl rfl rfl (by decide +kernel) (z_room (Nat.le_of_ble_eq_true rfl))) rfl rfl (Nat.le_of_ble_eq_true rfl) dX0_chance_39 ⟨Nat.le_of_ble_eq_true rfl, Nat.le_of_ble_eq_true rfl⟩) hS (fun x_14 hp_12 nx_13 hw H locs hH hz hS => ?_)
        refine lv_if_ne (tgt := 48) hx hb dX0_chance_42 (by decide) (fun hc => ?_) (fun hc => ?_)
        · have hw := hw.2 hc
          refine lv_iconst (v := (0 : Int32)) hx hb dX0_chance_48 (by decide) ?_
          refine lv_istore (lv' := [(6, .int (0 : Int32)), (0, va_rf (some h0)), (1, .int x1), (2, .int x2), (3, .int x3), (4, .int x4), (5, .int x5)]) hx hb dX0_chance_49 hl (by decide) (by first | rfl | simp [List.filter_cons, z_cat, z_catI, z_catJ, z_catF, z_catD]) (fun ls hl => ?_)
          refine lv_iconst (v := (0 : Int32)) hx hb dX0_chance_51 (by decide) ?_
          refine lv_istore (lv' := [(7, .int (0 : Int32)), (6, .int (0 : Int32)), (0, va_rf (some h0)), (1, .int x1), (2, .int x2), (3, .int x3), (4, .int x4), (5, .int x5)]) hx hb dX0_chance_52 hl (by decide) (by first | rfl | simp [List.filter_cons, z_cat, z_catI, z_catJ, z_catF, z_catD]) (fun ls hl => ?_)
          obtain ⟨I_54, ⟨n_48, hI⟩, hB_54⟩ := hw
          have hL_54 : ∀ (n_19 : Nat) (x_15 : Int32) (x_16 : Int32) (hp_17 : zHp) (nx_18 : Nat) (H : Heap) (locs : List Loc) (ls : Array Slot), I_54 n_19 x_15 x_16 hp_17 nx_18 → lv_has ls 10 [(0, va_rf (some h0)), (1, .int x1), (2, .int x2), (3, .int x3), (4, .int x4), (5, .int x5), (6, .int x_15), (7, .int x_16)] → zHd g hp_17 H → H.size = nx_18 → va_S (zAd g) s.heap H locs → W p l e (zrm (d + 1) 0 0) s m ([.ref h0, .int x1, .int x2, .int x3, .int x4, .int x5] : List Value).toArray below meth c H locs 0 0 (MQ below (zQi g Post) ([.ref h0, .int x1, .int x2, .int x3, .int x4, .int x5] : List Value).toArray s 0 0 (zAd g)) (F0 m 54 ls []) := by
            intro n_19
            induction n_19 using Nat.strongRecOn with
            | _ n_19 ih_54 =>
              intro x_15 x_16 hp_17 nx_18 H locs ls hw hl hH hz hS
              have hw := hB_54 n_19 x_15 x_16 hp_17 nx_18 hw
              refine lv_iload hx hb dX0_chance_54 (lv_at hl 7 rfl) ?_
              refine lv_iload_n hx hb dX0_chance_56 rfl (lv_at hl 3 rfl) ?_
              refine lv_icmp_ge (tgt := 88) hx hb dX0_chance_57 (by decide) (fun hc => ?_) (fun hc => ?_)
              · have hw := hw.1 hc
                refine lv_iload hx hb dX0_chance_88 (lv_at hl 6 rfl) ?_
                refine lv_istore (lv' := [(7, .int x_15), (0, va_rf (some h0)), (1, .int x1), (2, .int x2), (3, .int x3), (4, .int x4), (5, .int x5), (6, .int x_15)]) hx hb dX0_chance_90 hl (by decide) (by first | rfl | simp [List.filter_cons, z_cat, z_catI, z_catJ, z_catF, z_catD]) (fun ls hl => ?_)
                refine lv_iload_n hx hb dX0_chance_92 rfl (lv_at hl 4 rfl) ?_
                refine lv_istore (lv' := [(8, .int x3), (7, .int x_15), (0, va_rf (some h0)), (1, .int x1), (2, .int x2), (3, .int x3), (4, .int x4), (5, .int x5), (6, .int x_15)]) hx hb dX0_chance_93 hl (by decide) (by first | rfl | simp [List.filter_cons, z_cat, z_catI, z_catJ, z_catF, z_catD]) (fun ls hl => ?_)
                obtain ⟨I_95, ⟨n_34, hI⟩, hB_95⟩ := hw
                have hL_95 : ∀ (n_25 : Nat) (x_20 : Int32) (x_21 : Int32) (x_22 : Int32) (hp_23 : zHp) (nx_24 : Nat) (H : Heap) (locs : List Loc) (ls : Array Slot), I_95 n_25 x_20 x_21 x_22 hp_23 nx_24 → lv_has ls 10 [(0, va_rf (some h0)), (1, .int x1), (2, .int x2), (3, .int x3), (4, .int x4), (5, .int x5), (6, .int x_20), (7, .int x_21), (8, .int x_22)] → zHd g hp_23 H → H.size = nx_24 → va_S (zAd g) s.heap H locs → W p l e (zrm (d + 1) 0 0) s m ([.ref h0, .int x1, .int x2, .int x3, .int x4, .int x5] : List Value).toArray below meth c H locs 0 0 (MQ below (zQi g Post) ([.ref h0, .int x1, .int x2, .int x3, .int x4, .int x5] : List Value).toArray s 0 0 (zAd g)) (F0 m 95 ls []) := by
                  intro n_25
                  induction n_25 using Nat.strongRecOn with
                  | _ n_25 ih_95 =>
                    intro x_20 x_21 x_22 hp_23 nx_24 H locs ls hw hl hH hz hS
                    have hw := hB_95 n_25 x_20 x_21 x_22 hp_23 nx_24 hw
                    refine lv_iload hx hb dX0_chance_95 (lv_at hl 8 rfl) ?_
                    refine lv_if_eq (tgt := 118) hx hb dX0_chance_97 (by decide) (fun hc => ?_) (fun hc => ?_)
                    · have hw := hw.1 hc
                      refine lv_iload hx hb dX0_chance_118 (lv_at hl 5 rfl) ?_
                      obtain ⟨P_135, hP_135, hw⟩ := hw
                      have hJ_135 : ∀ (x_26 : Int32) (x_27 : Int32) (x_28 : Int32) (x_29 : Int32) (hp_30 : zHp) (nx_31 : Nat) (H : Heap) (locs : List Loc) (ls : Array Slot), P_135 x_26 x_27 x_28 x_29 hp_30 nx_31 → lv_has ls 10 [(0, va_rf (some h0)), (1, .int x1), (2, .int x2), (3, .int x3), (4, .int x4), (5, .int x5), (6, .int x_26), (7, .int x_27), (8, .int x_28)] → zHd g hp_30 H → H.size = nx_31 → va_S (zAd g) s.heap H locs → W p l e (zrm (d + 1) 0 0) s m ([.ref h0, .int x1, .int x2, .int x3, .int x4, .int x5] : List Value).toArray below meth c H locs 0 0 (MQ below (zQi g Post) ([.ref h0, .int x1, .int x2, .int x3, .int x4, .int x5] : List Value).toArray s 0 0 (zAd g)) (F0 m 135 ls [.int x_29]) := by
                        intro x_26 x_27 x_28 x_29 hp_30 nx_31 H locs ls hw hl hH hz hS
                        have hw := hP_135 x_26 x_27 x_28 x_29 hp_30 nx_31 hw
                        exact zr_iret hk hr hH hz hS hw (Nat.le_of_ble_eq_true rfl) (Nat.le_of_ble_eq_true rfl) dX0_chance_135
                      refine lv_if_ne (tgt := 131) hx hb dX0_chance_120 (by decide) (fun hc => ?_) (fun hc => ?_)
                      · have hw := hw.2 hc
                        refine lv_iload_n hx hb dX0_chance_131 rfl (lv_at hl 3 rfl) ?_
                        refine lv_iload hx hb dX0_chance_132 (lv_at hl 7 rfl) ?_
                        obtain ⟨hne, hw⟩ := hw
                        refine lv_idiv hx hb dX0_chance_134 hne ?_
                        exact hJ_135 x_20 x_21 x_22 (x3 / x_21) hp_23 nx_24 _ _ _ hw hl hH hz hS
                      · have hw := hw.1 hc
                        refine lv_iload hx hb dX0_chance_123 (lv_at hl 6 rfl) ?_
                        refine lv_iload hx hb dX0_chance_125 (lv_at hl 7 rfl) ?_
                        obtain ⟨hne, hw⟩ := hw
                        refine lv_idiv hx hb dX0_chance_127 hne ?_
                        refine lv_goto (tgt := 135) hx hb dX0_chance_128 (by decide) ?_
                        exact hJ_135 x_20 x_21 x_22 (x_20 / x_21) hp_23 nx_24 _ _ _ hw hl hH hz hS
                    · have hw := hw.2 hc
                      refine lv_iload hx hb dX0_chance_100 (lv_at hl 7 rfl) ?_
                      refine lv_iload hx hb dX0_chance_102 (lv_at hl 8 rfl) ?_
                      obtain ⟨hne, hw⟩ := hw
                      refine lv_irem hx hb dX0_chance_104 hne ?_
                      refine lv_topi (fun x_32 ex_32 => ?_)
                      have hw := hw x_32 ex_32
                      refine lv_istore (lv' := [(9, .int x_32), (0, va_rf (some h0)), (1, .int x1), (2, .int x2), (3, .int x3), (4, .int x4), (5, .int x5), (6, .int x_20), (7, .int x_21), (8, .int x_22)]) hx hb dX0_chance_105 hl (by decide) (by first | rfl | simp [List.filter_cons, z_cat, z_catI, z_catJ, z_catF, z_catD]) (fun ls hl => ?_)
                      refine lv_iload hx hb dX0_chance_107 (lv_at hl 9 rfl) ?_
                      refine lv_istore (lv' := [(7, .int x_22), (9, .int x_32), (0, va_rf (some h0)), (1, .int x1), (2, .int x2), (3, .int x3), (4, .int x4), (5, .int x5), (6, .int x_20), (8, .int x_22)]) hx hb dX0_chance_109 hl (by decide) (by first | rfl | simp [List.filter_cons, z_cat, z_catI, z_catJ, z_catF, z_catD]) (fun ls hl => ?_)
                      refine lv_iload hx hb dX0_chance_111 (lv_at hl 1 rfl) ?_
                      refine lv_istore (lv' := [(8, .int x_32), (7, .int x_22), (9, .int x_32), (0, va_rf (some h0)), (1, .int x1), (2, .int x2), (3, .int x3), (4, .int x4), (5, .int x5), (6, .int x_20)]) hx hb dX0_chance_113 hl (by decide) (by first | rfl | simp [List.filter_cons, z_cat, z_catI, z_catJ, z_catF, z_catD]) (fun ls hl => ?_)
                      refine lv_goto (tgt := 95) hx hb dX0_chance_115 (by decide) ?_
                      obtain ⟨k_33, hlt, hw⟩ := hw
                      exact ih_95 k_33 hlt x_20 x_22 x_32 hp_23 nx_24 _ _ _ hw (lv_sub hl [3, 4, 5, 6, 7, 8, 9, 1, 0] rfl) hH hz hS
                exact hL_95 n_34 x_15 x_15 x3 hp_17 nx_18 _ _ _ hI (lv_sub hl [2, 3, 4, 5, 6, 7, 8, 1, 0] rfl) hH hz hS
              · have hw := hw.2 hc
                refine zr_aload_n (r := some h0) hx hb dX0_chance_60 rfl (lv_at hl 0 rfl) ?_
                refine lv_iload_n hx hb dX0_chance_61 rfl (lv_at hl 1 rfl) ?_
                refine lv_iload_n hx hb dX0_chance_62 rfl (lv_at hl 2 rfl) ?_
                refine lv_iload hx hb dX0_chance_63 (lv_at hl 7 rfl) ?_
                refine lv_iadd hx hb dX0_chance_65 ?_
                refine lv_iload hx hb dX0_chance_66 (lv_at hl 4 rfl) ?_
                refine lv_i2d hx hb dX0_chance_68 ?_
                refine lv_ldc2d hx hb hown (hts _ q1979) dX0_chance_69 ?_
                obtain ⟨hne, hw⟩ := hw
                refine lv_ddiv hx hb dX0_chance_72 hne ?_
                obtain ⟨a_45, ci_46, fs_47, er, he, hc, hw⟩ := zo_e hw
                obtain rfl := List.mem_singleton.mp hc
                refine zr_calli (zw_runVW (As := [.int x1, .int (x2 + x_16), .double (FP.ddiv (FP.i2d x4) (4620693217682128896 : UInt64))]) hk hH hz hS hl.1 er hw (vx_cwVW 3 hts (lw_VW q2567 q2569 qs64 q131 q2570) rfl rfl rfl (by decide +kernel) (z_room (Nat.le_of_ble_eq_true rfl))) he rfl rfl rfl (Nat.le_of_ble_eq_true rfl) dX0_chance_73 ⟨Nat.le_of_ble_eq_true rfl, Nat.le_of_ble_eq_true rfl⟩) hS (fun x_37 hp_35 nx_36 hw H locs hH hz hS => ?_)
                obtain ⟨P_82, hP_82, hw⟩ := hw
                have hJ_82 : ∀ (x_38 : Int32) (x_39 : Int32) (hp_40 : zHp) (nx_41 : Nat) (H : Heap) (locs : List Loc) (ls : Array Slot), P_82 x_38 x_39 hp_40 nx_41 → lv_has ls 10 [(0, va_rf (some h0)), (1, .int x1), (2, .int x2), (3, .int x3), (4, .int x4), (5, .int x5), (6, .int x_38), (7, .int x_39)] → zHd g hp_40 H → H.size = nx_41 → va_S (zAd g) s.heap H locs → W p l e (zrm (d + 1) 0 0) s m ([.ref h0, .int x1, .int x2, .int x3, .int x4, .int x5] : List Value).toArray below meth c H locs 0 0 (MQ below (zQi g Post) ([.ref h0, .int x1, .int x2, .int x3, .int x4, .int x5] : List Value).toArray s 0 0 (zAd g)) (F0 m 82 ls []) := by
                  intro x_38 x_39 hp_40 nx_41 H locs ls hw hl hH hz hS
                  have hw := hP_82 x_38 x_39 hp_40 nx_41 hw
                  obtain ⟨x_42, ex_42⟩ : ∃ y : Int32, y = x_39 + (1 : Int32) := ⟨_, rfl⟩
                  have hw := hw x_42 ex_42
                  refine lv_iinc (v := x_42) (lv' := [(7, .int x_42), (0, va_rf (some h0)), (1, .int x1), (2, .int x2), (3, .int x3), (4, .int x4), (5, .int x5), (6, .int x_38)]) hx hb dX0_chance_82 hl (k := 7) rfl (by rw [ex_42]; rfl) (by decide) (by first | rfl | simp [List.filter_cons, z_cat, z_catI, z_catJ, z_catF, z_catD]) (fun ls hl => ?_)
                  refine lv_goto (tgt := 54) hx hb dX0_chance_85 (by decide) ?_
                  obtain ⟨k_43, hlt, hw⟩ := hw
                  exact ih_54 k_43 hlt x_38 x_42 hp_40 nx_41 _ _ _ hw (lv_sub hl [1, 2, 3, 4, 5, 6, 7, 0] rfl) hH hz hS
                refine lv_if_eq (tgt := 82) hx hb dX0_chance_76 (by decide) (fun hc => ?_) (fun hc => ?_)
                · have hw := hw.1 hc
                  exact hJ_82 x_15 x_16 hp_35 nx_36 _ _ _ hw hl hH hz hS
                · have hw := hw.2 hc
                  obtain ⟨x_44, ex_44⟩ : ∃ y : Int32, y = x_15 + (1 : Int32) := ⟨_, rfl⟩
                  have hw := hw x_44 ex_44
                  refine lv_iinc (v := x_44) (lv' := [(6, .int x_44), (0, va_rf (some h0)), (1, .int x1), (2, .int x2), (3, .int x3), (4, .int x4), (5, .int x5), (7, .int x_16)]) hx hb dX0_chance_79 hl (k := 6) rfl (by rw [ex_44]; rfl) (by decide) (by first | rfl | simp [List.filter_cons, z_cat, z_catI, z_catJ, z_catF, z_catD]) (fun ls hl => ?_)
                  exact hJ_82 x_44 x_16 hp_35 nx_36 _ _ _ hw (lv_sub hl [1, 2, 3, 4, 5, 6, 0, 7] rfl) hH hz hS
          exact hL_54 n_48 (0 : Int32) (0 : Int32) hp_12 nx_13 _ _ _ hI (lv_sub hl [2, 3, 4, 5, 6, 7, 1, 0] rfl) hH hz hS
        · have hw := hw.1 hc
          exact hJ_45 hp_12 nx_13 _ _ _ hw hl hH hz hS
theorem fk_X0_101 {ci : Nat} (h : ci ∈ [0]) : zFk "WhatIfSheet" 101 ci 23 := by
  simp only [List.mem_cons, List.not_mem_nil, or_false] at h
  rcases h with rfl
  · exact ⟨RX0, TX0, 30, rfl, by decide, q1235⟩
def wp_X0_comes (l : Launch) (g : zG) (d : Nat) (h0 : Nat) (x1 : Int32) (x2 : Int32) (x3 : UInt64) (hp : zHp) (nx : Nat) (Post : Int32 → zHp → Nat → Prop) : Prop :=
  (zgR hp (some h0) [0] 12 fun r_4 =>
  (zaR (g.2.1 10) hp r_4 fun a_5 n_6 f_7 => vp_in x1 n_6 ∧ ∀ r_8 : Option Nat, r_8 = f_7 x1.toNatClampNeg →
  (zo hp r_8 [34] fun a_137 ci_138 fs_139 => zMt l g yJ0_nextSetBit cJ0_nextSetBit 5 (some .int) d 0 0 (.ref a_137 :: [.int (0 : Int32)]) hp nx (zQi g fun x_11 hp_9 nx_10 =>
  (∃ I_19 : Nat → (Option Nat) → Int32 → Int32 → zHp → Nat → Prop, (∃ n_136, I_19 n_136 r_8 x2 x_11 hp_9 nx_10) ∧ ∀ (n_17 : Nat) (r_12 : Option Nat) (x_13 : Int32) (x_14 : Int32) (hp_15 : zHp) (nx_16 : Nat), I_19 n_17 r_12 x_13 x_14 hp_15 nx_16 →
  ((x_14 < 0 →
  (zo hp_15 (some h0) [0] fun a_78 ci_79 fs_80 => zMt l g yX0_asked cX0_asked 2 (some .double) d 0 0 (.ref a_78 :: [.int x1]) hp_15 nx_16 (zQd g fun x_20 hp_18 nx_19 =>
  (zgI hp_18 (some h0) [0] 2 fun x_24 =>
  (∃ P_131 : (Option Nat) → Int32 → UInt64 → Int32 → zHp → Nat → Prop, (∀ (r_25 : Option Nat) (x_26 : Int32) (x_27 : UInt64) (x_28 : Int32) (hp_29 : zHp) (nx_30 : Nat), P_131 r_25 x_26 x_27 x_28 hp_29 nx_30 →
  (zo hp_29 r_25 [34] fun a_70 ci_71 fs_72 => zMt l g yJ0_nextSetBit cJ0_nextSetBit 5 (some .int) d 0 0 (.ref a_70 :: [.int (0 : Int32)]) hp_29 nx_30 (zQi g fun x_33 hp_31 nx_32 =>
  (∃ I_141 : Nat → (Option Nat) → Int32 → UInt64 → Int32 → Int32 → zHp → Nat → Prop, (∃ n_69, I_141 n_69 r_25 x_26 x_27 x_28 x_33 hp_31 nx_32) ∧ ∀ (n_41 : Nat) (r_34 : Option Nat) (x_35 : Int32) (x_36 : UInt64) (x_37 : Int32) (x_38 : Int32) (hp_39 : zHp) (nx_40 : Nat), I_141 n_41 r_34 x_35 x_36 x_37 x_38 hp_39 nx_40 →
  ((x_38 < 0 →
  (((x_37 = 0 ∨ x_37 = 1) ∧ Post x_37 hp_39 nx_40))) ∧
  (¬ x_38 < 0 →
  (zgR hp_39 (some h0) [0] 0 fun r_45 =>
  (zaR (g.2.1 7) hp_39 r_45 fun a_46 n_47 f_48 => vp_in x_38 n_47 ∧ ∀ r_49 : Option Nat, r_49 = f_48 x_38.toNatClampNeg →
  (zgR hp_39 (some h0) [0] 23 fun r_53 =>
  (zaD (g.2.1 1) hp_39 r_53 fun a_54 n_55 f_56 => vp_in x_38 n_55 ∧ ∀ x_57 : UInt64, x_57 = f_56 x_38.toNatClampNeg →
  (zpt g hp_39 r_49 [2, 6, 7, 8, 9, 10] 2 (.double x_57) fun hp_61 =>
  (zo hp_61 r_34 [34] fun a_66 ci_67 fs_68 => zMt l g yJ0_nextSetBit cJ0_nextSetBit 5 (some .int) d 0 0 (.ref a_66 :: [.int (x_38 + (1 : Int32))]) hp_61 nx_40 (zQi g fun x_64 hp_62 nx_63 =>
  (∃ k_65, k_65 < n_41 ∧ I_141 k_65 r_34 x_35 x_36 x_37 x_64 hp_62 nx_63)))))))))))))) ∧
  (∃ P_130 : (Option Nat) → Int32 → UInt64 → zHp → Nat → Prop, (∀ (r_73 : Option Nat) (x_74 : Int32) (x_75 : UInt64) (hp_76 : zHp) (nx_77 : Nat), P_130 r_73 x_74 x_75 hp_76 nx_77 →
  P_131 r_73 x_74 x_75 (0 : Int32) hp_76 nx_77) ∧
  ((x_24 = 0 →
  (((Op.cmpValue (FP.dcmp x_20 x3) .l) < 0 →
  P_130 r_12 x_13 x_20 hp_18 nx_19) ∧
  (¬ (Op.cmpValue (FP.dcmp x_20 x3) .l) < 0 →
  P_131 r_12 x_13 x_20 (1 : Int32) hp_18 nx_19))) ∧
  (¬ x_24 = 0 →
  P_130 r_12 x_13 x_20 hp_18 nx_19)))))))) ∧
  (¬ x_14 < 0 →
  (zgR hp_15 (some h0) [0] 23 fun r_84 =>
  (zgR hp_15 (some h0) [0] 0 fun r_88 =>
  (zaR (g.2.1 7) hp_15 r_88 fun a_89 n_90 f_91 => vp_in x_14 n_90 ∧ ∀ r_92 : Option Nat, r_92 = f_91 x_14.toNatClampNeg →
  (zgD hp_15 r_92 [2, 6, 7, 8, 9, 10] 2 fun x_96 =>
  (zaD (g.2.1 1) hp_15 r_84 fun a_97 n_98 f_99 => vp_in x_14 n_98 ∧ zB g ≤ a_97 ∧ ∀ hp_100 : zHp, hp_100 = va_up hp_15 a_97 (some (.inl (g.2.1 1, n_98, .inr (.inr (.inr (.inl (va_up f_99 x_14.toNatClampNeg x_96))))))) →
  (∀ x_101 : Int32, x_101 = (x_13 * (1103515245 : Int32)) + (12345 : Int32) →
  (zgR hp_100 (some h0) [0] 0 fun r_105 =>
  (zaR (g.2.1 7) hp_100 r_105 fun a_106 n_107 f_108 => vp_in x_14 n_107 ∧ ∀ r_109 : Option Nat, r_109 = f_108 x_14.toNatClampNeg →
  (zgR hp_100 (some h0) [0] 0 fun r_113 =>
  (zaR (g.2.1 7) hp_100 r_113 fun a_114 n_115 f_116 => vp_in x_14 n_115 ∧ ∀ r_117 : Option Nat, r_117 = f_116 x_14.toNatClampNeg →
  (¬ (401 : Int32) = 0 ∧ (vf_n64 (FP.ddiv (FP.i2d ((((x_101.toUInt32 >>> ((9 : Int32).toUInt32 &&& Int32.toUInt32 31)).toInt32) - ((x_101.toUInt32 >>> ((9 : Int32).toUInt32 &&& Int32.toUInt32 31)).toInt32) / (401 : Int32) * (401 : Int32)) - (200 : Int32))) (4620693217682128896 : UInt64)) ∧ (zo hp_100 r_117 [2, 6, 7, 8, 9, 10] fun a_132 ci_133 fs_134 => ∃ PP_135 : UInt64 → zHp → Nat → Prop, (∀ (x_120 : UInt64) (hp_118 : zHp) (nx_119 : Nat), PP_135 x_120 hp_118 nx_119 →
  (zpt g hp_118 r_109 [2, 6, 7, 8, 9, 10] 2 (.double x_120) fun hp_124 =>
  (zo hp_124 r_12 [34] fun a_129 ci_130 fs_131 => zMt l g yJ0_nextSetBit cJ0_nextSetBit 5 (some .int) d 0 0 (.ref a_129 :: [.int (x_14 + (1 : Int32))]) hp_124 nx_119 (zQi g fun x_127 hp_125 nx_126 =>
  (∃ k_128, k_128 < n_17 ∧ I_19 k_128 r_12 x_101 x_127 hp_125 nx_126))))) ∧ zMt l g yX2_kept cX2_kept 5 (some .double) d 0 0 (.ref a_132 :: [.double (FP.ddiv (FP.i2d ((((x_101.toUInt32 >>> ((9 : Int32).toUInt32 &&& Int32.toUInt32 31)).toInt32) - ((x_101.toUInt32 >>> ((9 : Int32).toUInt32 &&& Int32.toUInt32 31)).toInt32) / (401 : Int32) * (401 : Int32)) - (200 : Int32))) (4620693217682128896 : UInt64))]) hp_100 nx_16 (zQd g PP_135)))))))))))))))))))))
set_option maxHeartbeats 40000000 in
theorem met_X0_comes {l : Launch} {g : zG} {d : Nat} {h0 : Nat} {x1 : Int32} {x2 : Int32} {x3 : UInt64} {hp : zHp} {nx : Nat} {Post : Int32 → zHp → Nat → Prop} (hw : wp_X0_comes l g d h0 x1 x2 x3 hp nx Post) : zMtW l g yX0_comes cX0_comes 13 (some .boolean) [(105, 133, 180, 0), (180, 182, 180, 0)] (d + 1) 0 0 [.ref h0, .int x1, .int x2, .double x3] hp nx (zQi g Post) := by
  refine z_startW (by decide) (Nat.le_of_ble_eq_true rfl) ?_
  intro p e s m below meth c hk hr hin hH hz ls hl
  have hx := hk.1.1
  have hb := hk.1.2.1
  have hown := hk.1.2.2.2.1
  have hts := hk.1.2.2.2.2
  have hS : va_S (zAd g) s.heap s.heap [] := va_S.rf
  have hl : lv_has ls 13 [(0, va_rf (some h0)), (1, .int x1), (2, .int x2), (3, .double x3)] := hl
  unfold wp_X0_comes at hw
  refine zr_aload_n (r := some h0) hx hb dX0_comes_0 rfl (lv_at hl 0 rfl) ?_
  obtain ⟨a_1, ci_2, fs_3, r_4, er, he, hc, hv, hw⟩ := zgR_e hw
  refine zw_get hk hH er he hv (fk_X0_62 hc) dX0_comes_1 ?_
  refine lv_iload_n hx hb dX0_comes_4 rfl (lv_at hl 1 rfl) ?_
  obtain ⟨a_5, n_6, f_7, er, he, hi, hw⟩ := zaR_e hw
  have hw := hw _ rfl
  refine zw_aald hk hH 10 er he rfl rfl hi dX0_comes_5 ?_
  generalize f_7 x1.toNatClampNeg = r_8 at hw ⊢
  refine zr_astore (r := r_8) (lv' := [(5, va_rf r_8), (0, va_rf (some h0)), (1, .int x1), (2, .int x2), (3, .double x3)]) hx hb dX0_comes_6 hl (by decide) (by first | rfl | simp [List.filter_cons, z_cat, z_catI, z_catJ, z_catF, z_catD]) (fun ls hl => ?_)
  refine lv_iload_n hx hb dX0_comes_8 rfl (lv_at hl 3 rfl) ?_
  refine lv_istore (lv' := [(6, .int x2), (5, va_rf r_8), (0, va_rf (some h0)), (1, .int x1), (2, .int x2), (3, .double x3)]) hx hb dX0_comes_9 hl (by decide) (by first | rfl | simp [List.filter_cons, z_cat, z_catI, z_catJ, z_catF, z_catD]) (fun ls hl => ?_)
  refine zr_aload (r := r_8) hx hb dX0_comes_11 (lv_at hl 1 rfl) ?_
  refine lv_iconst (v := (0 : Int32)) hx hb dX0_comes_13 (by decide) ?_
  obtain ⟨a_137, ci_138, fs_139, er, he, hc, hw⟩ := zo_e hw
  obtain rfl := List.mem_singleton.mp hc
  refine zr_calli (zw_runV (As := [.int (0 : Int32)]) hk hH hz hS hl.1 er hw (cwV 1 hts (lw_V q944 q945 q946 q133 q947) rfl rfl rfl (by decide +kernel) (z_room (Nat.le_of_ble_eq_true rfl))) he rfl rfl rfl (Nat.le_of_ble_eq_true rfl) dX0_comes_14 ⟨Nat.le_of_ble_eq_true rfl, Nat.le_of_ble_eq_true rfl⟩) hS (fun x_11 hp_9 nx_10 hw H locs hH hz hS => ?_)
  refine lv_istore (lv' := [(7, .int x_11), (6, .int x2), (5, va_rf r_8), (0, va_rf (some h0)), (1, .int x1), (2, .int x2), (3, .double x3)]) hx hb dX0_comes_17 hl (by decide) (by first | rfl | simp [List.filter_cons, z_cat, z_catI, z_catJ, z_catF, z_catD]) (fun ls hl => ?_)
  obtain ⟨I_19, ⟨n_136, hI⟩, hB_19⟩ := hw
  have hL_19 : ∀ (n_17 : Nat) (r_12 : Option Nat) (x_13 : Int32) (x_14 : Int32) (hp_15 : zHp) (nx_16 : Nat) (H : Heap) (locs : List Loc) (ls : Array Slot), I_19 n_17 r_12 x_13 x_14 hp_15 nx_16 → lv_has ls 13 [(0, va_rf (some h0)), (1, .int x1), (2, .int x2), (3, .double x3), (5, va_rf r_12), (6, .int x_13), (7, .int x_14)] → zHd g hp_15 H → H.size = nx_16 → va_S (zAd g) s.heap H locs → W p l e (zrm (d + 1) 0 0) s m ([.ref h0, .int x1, .int x2, .double x3] : List Value).toArray below meth c H locs 0 0 (MQ below (zQi g Post) ([.ref h0, .int x1, .int x2, .double x3] : List Value).toArray s 0 0 (zAd g)) (F0 m 19 ls []) := by
    intro n_17
    induction n_17 using Nat.strongRecOn with
    | _ n_17 ih_19 =>
      intro r_12 x_13 x_14 hp_15 nx_16 H locs ls hw hl hH hz hS
      have hw := hB_19 n_17 r_12 x_13 x_14 hp_15 nx_16 hw
      refine lv_iload hx hb dX0_comes_19 (lv_at hl 6 rfl) ?_
      refine lv_if_lt (tgt := 105) hx hb dX0_comes_21 (by decide) (fun hc => ?_) (fun hc => ?_)
      · have hw := hw.1 hc
        refine zr_aload_n (r := some h0) hx hb dX0_comes_105 rfl (lv_at hl 0 rfl) ?_
        refine lv_iload_n hx hb dX0_comes_106 rfl (lv_at hl 1 rfl) ?_
        obtain ⟨a_78, ci_79, fs_80, er, he, hc, hw⟩ := zo_e hw
        obtain rfl := List.mem_singleton.mp hc
        refine zr_calld (zw_runV (As := [.int x1]) hk hH hz hS hl.1 er hw (cwV 1 hts (lw_V q2127 q2129 qs40 q131 q2130) rfl rfl rfl (by decide +kernel) (z_room (Nat.le_of_ble_eq_true rfl))) he rfl rfl rfl (Nat.le_of_ble_eq_true rfl) dX0_comes_107 ⟨Nat.le_of_ble_eq_true rfl, Nat.le_of_ble_eq_true rfl⟩) hS (fun x_20 hp_18 nx_19 hw H locs hH hz hS => ?_)
        refine lv_dstore (lv' := [(7, .double x_20), (0, va_rf (some h0)), (1, .int x1), (2, .int x2), (3, .double x3), (5, va_rf r_12), (6, .int x_13)]) hx hb dX0_comes_110 hl (by decide) (by first | rfl | simp [List.filter_cons, z_cat, z_catI, z_catJ, z_catF, z_catD]) (fun ls hl => ?_)
        refine zr_aload_n (r := some h0) hx hb dX0_comes_112 rfl (lv_at hl 1 rfl) ?_
        obtain ⟨a_21, ci_22, fs_23, x_24, er, he, hc, hv, hw⟩ := zgI_e hw
        refine zw_get hk hH er he hv (fk_X0_138 hc) dX0_comes_113 ?_
        obtain ⟨P_131, hP_131, hw⟩ := hw
        have hJ_131 : ∀ (r_25 : Option Nat) (x_26 : Int32) (x_27 : UInt64) (x_28 : Int32) (hp_29 : zHp) (nx_30 : Nat) (H : Heap) (locs : List Loc) (ls : Array Slot), P_131 r_25 x_26 x_27 x_28 hp_29 nx_30 → lv_has ls 13 [(0, va_rf (some h0)), (1, .int x1), (2, .int x2), (3, .double x3), (5, va_rf r_25), (6, .int x_26), (7, .double x_27)] → zHd g hp_29 H → H.size = nx_30 → va_S (zAd g) s.heap H locs → W p l e (zrm (d + 1) 0 0) s m ([.ref h0, .int x1, .int x2, .double x3] : List Value).toArray below meth c H locs 0 0 (MQ below (zQi g Post) ([.ref h0, .int x1, .int x2, .double x3] : List Value).toArray s 0 0 (zAd g)) (F0 m 131 ls [.int x_28]) := by
          intro r_25 x_26 x_27 x_28 hp_29 nx_30 H locs ls hw hl hH hz hS
          have hw := hP_131 r_25 x_26 x_27 x_28 hp_29 nx_30 hw
          refine lv_istore (lv' := [(9, .int x_28), (0, va_rf (some h0)), (1, .int x1), (2, .int x2), (3, .double x3), (5, va_rf r_25), (6, .int x_26), (7, .double x_27)]) hx hb dX0_comes_131 hl (by decide) (by first | rfl | simp [List.filter_cons, z_cat, z_catI, z_catJ, z_catF, z_catD]) (fun ls hl => ?_)
          refine zr_aload (r := r_25) hx hb dX0_comes_133 (lv_at hl 5 rfl) ?_
          refine lv_iconst (v := (0 : Int32)) hx hb dX0_comes_135 (by decide) ?_
          obtain ⟨a_70, ci_71, fs_72, er, he, hc, hw⟩ := zo_e hw
          obtain rfl := List.mem_singleton.mp hc
          refine zr_calli (zw_runV (As := [.int (0 : Int32)]) hk hH hz hS hl.1 er hw (cwV 1 hts (lw_V q944 q945 q946 q133 q947) rfl rfl rfl (by decide +kernel) (z_room (Nat.le_of_ble_eq_true rfl))) he rfl rfl rfl (Nat.le_of_ble_eq_true rfl) dX0_comes_136 ⟨Nat.le_of_ble_eq_true rfl, Nat.le_of_ble_eq_true rfl⟩) hS (fun x_33 hp_31 nx_32 hw H locs hH hz hS => ?_)
          refine lv_istore (lv' := [(10, .int x_33), (9, .int x_28), (0, va_rf (some h0)), (1, .int x1), (2, .int x2), (3, .double x3), (5, va_rf r_25), (6, .int x_26), (7, .double x_27)]) hx hb dX0_comes_139 hl (by decide) (by first | rfl | simp [List.filter_cons, z_cat, z_catI, z_catJ, z_catF, z_catD]) (fun ls hl => ?_)
          obtain ⟨I_141, ⟨n_69, hI⟩, hB_141⟩ := hw
          have hL_141 : ∀ (n_41 : Nat) (r_34 : Option Nat) (x_35 : Int32) (x_36 : UInt64) (x_37 : Int32) (x_38 : Int32) (hp_39 : zHp) (nx_40 : Nat) (H : Heap) (locs : List Loc) (ls : Array Slot), I_141 n_41 r_34 x_35 x_36 x_37 x_38 hp_39 nx_40 → lv_has ls 13 [(0, va_rf (some h0)), (1, .int x1), (2, .int x2), (3, .double x3), (5, va_rf r_34), (6, .int x_35), (7, .double x_36), (9, .int x_37), (10, .int x_38)] → zHd g hp_39 H → H.size = nx_40 → va_S (zAd g) s.heap H locs → W p l e (zrm (d + 1) 0 0) s m ([.ref h0, .int x1, .int x2, .double x3] : List Value).toArray below meth c H locs 0 0 (MQ below (zQi g Post) ([.ref h0, .int x1, .int x2, .double x3] : List Value).toArray s 0 0 (zAd g)) (F0 m 141 ls []) := by
            intro n_41
            induction n_41 using Nat.strongRecOn with
            | _ n_41 ih_141 =>
              intro r_34 x_35 x_36 x_37 x_38 hp_39 nx_40 H locs ls hw hl hH hz hS
              have hw := hB_141 n_41 r_34 x_35 x_36 x_37 x_38 hp_39 nx_40 hw
              refine lv_iload hx hb dX0_comes_141 (lv_at hl 8 rfl) ?_
              refine lv_if_lt (tgt := 177) hx hb dX0_comes_143 (by decide) (fun hc => ?_) (fun hc => ?_)
              · have hw := hw.1 hc
                refine lv_iload hx hb dX0_comes_177 (lv_at hl 7 rfl) ?_
                exact zr_zret hk hr hH hz hS hw.1 hw.2 (Nat.le_of_ble_eq_true rfl) (Nat.le_of_ble_eq_true rfl) dX0_comes_179
              · have hw := hw.2 hc
                refine zr_aload_n (r := some h0) hx hb dX0_comes_146 rfl (lv_at hl 0 rfl) ?_
                obtain ⟨a_42, ci_43, fs_44, r_45, er, he, hc, hv, hw⟩ := zgR_e hw
                refine zw_get hk hH er he hv (fk_X0_31 hc) dX0_comes_147 ?_
                refine lv_iload hx hb dX0_comes_150 (lv_at hl 8 rfl) ?_
                obtain ⟨a_46, n_47, f_48, er, he, hi, hw⟩ := zaR_e hw
                have hw := hw _ rfl
                refine zw_aald hk hH 7 er he rfl rfl hi dX0_comes_152 ?_
                generalize f_48 x_38.toNatClampNeg = r_49 at hw ⊢
                refine zr_aload_n (r := some h0) hx hb dX0_comes_153 rfl (lv_at hl 0 rfl) ?_
                obtain ⟨a_50, ci_51, fs_52, r_53, er, he, hc, hv, hw⟩ := zgR_e hw
                refine zw_get hk hH er he hv (fk_X0_101 hc) dX0_comes_154 ?_
                refine lv_iload hx hb dX0_comes_157 (lv_at hl 8 rfl) ?_
                obtain ⟨a_54, n_55, f_56, er, he, hi, hw⟩ := zaD_e hw
                have hw := hw _ rfl
                refine zw_dald hk hH er he hi dX0_comes_159 ?_
                generalize f_56 x_38.toNatClampNeg = x_57 at hw ⊢
                obtain ⟨a_58, ci_59, fs_60, hp_61, er, he, hc, hA, hkl, eh, hw⟩ := zpt_e hw
                refine zw_put hk hH hz hS er he hA hkl eh (fp_X0_209 hc) rfl rfl dX0_comes_160 (fun H locs hH hz hS => ?_)
                refine zr_aload (r := r_34) hx hb dX0_comes_163 (lv_at hl 4 rfl) ?_
                refine lv_iload hx hb dX0_comes_165 (lv_at hl 8 rfl) ?_
                refine lv_iconst (v := (1 : Int32)) hx hb dX0_comes_167 (by decide) ?_
                refine lv_iadd hx hb dX0_comes_168 ?_
                obtain ⟨a_66, ci_67, fs_68, er, he, hc, hw⟩ := zo_e hw
                obtain rfl := List.mem_singleton.mp hc
                refine zr_calli (zw_runV (As := [.int (x_38 + (1 : Int32))]) hk hH hz hS hl.1 er hw (cwV 1 hts (lw_V q944 q945 q946 q133 q947) rfl rfl rfl (by decide +kernel) (z_room (Nat.le_of_ble_eq_true rfl))) he rfl rfl rfl (Nat.le_of_ble_eq_true rfl) dX0_comes_169 ⟨Nat.le_of_ble_eq_true rfl, Nat.le_of_ble_eq_true rfl⟩) hS (fun x_64 hp_62 nx_63 hw H locs hH hz hS => ?_)
                refine lv_istore (lv' := [(10, .int x_64), (0, va_rf (some h0)), (1, .int x1), (2, .int x2), (3, .double x3), (5, va_rf r_34), (6, .int x_35), (7, .double x_36), (9, .int x_37)]) hx hb dX0_comes_172 hl (by decide) (by first | rfl | simp [List.filter_cons, z_cat, z_catI, z_catJ, z_catF, z_catD]) (fun ls hl => ?_)
                refine lv_goto (tgt := 141) hx hb dX0_comes_174 (by decide) ?_
                obtain ⟨k_65, hlt, hw⟩ := hw
                exact ih_141 k_65 hlt r_34 x_35 x_36 x_37 x_64 hp_62 nx_63 _ _ _ hw (lv_sub hl [1, 2, 3, 4, 5, 6, 7, 8, 0] rfl) hH hz hS
          exact hL_141 n_69 r_25 x_26 x_27 x_28 x_33 hp_31 nx_32 _ _ _ hI (lv_sub hl [2, 3, 4, 5, 6, 7, 8, 1, 0] rfl) hH hz hS
        obtain ⟨P_130, hP_130, hw⟩ := hw
        have hJ_130 : ∀ (r_73 : Option Nat) (x_74 : Int32) (x_75 : UInt64) (hp_76 : zHp) (nx_77 : Nat) (H : Heap) (locs : List Loc) (ls : Array Slot), P_130 r_73 x_74 x_75 hp_76 nx_77 → lv_has ls 13 [(0, va_rf (some h0)), (1, .int x1), (2, .int x2), (3, .double x3), (5, va_rf r_73), (6, .int x_74), (7, .double x_75)] → zHd g hp_76 H → H.size = nx_77 → va_S (zAd g) s.heap H locs → W p l e (zrm (d + 1) 0 0) s m ([.ref h0, .int x1, .int x2, .double x3] : List Value).toArray below meth c H locs 0 0 (MQ below (zQi g Post) ([.ref h0, .int x1, .int x2, .double x3] : List Value).toArray s 0 0 (zAd g)) (F0 m 130 ls []) := by
          intro r_73 x_74 x_75 hp_76 nx_77 H locs ls hw hl hH hz hS
          have hw := hP_130 r_73 x_74 x_75 hp_76 nx_77 hw
          refine lv_iconst (v := (0 : Int32)) hx hb dX0_comes_130 (by decide) ?_
          exact hJ_131 r_73 x_74 x_75 (0 : Int32) hp_76 nx_77 _ _ _ hw hl hH hz hS
        refine lv_if_ne (tgt := 130) hx hb dX0_comes_116 (by decide) (fun hc => ?_) (fun hc => ?_)
        · have hw := hw.2 hc
          exact hJ_130 r_12 x_13 x_20 hp_18 nx_19 _ _ _ hw (lv_sub hl [1, 2, 3, 4, 5, 6, 0] rfl) hH hz hS
        · have hw := hw.1 hc
          refine lv_dload hx hb dX0_comes_119 (lv_at hl 0 rfl) ?_
          refine lv_dload_n hx hb dX0_comes_121 rfl (lv_at hl 4 rfl) ?_
          refine lv_dcmp hx hb dX0_comes_122 ?_
          refine lv_if_lt (tgt := 130) hx hb dX0_comes_123 (by decide) (fun hc => ?_) (fun hc => ?_)
          · have hw := hw.1 hc
            exact hJ_130 r_12 x_13 x_20 hp_18 nx_19 _ _ _ hw (lv_sub hl [1, 2, 3, 4, 5, 6, 0] rfl) hH hz hS
          · have hw := hw.2 hc
            refine lv_iconst (v := (1 : Int32)) hx hb dX0_comes_126 (by decide) ?_
            refine lv_goto (tgt := 131) hx hb dX0_comes_127 (by decide) ?_
            exact hJ_131 r_12 x_13 x_20 (1 : Int32) hp_18 nx_19 _ _ _ hw (lv_sub hl [1, 2, 3, 4, 5, 6, 0] rfl) hH hz hS
      · have hw := hw.2 hc
        refine zr_aload_n (r := some h0) hx hb dX0_comes_24 rfl (lv_at hl 0 rfl) ?_
        obtain ⟨a_81, ci_82, fs_83, r_84, er, he, hc, hv, hw⟩ := zgR_e hw
        refine zw_get hk hH er he hv (fk_X0_101 hc) dX0_comes_25 ?_
        refine lv_iload hx hb dX0_comes_28 (lv_at hl 6 rfl) ?_
        refine zr_aload_n (r := some h0) hx hb dX0_comes_30 rfl (lv_at hl 0 rfl) ?_
        obtain ⟨a_85, ci_86, fs_87, r_88, er, he, hc, hv, hw⟩ := zgR_e hw
        refine zw_get hk hH er he hv (fk_X0_31 hc) dX0_comes_31 ?_
        refine lv_iload hx hb dX0_comes_34 (lv_at hl 6 rfl) ?_
        obtain ⟨a_89, n_90, f_91, er, he, hi, hw⟩ := zaR_e hw
        have hw := hw _ rfl
        refine zw_aald hk hH 7 er he rfl rfl hi dX0_comes_36 ?_
        generalize f_91 x_14.toNatClampNeg = r_92 at hw ⊢
        obtain ⟨a_93, ci_94, fs_95, x_96, er, he, hc, hv, hw⟩ := zgD_e hw
        refine zw_get hk hH er he hv (fk_X0_209 hc) dX0_comes_37 ?_
        obtain ⟨a_97, n_98, f_99, er, he, hi, hA, hw⟩ := zaD_e hw
        obtain ⟨hp_100, eh⟩ : ∃ y : zHp, y = va_up hp_15 a_97 (some (.inl (g.2.1 1, n_98, .inr (.inr (.inr (.inl (va_up f_99 x_14.toNatClampNeg x_96))))))) := ⟨_, rfl⟩
        have hw := hw hp_100 eh
        refine zw_dast hk hH hz hS er he hi hA eh dX0_comes_40 (fun H locs hH hz hS => ?_)
        refine lv_iload hx hb dX0_comes_41 (lv_at hl 5 rfl) ?_
        refine lv_ldcw hx hb hown (hts _ q2571) dX0_comes_43 ?_
        refine lv_imul hx hb dX0_comes_46 ?_
        refine lv_sipush (v := (12345 : Int32)) hx hb dX0_comes_47 (by decide) ?_
        refine lv_iadd hx hb dX0_comes_50 ?_
        refine lv_topi (fun x_101 ex_101 => ?_)
        have hw := hw x_101 ex_101
        refine lv_istore (lv' := [(6, .int x_101), (0, va_rf (some h0)), (1, .int x1), (2, .int x2), (3, .double x3), (5, va_rf r_12), (7, .int x_14)]) hx hb dX0_comes_51 hl (by decide) (by first | rfl | simp [List.filter_cons, z_cat, z_catI, z_catJ, z_catF, z_catD]) (fun ls hl => ?_)
        refine zr_aload_n (r := some h0) hx hb dX0_comes_53 rfl (lv_at hl 1 rfl) ?_
        obtain ⟨a_102, ci_103, fs_104, r_105, er, he, hc, hv, hw⟩ := zgR_e hw
        refine zw_get hk hH er he hv (fk_X0_31 hc) dX0_comes_54 ?_
        refine lv_iload hx hb dX0_comes_57 (lv_at hl 6 rfl) ?_
        obtain ⟨a_106, n_107, f_108, er, he, hi, hw⟩ := zaR_e hw
        have hw := hw _ rfl
        refine zw_aald hk hH 7 er he rfl rfl hi dX0_comes_59 ?_
        generalize f_108 x_14.toNatClampNeg = r_109 at hw ⊢
        refine zr_aload_n (r := some h0) hx hb dX0_comes_60 rfl (lv_at hl 1 rfl) ?_
        obtain ⟨a_110, ci_111, fs_112, r_113, er, he, hc, hv, hw⟩ := zgR_e hw
        refine zw_get hk hH er he hv (fk_X0_31 hc) dX0_comes_61 ?_
        refine lv_iload hx hb dX0_comes_64 (lv_at hl 6 rfl) ?_
        obtain ⟨a_114, n_115, f_116, er, he, hi, hw⟩ := zaR_e hw
        have hw := hw _ rfl
        refine zw_aald hk hH 7 er he rfl rfl hi dX0_comes_66 ?_
        generalize f_116 x_14.toNatClampNeg = r_117 at hw ⊢
        refine lv_iload hx hb dX0_comes_67 (lv_at hl 0 rfl) ?_
        refine lv_bipush (v := (9 : Int32)) hx hb dX0_comes_69 (by decide) ?_
        refine lv_iushr hx hb dX0_comes_71 rfl ?_
        refine lv_sipush (v := (401 : Int32)) hx hb dX0_comes_72 (by decide) ?_
        obtain ⟨hne, hw⟩ := hw
        refine lv_irem hx hb dX0_comes_75 hne ?_
        refine lv_sipush (v := (200 : Int32)) hx hb dX0_comes_76 (by decide) ?_
        refine lv_isub hx hb dX0_comes_79 ?_
        refine lv_i2d hx hb dX0_comes_80 ?_
        refine lv_ldc2d hx hb hown (hts _ q1979) dX0_comes_81 ?_
        obtain ⟨hne, hw⟩ := hw
        refine lv_ddiv hx hb dX0_comes_84 hne ?_
        obtain ⟨a_132, ci_133, fs_134, er, he, hc, PP_135, hPP, hw⟩ := zo_e hw
        have hC : ∀ (x_120 : UInt64) (hp_118 : zHp) (nx_119 : Nat), PP_135 x_120 hp_118 nx_119 → ∀ (H : Heap) (locs : List Loc), zHd g hp_118 H → H.size = nx_119 → va_S (zAd g) s.heap H locs → W p l e (zrm (d + 1) 0 0) s m ([.ref h0, .int x1, .int x2, .double x3] : List Value).toArray below meth c H locs (0 + 0) (0 + 0) (MQ below (zQi g Post) ([.ref h0, .int x1, .int x2, .double x3] : List Value).toArray s 0 0 (zAd g)) (F0 m 88 ls [.double x_120, va_rf r_109]) := by
          intro x_120 hp_118 nx_119 hw H locs hH hz hS
          have hw := hPP x_120 hp_118 nx_119 hw
          obtain ⟨a_121, ci_122, fs_123, hp_124, er, he, hc, hA, hkl, eh, hw⟩ := zpt_e hw
          refine zw_put hk hH hz hS er he hA hkl eh (fp_X0_209 hc) rfl rfl dX0_comes_88 (fun H locs hH hz hS => ?_)
          refine zr_aload (r := r_12) hx hb dX0_comes_91 (lv_at hl 5 rfl) ?_
          refine lv_iload hx hb dX0_comes_93 (lv_at hl 6 rfl) ?_
          refine lv_iconst (v := (1 : Int32)) hx hb dX0_comes_95 (by decide) ?_
          refine lv_iadd hx hb dX0_comes_96 ?_
          obtain ⟨a_129, ci_130, fs_131, er, he, hc, hw⟩ := zo_e hw
          obtain rfl := List.mem_singleton.mp hc
          refine zr_calli (zw_runV (As := [.int (x_14 + (1 : Int32))]) hk hH hz hS hl.1 er hw (cwV 1 hts (lw_V q944 q945 q946 q133 q947) rfl rfl rfl (by decide +kernel) (z_room (Nat.le_of_ble_eq_true rfl))) he rfl rfl rfl (Nat.le_of_ble_eq_true rfl) dX0_comes_97 ⟨Nat.le_of_ble_eq_true rfl, Nat.le_of_ble_eq_true rfl⟩) hS (fun x_127 hp_125 nx_126 hw H locs hH hz hS => ?_)
          refine lv_istore (lv' := [(7, .int x_127), (6, .int x_101), (0, va_rf (some h0)), (1, .int x1), (2, .int x2), (3, .double x3), (5, va_rf r_12)]) hx hb dX0_comes_100 hl (by decide) (by first | rfl | simp [List.filter_cons, z_cat, z_catI, z_catJ, z_catF, z_catD]) (fun ls hl => ?_)
          refine lv_goto (tgt := 19) hx hb dX0_comes_102 (by decide) ?_
          obtain ⟨k_128, hlt, hw⟩ := hw
          exact ih_19 k_128 hlt r_12 x_101 x_127 hp_125 nx_126 _ _ _ hw (lv_sub hl [2, 3, 4, 5, 6, 1, 0] rfl) hH hz hS
        simp only [List.mem_cons, List.not_mem_nil, or_false] at hc
        rcases hc with rfl | rfl | rfl | rfl | rfl | rfl
        · exact zr_calld (zw_runV (As := [.double (FP.ddiv (FP.i2d ((((x_101.toUInt32 >>> ((9 : Int32).toUInt32 &&& Int32.toUInt32 31)).toInt32) - ((x_101.toUInt32 >>> ((9 : Int32).toUInt32 &&& Int32.toUInt32 31)).toInt32) / (401 : Int32) * (401 : Int32)) - (200 : Int32))) (4620693217682128896 : UInt64))]) hk hH hz hS hl.1 er (hw) (cwV 1 hts (lw_V q1980 q1981 q1982 q152 q1989) rfl rfl rfl (by decide +kernel) (z_room (Nat.le_of_ble_eq_true rfl))) he rfl rfl rfl (by simp only [List.map_cons, List.map_nil, z_cat]; exact Nat.le_of_ble_eq_true rfl) dX0_comes_85 ⟨Nat.le_of_ble_eq_true rfl, Nat.le_of_ble_eq_true rfl⟩) hS hC
        · exact zr_calld (zw_runU (As := [.double (FP.ddiv (FP.i2d ((((x_101.toUInt32 >>> ((9 : Int32).toUInt32 &&& Int32.toUInt32 31)).toInt32) - ((x_101.toUInt32 >>> ((9 : Int32).toUInt32 &&& Int32.toUInt32 31)).toInt32) / (401 : Int32) * (401 : Int32)) - (200 : Int32))) (4620693217682128896 : UInt64))]) hk hH hz hS hl.1 er (hw) (va_cwU 1 hts (z_U q1980 q1983 q1988 q1981 q152 q1989) rfl rfl rfl rfl (by decide +kernel) (z_room (Nat.le_of_ble_eq_true rfl))) he rfl rfl rfl (by simp only [List.map_cons, List.map_nil, z_cat]; exact Nat.le_of_ble_eq_true rfl) dX0_comes_85 ⟨Nat.le_of_ble_eq_true rfl, Nat.le_of_ble_eq_true rfl⟩) hS hC
        · exact zr_calld (zw_runU (As := [.double (FP.ddiv (FP.i2d ((((x_101.toUInt32 >>> ((9 : Int32).toUInt32 &&& Int32.toUInt32 31)).toInt32) - ((x_101.toUInt32 >>> ((9 : Int32).toUInt32 &&& Int32.toUInt32 31)).toInt32) / (401 : Int32) * (401 : Int32)) - (200 : Int32))) (4620693217682128896 : UInt64))]) hk hH hz hS hl.1 er (hw) (va_cwU 1 hts (z_U q1980 q1983 q1985 q1981 q152 q1989) rfl rfl rfl rfl (by decide +kernel) (z_room (Nat.le_of_ble_eq_true rfl))) he rfl rfl rfl (by simp only [List.map_cons, List.map_nil, z_cat]; exact Nat.le_of_ble_eq_true rfl) dX0_comes_85 ⟨Nat.le_of_ble_eq_true rfl, Nat.le_of_ble_eq_true rfl⟩) hS hC
        · exact zr_calld (zw_runU (As := [.double (FP.ddiv (FP.i2d ((((x_101.toUInt32 >>> ((9 : Int32).toUInt32 &&& Int32.toUInt32 31)).toInt32) - ((x_101.toUInt32 >>> ((9 : Int32).toUInt32 &&& Int32.toUInt32 31)).toInt32) / (401 : Int32) * (401 : Int32)) - (200 : Int32))) (4620693217682128896 : UInt64))]) hk hH hz hS hl.1 er (hw) (va_cwU 1 hts (z_U q1980 q1983 q1986 q1981 q152 q1989) rfl rfl rfl rfl (by decide +kernel) (z_room (Nat.le_of_ble_eq_true rfl))) he rfl rfl rfl (by simp only [List.map_cons, List.map_nil, z_cat]; exact Nat.le_of_ble_eq_true rfl) dX0_comes_85 ⟨Nat.le_of_ble_eq_true rfl, Nat.le_of_ble_eq_true rfl⟩) hS hC
        · exact zr_calld (zw_runU (As := [.double (FP.ddiv (FP.i2d ((((x_101.toUInt32 >>> ((9 : Int32).toUInt32 &&& Int32.toUInt32 31)).toInt32) - ((x_101.toUInt32 >>> ((9 : Int32).toUInt32 &&& Int32.toUInt32 31)).toInt32) / (401 : Int32) * (401 : Int32)) - (200 : Int32))) (4620693217682128896 : UInt64))]) hk hH hz hS hl.1 er (hw) (va_cwU 1 hts (z_U q1980 q1983 q1987 q1981 q152 q1989) rfl rfl rfl rfl (by decide +kernel) (z_room (Nat.le_of_ble_eq_true rfl))) he rfl rfl rfl (by simp only [List.map_cons, List.map_nil, z_cat]; exact Nat.le_of_ble_eq_true rfl) dX0_comes_85 ⟨Nat.le_of_ble_eq_true rfl, Nat.le_of_ble_eq_true rfl⟩) hS hC
        · exact zr_calld (zw_runU (As := [.double (FP.ddiv (FP.i2d ((((x_101.toUInt32 >>> ((9 : Int32).toUInt32 &&& Int32.toUInt32 31)).toInt32) - ((x_101.toUInt32 >>> ((9 : Int32).toUInt32 &&& Int32.toUInt32 31)).toInt32) / (401 : Int32) * (401 : Int32)) - (200 : Int32))) (4620693217682128896 : UInt64))]) hk hH hz hS hl.1 er (hw) (va_cwU 1 hts (z_U q1980 q1983 q1984 q1981 q152 q1989) rfl rfl rfl rfl (by decide +kernel) (z_room (Nat.le_of_ble_eq_true rfl))) he rfl rfl rfl (by simp only [List.map_cons, List.map_nil, z_cat]; exact Nat.le_of_ble_eq_true rfl) dX0_comes_85 ⟨Nat.le_of_ble_eq_true rfl, Nat.le_of_ble_eq_true rfl⟩) hS hC
  exact hL_19 n_136 r_8 x2 x_11 hp_9 nx_10 _ _ _ hI (lv_sub hl [3, 4, 5, 6, 2, 1, 0] rfl) hH hz hS
theorem fp_X0_479 {ci : Nat} (h : ci ∈ [3]) : zFp "WhatIfSheet" 479 ci 0 (.object "java/lang/Object") := by
  simp only [List.mem_cons, List.not_mem_nil, or_false] at h
  rcases h with rfl
  · exact ⟨RX3, TX3, 1, rfl, by decide, q676, rfl, by decide +kernel⟩
def wp_X0_film (l : Launch) (g : zG) (d : Nat) (mc ms : Nat) (h0 : Nat) (x1 : Int32) (x2 : Int32) (hp : zHp) (nx : Nat) (Post : Int32 → zHp → Nat → Prop) : Prop :=
  (0 ≤ mc ∧ 0 ≤ ms ∧ zMt l g yX0_isTable cX0_isTable 1 (some .boolean) d 0 0 [.int x1] hp nx (zQi g fun x_3 hp_1 nx_2 =>
  (∃ P_14 : zHp → Nat → Nat → Nat → Prop, (∀ (hp_4 : zHp) (nx_5 : Nat) (kc_6 : Nat) (ks_7 : Nat), P_14 hp_4 nx_5 kc_6 ks_7 →
  (kc_6 ≤ mc ∧ ks_7 ≤ ms ∧ Post (-2 : Int32) hp_4 nx_5)) ∧
  ((x_3 = 0 →
  P_14 hp_1 nx_2 0 0) ∧
  (¬ x_3 = 0 →
  (0 ≤ mc ∧ 0 ≤ ms ∧ zMt l g yX0_isRow cX0_isRow 1 (some .boolean) d 0 0 [.int x2] hp_1 nx_2 (zQi g fun x_10 hp_8 nx_9 =>
  ((x_10 = 0 →
  P_14 hp_8 nx_9 0 0) ∧
  (¬ x_10 = 0 →
  (zgR hp_8 (some h0) [0] 1 fun r_14 =>
  (zaR (g.2.1 8) hp_8 r_14 fun a_15 n_16 f_17 => vp_in x1 n_16 ∧ ∀ r_18 : Option Nat, r_18 = f_17 x1.toNatClampNeg →
  ((r_18 = none →
  (0 ≤ mc ∧ 0 ≤ ms ∧ Post (-3 : Int32) hp_8 nx_9)) ∧
  (¬ r_18 = none →
  (0 ≤ mc ∧ 0 ≤ ms ∧ zo hp_8 (some h0) [0] fun a_106 ci_107 fs_108 => zMt l g yX0_runsAll cX0_runsAll 2 none d 0 0 (.ref a_106 :: [va_rf r_18]) hp_8 nx_9 (zQv g fun hp_19 nx_20 =>
  (0 ≤ mc ∧ 0 ≤ ms ∧ zo hp_19 r_18 [31] fun a_103 ci_104 fs_105 => zMt l g yX31_cases cX31_cases 1 (some .int) d 0 0 (.ref a_103 :: []) hp_19 nx_20 (zQi g fun x_23 hp_21 nx_22 =>
  (zna g mc ms hp_21 nx_22 0 0 1 x_23 (.inr (.inr (.inr (.inl (fun _ => 0))))) fun hp_24 =>
  ∀ nx_25 kc_26 ks_27 : Nat, nx_25 = (nx_22 + 1) → kc_26 = (0 + 1) → ks_27 = (0 + x_23.toNatClampNeg) →
  (∃ I_47 : Nat → (Option Nat) → (Option Nat) → Int32 → zHp → Nat → Nat → Nat → Prop, (∃ n_102, I_47 n_102 r_18 (some nx_22) (0 : Int32) hp_24 nx_25 kc_26 ks_27) ∧ ∀ (n_35 : Nat) (r_28 : Option Nat) (r_29 : Option Nat) (x_30 : Int32) (hp_31 : zHp) (nx_32 : Nat) (kc_33 : Nat) (ks_34 : Nat), I_47 n_35 r_28 r_29 x_30 hp_31 nx_32 kc_33 ks_34 →
  (zln (g.2.1 1) hp_31 r_29 fun x_38 =>
  ((x_38 ≤ x_30 →
  (zgR hp_31 (some h0) [0] 29 fun r_42 =>
  (zaR (g.2.1 12) hp_31 r_42 fun a_43 n_44 f_45 => vp_in x2 n_44 ∧ ∀ r_46 : Option Nat, r_46 = f_45 x2.toNatClampNeg →
  (zpt g hp_31 r_46 [3] 0 (va_rf r_29) fun hp_50 =>
  (zln (g.2.1 1) hp_50 r_29 fun x_53 =>
  (kc_33 ≤ mc ∧ ks_34 ≤ ms ∧ Post x_53 hp_50 nx_32)))))) ∧
  (¬ x_38 ≤ x_30 →
  (zgR hp_31 (some h0) [0] 5 fun r_57 =>
  (zaR (g.2.1 9) hp_31 r_57 fun a_58 n_59 f_60 => vp_in x1 n_59 ∧ ∀ r_61 : Option Nat, r_61 = f_60 x1.toNatClampNeg →
  (zgR hp_31 r_61 [1] 6 fun r_65 =>
  (zaI (g.2.1 2) hp_31 r_65 fun a_66 n_67 f_68 => vp_in x_30 n_67 ∧ ∀ x_69 : Int32, x_69 = f_68 x_30.toNatClampNeg →
  (∃ P_92 : (Option Nat) → (Option Nat) → Int32 → (Option Nat) → Int32 → UInt64 → zHp → Nat → Nat → Nat → Prop, (∀ (r_70 : Option Nat) (r_71 : Option Nat) (x_72 : Int32) (r_73 : Option Nat) (x_74 : Int32) (x_75 : UInt64) (hp_76 : zHp) (nx_77 : Nat) (kc_78 : Nat) (ks_79 : Nat), P_92 r_70 r_71 x_72 r_73 x_74 x_75 hp_76 nx_77 kc_78 ks_79 →
  (zaD (g.2.1 1) hp_76 r_73 fun a_80 n_81 f_82 => vp_in x_74 n_81 ∧ zB g ≤ a_80 ∧ ∀ hp_83 : zHp, hp_83 = va_up hp_76 a_80 (some (.inl (g.2.1 1, n_81, .inr (.inr (.inr (.inl (va_up f_82 x_74.toNatClampNeg x_75))))))) →
  (∀ x_84 : Int32, x_84 = x_72 + (1 : Int32) →
  (∃ k_85, k_85 < n_35 ∧ I_47 k_85 r_70 r_71 x_84 hp_83 nx_77 kc_78 ks_79)))) ∧
  ((x_69 = 0 →
  (zgR hp_31 (some h0) [0] 5 fun r_89 =>
  (zaR (g.2.1 9) hp_31 r_89 fun a_90 n_91 f_92 => vp_in x1 n_91 ∧ ∀ r_93 : Option Nat, r_93 = f_92 x1.toNatClampNeg →
  (zgR hp_31 r_93 [1] 2 fun r_97 =>
  (zaD (g.2.1 1) hp_31 r_97 fun a_98 n_99 f_100 => vp_in x_30 n_99 ∧ ∀ x_101 : UInt64, x_101 = f_100 x_30.toNatClampNeg →
  P_92 r_28 r_29 x_30 r_29 x_30 x_101 hp_31 nx_32 kc_33 ks_34))))) ∧
  (¬ x_69 = 0 →
  P_92 r_28 r_29 x_30 r_29 x_30 (9221120237041090560 : UInt64) hp_31 nx_32 kc_33 ks_34)))))))))))))))))))))))))))))
set_option maxHeartbeats 40000000 in
theorem met_X0_film {l : Launch} {g : zG} {d : Nat} {mc ms : Nat} {h0 : Nat} {x1 : Int32} {x2 : Int32} {hp : zHp} {nx : Nat} {Post : Int32 → zHp → Nat → Prop} (hw : wp_X0_film l g d mc ms h0 x1 x2 hp nx Post) : zMt l g yX0_film cX0_film 6 (some .int) (d + 1) mc ms [.ref h0, .int x1, .int x2] hp nx (zQi g Post) := by
  refine z_start (by decide) (Nat.le_of_ble_eq_true rfl) ?_
  intro p e s m below meth c hk hr hin hH hz ls hl
  have hx := hk.1.1
  have hb := hk.1.2.1
  have hown := hk.1.2.2.2.1
  have hts := hk.1.2.2.2.2
  have hS : va_S (zAd g) s.heap s.heap [] := va_S.rf
  have hl : lv_has ls 6 [(0, va_rf (some h0)), (1, .int x1), (2, .int x2)] := hl
  unfold wp_X0_film at hw
  refine lv_iload_n hx hb dX0_film_0 rfl (lv_at hl 1 rfl) ?_
  obtain ⟨hcl, hsl, hw⟩ := hw
  refine zr_calli (zr_runS (As := [.int x1]) hk hH hz hS hl.1 hw (va_cwS 1 hts (lw_S q2343 q2344 q131 q2345) rfl rfl rfl (by decide +kernel) (z_room (Nat.le_of_ble_eq_true rfl))) rfl rfl (Nat.le_of_ble_eq_true rfl) dX0_film_1 ⟨hcl, hsl⟩) hS (fun x_3 hp_1 nx_2 hw H locs hH hz hS => ?_)
  obtain ⟨P_14, hP_14, hw⟩ := hw
  have hJ_14 : ∀ (hp_4 : zHp) (nx_5 : Nat) (kc_6 : Nat) (ks_7 : Nat) (H : Heap) (locs : List Loc) (ls : Array Slot), P_14 hp_4 nx_5 kc_6 ks_7 → lv_has ls 6 [(0, va_rf (some h0)), (1, .int x1), (2, .int x2)] → zHd g hp_4 H → H.size = nx_5 → va_S (zAd g) s.heap H locs → W p l e (zrm (d + 1) mc ms) s m ([.ref h0, .int x1, .int x2] : List Value).toArray below meth c H locs kc_6 ks_7 (MQ below (zQi g Post) ([.ref h0, .int x1, .int x2] : List Value).toArray s mc ms (zAd g)) (F0 m 14 ls []) := by
    intro hp_4 nx_5 kc_6 ks_7 H locs ls hw hl hH hz hS
    have hw := hP_14 hp_4 nx_5 kc_6 ks_7 hw
    refine lv_bipush (v := (-2 : Int32)) hx hb dX0_film_14 (by decide) ?_
    obtain ⟨hkc, hks, hw⟩ := hw
    exact zr_iret hk hr hH hz hS hw hkc hks dX0_film_16
  refine lv_if_eq (tgt := 14) hx hb dX0_film_4 (by decide) (fun hc => ?_) (fun hc => ?_)
  · have hw := hw.1 hc
    exact hJ_14 hp_1 nx_2 0 0 _ _ _ hw hl hH hz hS
  · have hw := hw.2 hc
    refine lv_iload_n hx hb dX0_film_7 rfl (lv_at hl 2 rfl) ?_
    obtain ⟨hcl, hsl, hw⟩ := hw
    refine zr_calli (zr_runS (As := [.int x2]) hk hH hz hS hl.1 hw (va_cwS 1 hts (lw_S q2425 q2426 q131 q2427) rfl rfl rfl (by decide +kernel) (z_room (Nat.le_of_ble_eq_true rfl))) rfl rfl (Nat.le_of_ble_eq_true rfl) dX0_film_8 ⟨hcl, hsl⟩) hS (fun x_10 hp_8 nx_9 hw H locs hH hz hS => ?_)
    refine lv_if_ne (tgt := 17) hx hb dX0_film_11 (by decide) (fun hc => ?_) (fun hc => ?_)
    · have hw := hw.2 hc
      refine zr_aload_n (r := some h0) hx hb dX0_film_17 rfl (lv_at hl 0 rfl) ?_
      obtain ⟨a_11, ci_12, fs_13, r_14, er, he, hc, hv, hw⟩ := zgR_e hw
      refine zw_get hk hH er he hv (fk_X0_37 hc) dX0_film_18 ?_
      refine lv_iload_n hx hb dX0_film_21 rfl (lv_at hl 1 rfl) ?_
      obtain ⟨a_15, n_16, f_17, er, he, hi, hw⟩ := zaR_e hw
      have hw := hw _ rfl
      refine zw_aald hk hH 8 er he rfl rfl hi dX0_film_22 ?_
      generalize f_17 x1.toNatClampNeg = r_18 at hw ⊢
      refine zr_astore_n (r := r_18) (i := 3) (lv' := [(3, va_rf r_18), (0, va_rf (some h0)), (1, .int x1), (2, .int x2)]) hx hb dX0_film_23 rfl hl (by decide) (by first | rfl | simp [List.filter_cons, z_cat, z_catI, z_catJ, z_catF, z_catD]) (fun ls hl => ?_)
      refine zr_aload_n (r := r_18) hx hb dX0_film_24 rfl (lv_at hl 0 rfl) ?_
      refine zr_ifnonnull (r := r_18) (tgt := 31) hx hb dX0_film_25 (by decide) (fun hc => ?_) (fun hc => ?_)
      · have hw := hw.2 hc
        refine zr_aload_n (r := some h0) hx hb dX0_film_31 rfl (lv_at hl 1 rfl) ?_
        refine zr_aload_n (r := r_18) hx hb dX0_film_32 rfl (lv_at hl 0 rfl) ?_
        obtain ⟨hcl, hsl, hw⟩ := hw
        obtain ⟨a_106, ci_107, fs_108, er, he, hc, hw⟩ := zo_e hw
        obtain rfl := List.mem_singleton.mp hc
        refine zr_callv (zw_runV (As := [va_rf r_18]) hk hH hz hS hl.1 er hw (cwV 1 hts (lw_V q2471 q2156 qs45 q131 q2157) rfl rfl rfl (by decide +kernel) (z_room (Nat.le_of_ble_eq_true rfl))) he rfl rfl rfl (Nat.le_of_ble_eq_true rfl) dX0_film_33 ⟨hcl, hsl⟩) hS (fun hp_19 nx_20 hw H locs hH hz hS => ?_)
        refine zr_aload_n (r := r_18) hx hb dX0_film_36 rfl (lv_at hl 0 rfl) ?_
        obtain ⟨hcl, hsl, hw⟩ := hw
        obtain ⟨a_103, ci_104, fs_105, er, he, hc, hw⟩ := zo_e hw
        obtain rfl := List.mem_singleton.mp hc
        refine zr_calli (zw_runV (As := []) hk hH hz hS hl.1 er hw (cwV 0 hts (lw_V q1168 q1169 q1170 q195 q1171) rfl rfl rfl (by decide +kernel) (z_room (Nat.le_of_ble_eq_true rfl))) he rfl rfl rfl (Nat.le_of_ble_eq_true rfl) dX0_film_37 ⟨hcl, hsl⟩) hS (fun x_23 hp_21 nx_22 hw H locs hH hz hS => ?_)
        obtain ⟨hn0, hn1, hcl, hsl, hw⟩ := hw
        refine zx_newa hk hH hz hS (atype := .double) 1 (ty := .double) rfl q275 rfl (fun _ _ h => h) (a0 := (x_23.toNatClampNeg, .inr (.inr (.inr (.inl (fun _ => 0)))))) (fun _ => rfl) hn0 rfl (by simp only [componentBytes]; omega) hcl hsl dX0_film_40 (fun H hH hz hS hlt hnb => ?_)
        have hw := hw hlt hnb
        generalize va_up hp_21 nx_22 _ = hp_24 at hH hw
        obtain ⟨kc_26, ekc⟩ : ∃ k, k = (0 + 1) := ⟨_, rfl⟩
        obtain ⟨ks_27, eks⟩ : ∃ k, k = (0 + x_23.toNatClampNeg) := ⟨_, rfl⟩
        have hw := hw _ _ _ rfl ekc eks
        refine W.widen (Nat.le_of_eq ekc.symm) (Nat.le_of_eq eks.symm) ?_
        clear ekc eks
        generalize (nx_22 + 1) = nx_25 at hz hw
        refine zr_astore (r := some nx_22) (lv' := [(4, va_rf (some nx_22)), (3, va_rf r_18), (0, va_rf (some h0)), (1, .int x1), (2, .int x2)]) hx hb dX0_film_42 hl (by decide) (by first | rfl | simp [List.filter_cons, z_cat, z_catI, z_catJ, z_catF, z_catD]) (fun ls hl => ?_)
        refine lv_iconst (v := (0 : Int32)) hx hb dX0_film_44 (by decide) ?_
        refine lv_istore (lv' := [(5, .int (0 : Int32)), (4, va_rf (some nx_22)), (3, va_rf r_18), (0, va_rf (some h0)), (1, .int x1), (2, .int x2)]) hx hb dX0_film_45 hl (by decide) (by first | rfl | simp [List.filter_cons, z_cat, z_catI, z_catJ, z_catF, z_catD]) (fun ls hl => ?_)
        obtain ⟨I_47, ⟨n_102, hI⟩, hB_47⟩ := hw
        have hL_47 : ∀ (n_35 : Nat) (r_28 : Option Nat) (r_29 : Option Nat) (x_30 : Int32) (hp_31 : zHp) (nx_32 : Nat) (kc_33 : Nat) (ks_34 : Nat) (H : Heap) (locs : List Loc) (ls : Array Slot), I_47 n_35 r_28 r_29 x_30 hp_31 nx_32 kc_33 ks_34 → lv_has ls 6 [(0, va_rf (some h0)), (1, .int x1), (2, .int x2), (3, va_rf r_28), (4, va_rf r_29), (5, .int x_30)] → zHd g hp_31 H → H.size = nx_32 → va_S (zAd g) s.heap H locs → W p l e (zrm (d + 1) mc ms) s m ([.ref h0, .int x1, .int x2] : List Value).toArray below meth c H locs kc_33 ks_34 (MQ below (zQi g Post) ([.ref h0, .int x1, .int x2] : List Value).toArray s mc ms (zAd g)) (F0 m 47 ls []) := by
          intro n_35
          induction n_35 using Nat.strongRecOn with
          | _ n_35 ih_47 =>
            intro r_28 r_29 x_30 hp_31 nx_32 kc_33 ks_34 H locs ls hw hl hH hz hS
            have hw := hB_47 n_35 r_28 r_29 x_30 hp_31 nx_32 kc_33 ks_34 hw
            refine lv_iload hx hb dX0_film_47 (lv_at hl 5 rfl) ?_
            refine zr_aload (r := r_29) hx hb dX0_film_49 (lv_at hl 4 rfl) ?_
            obtain ⟨a_36, v_37, er, he, hw⟩ := zln_e hw
            refine zw_alen hk hH 1 er he rfl dX0_film_51 ?_
            generalize Int32.ofNat v_37.1 = x_38 at hw ⊢
            refine lv_icmp_ge (tgt := 99) hx hb dX0_film_52 (by decide) (fun hc => ?_) (fun hc => ?_)
            · have hw := hw.1 hc
              refine zr_aload_n (r := some h0) hx hb dX0_film_99 rfl (lv_at hl 0 rfl) ?_
              obtain ⟨a_39, ci_40, fs_41, r_42, er, he, hc, hv, hw⟩ := zgR_e hw
              refine zw_get hk hH er he hv (fk_X0_121 hc) dX0_film_100 ?_
              refine lv_iload_n hx hb dX0_film_103 rfl (lv_at hl 2 rfl) ?_
              obtain ⟨a_43, n_44, f_45, er, he, hi, hw⟩ := zaR_e hw
              have hw := hw _ rfl
              refine zw_aald hk hH 12 er he rfl rfl hi dX0_film_104 ?_
              generalize f_45 x2.toNatClampNeg = r_46 at hw ⊢
              refine zr_aload (r := r_29) hx hb dX0_film_105 (lv_at hl 4 rfl) ?_
              obtain ⟨a_47, ci_48, fs_49, hp_50, er, he, hc, hA, hkl, eh, hw⟩ := zpt_e hw
              refine zw_put hk hH hz hS er he hA hkl eh (fp_X0_479 hc) (z_narR _ _) (z_fitR _ _) dX0_film_107 (fun H locs hH hz hS => ?_)
              refine zr_aload (r := r_29) hx hb dX0_film_110 (lv_at hl 4 rfl) ?_
              obtain ⟨a_51, v_52, er, he, hw⟩ := zln_e hw
              refine zw_alen hk hH 1 er he rfl dX0_film_112 ?_
              generalize Int32.ofNat v_52.1 = x_53 at hw ⊢
              obtain ⟨hkc, hks, hw⟩ := hw
              exact zr_iret hk hr hH hz hS hw hkc hks dX0_film_113
            · have hw := hw.2 hc
              refine zr_aload (r := r_29) hx hb dX0_film_55 (lv_at hl 4 rfl) ?_
              refine lv_iload hx hb dX0_film_57 (lv_at hl 5 rfl) ?_
              refine zr_aload_n (r := some h0) hx hb dX0_film_59 rfl (lv_at hl 0 rfl) ?_
              obtain ⟨a_54, ci_55, fs_56, r_57, er, he, hc, hv, hw⟩ := zgR_e hw
              refine zw_get hk hH er he hv (fk_X0_47 hc) dX0_film_60 ?_
              refine lv_iload_n hx hb dX0_film_63 rfl (lv_at hl 1 rfl) ?_
              obtain ⟨a_58, n_59, f_60, er, he, hi, hw⟩ := zaR_e hw
              have hw := hw _ rfl
              refine zw_aald hk hH 9 er he rfl rfl hi dX0_film_64 ?_
              generalize f_60 x1.toNatClampNeg = r_61 at hw ⊢
              obtain ⟨a_62, ci_63, fs_64, r_65, er, he, hc, hv, hw⟩ := zgR_e hw
              refine zw_get hk hH er he hv (fk_X0_157 hc) dX0_film_65 ?_
              refine lv_iload hx hb dX0_film_68 (lv_at hl 5 rfl) ?_
              obtain ⟨a_66, n_67, f_68, er, he, hi, hw⟩ := zaI_e hw
              have hw := hw _ rfl
              refine zw_bald hk hH er he hi dX0_film_70 ?_
              generalize f_68 x_30.toNatClampNeg = x_69 at hw ⊢
              obtain ⟨P_92, hP_92, hw⟩ := hw
              have hJ_92 : ∀ (r_70 : Option Nat) (r_71 : Option Nat) (x_72 : Int32) (r_73 : Option Nat) (x_74 : Int32) (x_75 : UInt64) (hp_76 : zHp) (nx_77 : Nat) (kc_78 : Nat) (ks_79 : Nat) (H : Heap) (locs : List Loc) (ls : Array Slot), P_92 r_70 r_71 x_72 r_73 x_74 x_75 hp_76 nx_77 kc_78 ks_79 → lv_has ls 6 [(0, va_rf (some h0)), (1, .int x1), (2, .int x2), (3, va_rf r_70), (4, va_rf r_71), (5, .int x_72)] → zHd g hp_76 H → H.size = nx_77 → va_S (zAd g) s.heap H locs → W p l e (zrm (d + 1) mc ms) s m ([.ref h0, .int x1, .int x2] : List Value).toArray below meth c H locs kc_78 ks_79 (MQ below (zQi g Post) ([.ref h0, .int x1, .int x2] : List Value).toArray s mc ms (zAd g)) (F0 m 92 ls [.double x_75, .int x_74, va_rf r_73]) := by
                intro r_70 r_71 x_72 r_73 x_74 x_75 hp_76 nx_77 kc_78 ks_79 H locs ls hw hl hH hz hS
                have hw := hP_92 r_70 r_71 x_72 r_73 x_74 x_75 hp_76 nx_77 kc_78 ks_79 hw
                obtain ⟨a_80, n_81, f_82, er, he, hi, hA, hw⟩ := zaD_e hw
                obtain ⟨hp_83, eh⟩ : ∃ y : zHp, y = va_up hp_76 a_80 (some (.inl (g.2.1 1, n_81, .inr (.inr (.inr (.inl (va_up f_82 x_74.toNatClampNeg x_75))))))) := ⟨_, rfl⟩
                have hw := hw hp_83 eh
                refine zw_dast hk hH hz hS er he hi hA eh dX0_film_92 (fun H locs hH hz hS => ?_)
                obtain ⟨x_84, ex_84⟩ : ∃ y : Int32, y = x_72 + (1 : Int32) := ⟨_, rfl⟩
                have hw := hw x_84 ex_84
                refine lv_iinc (v := x_84) (lv' := [(5, .int x_84), (0, va_rf (some h0)), (1, .int x1), (2, .int x2), (3, va_rf r_70), (4, va_rf r_71)]) hx hb dX0_film_93 hl (k := 5) rfl (by rw [ex_84]; rfl) (by decide) (by first | rfl | simp [List.filter_cons, z_cat, z_catI, z_catJ, z_catF, z_catD]) (fun ls hl => ?_)
                refine lv_goto (tgt := 47) hx hb dX0_film_96 (by decide) ?_
                obtain ⟨k_85, hlt, hw⟩ := hw
                exact ih_47 k_85 hlt r_70 r_71 x_84 hp_83 nx_77 kc_78 ks_79 _ _ _ hw (lv_sub hl [1, 2, 3, 4, 5, 0] rfl) hH hz hS
              refine lv_if_eq (tgt := 80) hx hb dX0_film_71 (by decide) (fun hc => ?_) (fun hc => ?_)
              · have hw := hw.1 hc
                refine zr_aload_n (r := some h0) hx hb dX0_film_80 rfl (lv_at hl 0 rfl) ?_
                obtain ⟨a_86, ci_87, fs_88, r_89, er, he, hc, hv, hw⟩ := zgR_e hw
                refine zw_get hk hH er he hv (fk_X0_47 hc) dX0_film_81 ?_
                refine lv_iload_n hx hb dX0_film_84 rfl (lv_at hl 1 rfl) ?_
                obtain ⟨a_90, n_91, f_92, er, he, hi, hw⟩ := zaR_e hw
                have hw := hw _ rfl
                refine zw_aald hk hH 9 er he rfl rfl hi dX0_film_85 ?_
                generalize f_92 x1.toNatClampNeg = r_93 at hw ⊢
                obtain ⟨a_94, ci_95, fs_96, r_97, er, he, hc, hv, hw⟩ := zgR_e hw
                refine zw_get hk hH er he hv (fk_X0_160 hc) dX0_film_86 ?_
                refine lv_iload hx hb dX0_film_89 (lv_at hl 5 rfl) ?_
                obtain ⟨a_98, n_99, f_100, er, he, hi, hw⟩ := zaD_e hw
                have hw := hw _ rfl
                refine zw_dald hk hH er he hi dX0_film_91 ?_
                generalize f_100 x_30.toNatClampNeg = x_101 at hw ⊢
                exact hJ_92 r_28 r_29 x_30 r_29 x_30 x_101 hp_31 nx_32 kc_33 ks_34 _ _ _ hw hl hH hz hS
              · have hw := hw.2 hc
                refine lv_ldc2d hx hb hown (hts _ q1962) dX0_film_74 ?_
                refine lv_goto (tgt := 92) hx hb dX0_film_77 (by decide) ?_
                exact hJ_92 r_28 r_29 x_30 r_29 x_30 (9221120237041090560 : UInt64) hp_31 nx_32 kc_33 ks_34 _ _ _ hw hl hH hz hS
        exact hL_47 n_102 r_18 (some nx_22) (0 : Int32) hp_24 nx_25 kc_26 ks_27 _ _ _ hI (lv_sub hl [3, 4, 5, 2, 1, 0] rfl) hH hz hS
      · have hw := hw.1 hc
        refine lv_bipush (v := (-3 : Int32)) hx hb dX0_film_28 (by decide) ?_
        obtain ⟨hkc, hks, hw⟩ := hw
        exact zr_iret hk hr hH hz hS hw hkc hks dX0_film_30
    · have hw := hw.1 hc
      exact hJ_14 hp_8 nx_9 0 0 _ _ _ hw hl hH hz hS
def wp_X0_first (l : Launch) (g : zG) (d : Nat) (h0 : Nat) (r1 : Option Nat) (r2 : Option Nat) (hp : zHp) (nx : Nat) (Post : Int32 → zHp → Nat → Prop) : Prop :=
  (zo hp (some h0) [0] fun a_59 ci_60 fs_61 => zMt l g yX0_runsAll cX0_runsAll 2 none d 0 0 (.ref a_59 :: [va_rf r1]) hp nx (zQv g fun hp_1 nx_2 =>
  (zgR hp_1 (some h0) [0] 5 fun r_6 =>
  (zgI hp_1 r1 [31] 0 fun x_10 =>
  (zaR (g.2.1 9) hp_1 r_6 fun a_11 n_12 f_13 => vp_in x_10 n_12 ∧ ∀ r_14 : Option Nat, r_14 = f_13 x_10.toNatClampNeg →
  (∃ I_18 : Nat → (Option Nat) → Int32 → zHp → Nat → Prop, (∃ n_58, I_18 n_58 r_14 (0 : Int32) hp_1 nx_2) ∧ ∀ (n_19 : Nat) (r_15 : Option Nat) (x_16 : Int32) (hp_17 : zHp) (nx_18 : Nat), I_18 n_19 r_15 x_16 hp_17 nx_18 →
  (zln (g.2.1 1) hp_17 r2 fun x_22 =>
  ((x_22 ≤ x_16 →
  (Post (-1 : Int32) hp_17 nx_18)) ∧
  (¬ x_22 ≤ x_16 →
  (zgR hp_17 r_15 [1] 6 fun r_26 =>
  (zaI (g.2.1 2) hp_17 r_26 fun a_27 n_28 f_29 => vp_in x_16 n_28 ∧ ∀ x_30 : Int32, x_30 = f_29 x_16.toNatClampNeg →
  (∃ P_75 : (Option Nat) → Int32 → Int32 → zHp → Nat → Prop, (∀ (r_31 : Option Nat) (x_32 : Int32) (x_33 : Int32) (hp_34 : zHp) (nx_35 : Nat), P_75 r_31 x_32 x_33 hp_34 nx_35 →
  ((x_33 = 0 →
  (Post x_32 hp_34 nx_35)) ∧
  (¬ x_33 = 0 →
  (∀ x_36 : Int32, x_36 = x_32 + (1 : Int32) →
  (∃ k_37, k_37 < n_19 ∧ I_18 k_37 r_31 x_36 hp_34 nx_35))))) ∧
  ((x_30 = 0 →
  (zaD (g.2.1 1) hp_17 r2 fun a_38 n_39 f_40 => vp_in x_16 n_39 ∧ ∀ x_41 : UInt64, x_41 = f_40 x_16.toNatClampNeg →
  (zgR hp_17 r_15 [1] 2 fun r_45 =>
  (zaD (g.2.1 1) hp_17 r_45 fun a_46 n_47 f_48 => vp_in x_16 n_47 ∧ ∀ x_49 : UInt64, x_49 = f_48 x_16.toNatClampNeg →
  (((Op.cmpValue (FP.dcmp x_41 x_49) .l) = 0 →
  P_75 r_15 x_16 (1 : Int32) hp_17 nx_18) ∧
  (¬ (Op.cmpValue (FP.dcmp x_41 x_49) .l) = 0 →
  P_75 r_15 x_16 (0 : Int32) hp_17 nx_18)))))) ∧
  (¬ x_30 = 0 →
  (zaD (g.2.1 1) hp_17 r2 fun a_50 n_51 f_52 => vp_in x_16 n_51 ∧ ∀ x_53 : UInt64, x_53 = f_52 x_16.toNatClampNeg →
  (zaD (g.2.1 1) hp_17 r2 fun a_54 n_55 f_56 => vp_in x_16 n_55 ∧ ∀ x_57 : UInt64, x_57 = f_56 x_16.toNatClampNeg →
  (((Op.cmpValue (FP.dcmp x_53 x_57) .l) = 0 →
  P_75 r_15 x_16 (0 : Int32) hp_17 nx_18) ∧
  (¬ (Op.cmpValue (FP.dcmp x_53 x_57) .l) = 0 →
  P_75 r_15 x_16 (1 : Int32) hp_17 nx_18))))))))))))))))))
set_option maxHeartbeats 40000000 in
theorem met_X0_first {l : Launch} {g : zG} {d : Nat} {h0 : Nat} {r1 : Option Nat} {r2 : Option Nat} {hp : zHp} {nx : Nat} {Post : Int32 → zHp → Nat → Prop} (hw : wp_X0_first l g d h0 r1 r2 hp nx Post) : zMt l g yX0_first cX0_first 6 (some .int) (d + 1) 0 0 [.ref h0, va_rf r1, va_rf r2] hp nx (zQi g Post) := by
  refine z_start (by decide) (by cases r1 <;> cases r2 <;> exact Nat.le_of_ble_eq_true rfl) ?_
  intro p e s m below meth c hk hr hin hH hz ls hl
  have hx := hk.1.1
  have hb := hk.1.2.1
  have hown := hk.1.2.2.2.1
  have hts := hk.1.2.2.2.2
  have hS : va_S (zAd g) s.heap s.heap [] := va_S.rf
  have hl : lv_has ls 6 [(0, va_rf (some h0)), (1, va_rf r1), (2, va_rf r2)] := by cases r1 <;> cases r2 <;> exact hl
  unfold wp_X0_first at hw
  refine zr_aload_n (r := some h0) hx hb dX0_first_0 rfl (lv_at hl 0 rfl) ?_
  refine zr_aload_n (r := r1) hx hb dX0_first_1 rfl (lv_at hl 1 rfl) ?_
  obtain ⟨a_59, ci_60, fs_61, er, he, hc, hw⟩ := zo_e hw
  obtain rfl := List.mem_singleton.mp hc
  refine zr_callv (zw_runV (As := [va_rf r1]) hk hH hz hS hl.1 er hw (cwV 1 hts (lw_V q2471 q2156 qs45 q131 q2157) rfl rfl rfl (by decide +kernel) (z_room (Nat.le_of_ble_eq_true rfl))) he rfl rfl rfl (Nat.le_of_ble_eq_true rfl) dX0_first_2 ⟨Nat.le_of_ble_eq_true rfl, Nat.le_of_ble_eq_true rfl⟩) hS (fun hp_1 nx_2 hw H locs hH hz hS => ?_)
  refine zr_aload_n (r := some h0) hx hb dX0_first_5 rfl (lv_at hl 0 rfl) ?_
  obtain ⟨a_3, ci_4, fs_5, r_6, er, he, hc, hv, hw⟩ := zgR_e hw
  refine zw_get hk hH er he hv (fk_X0_47 hc) dX0_first_6 ?_
  refine zr_aload_n (r := r1) hx hb dX0_first_9 rfl (lv_at hl 1 rfl) ?_
  obtain ⟨a_7, ci_8, fs_9, x_10, er, he, hc, hv, hw⟩ := zgI_e hw
  refine zw_get hk hH er he hv (fk_X0_151 hc) dX0_first_10 ?_
  obtain ⟨a_11, n_12, f_13, er, he, hi, hw⟩ := zaR_e hw
  have hw := hw _ rfl
  refine zw_aald hk hH 9 er he rfl rfl hi dX0_first_13 ?_
  generalize f_13 x_10.toNatClampNeg = r_14 at hw ⊢
  refine zr_astore_n (r := r_14) (i := 3) (lv' := [(3, va_rf r_14), (0, va_rf (some h0)), (1, va_rf r1), (2, va_rf r2)]) hx hb dX0_first_14 rfl hl (by decide) (by first | rfl | simp [List.filter_cons, z_cat, z_catI, z_catJ, z_catF, z_catD]) (fun ls hl => ?_)
  refine lv_iconst (v := (0 : Int32)) hx hb dX0_first_15 (by decide) ?_
  refine lv_istore (lv' := [(4, .int (0 : Int32)), (3, va_rf r_14), (0, va_rf (some h0)), (1, va_rf r1), (2, va_rf r2)]) hx hb dX0_first_16 hl (by decide) (by first | rfl | simp [List.filter_cons, z_cat, z_catI, z_catJ, z_catF, z_catD]) (fun ls hl => ?_)
  obtain ⟨I_18, ⟨n_58, hI⟩, hB_18⟩ := hw
  have hL_18 : ∀ (n_19 : Nat) (r_15 : Option Nat) (x_16 : Int32) (hp_17 : zHp) (nx_18 : Nat) (H : Heap) (locs : List Loc) (ls : Array Slot), I_18 n_19 r_15 x_16 hp_17 nx_18 → lv_has ls 6 [(0, va_rf (some h0)), (1, va_rf r1), (2, va_rf r2), (3, va_rf r_15), (4, .int x_16)] → zHd g hp_17 H → H.size = nx_18 → va_S (zAd g) s.heap H locs → W p l e (zrm (d + 1) 0 0) s m ([.ref h0, va_rf r1, va_rf r2] : List Value).toArray below meth c H locs 0 0 (MQ below (zQi g Post) ([.ref h0, va_rf r1, va_rf r2] : List Value).toArray s 0 0 (zAd g)) (F0 m 18 ls []) := by
    intro n_19
    induction n_19 using Nat.strongRecOn with
    | _ n_19 ih_18 =>
      intro r_15 x_16 hp_17 nx_18 H locs ls hw hl hH hz hS
      have hw := hB_18 n_19 r_15 x_16 hp_17 nx_18 hw
      refine lv_iload hx hb dX0_first_18 (lv_at hl 4 rfl) ?_
      refine zr_aload_n (r := r2) hx hb dX0_first_20 rfl (lv_at hl 2 rfl) ?_
      obtain ⟨a_20, v_21, er, he, hw⟩ := zln_e hw
      refine zw_alen hk hH 1 er he rfl dX0_first_21 ?_
      generalize Int32.ofNat v_21.1 = x_22 at hw ⊢
      refine lv_icmp_ge (tgt := 91) hx hb dX0_first_22 (by decide) (fun hc => ?_) (fun hc => ?_)
      · have hw := hw.1 hc
        refine lv_iconst (v := (-1 : Int32)) hx hb dX0_first_91 (by decide) ?_
        exact zr_iret hk hr hH hz hS hw (Nat.le_of_ble_eq_true rfl) (Nat.le_of_ble_eq_true rfl) dX0_first_92
      · have hw := hw.2 hc
        refine zr_aload_n (r := r_15) hx hb dX0_first_25 rfl (lv_at hl 3 rfl) ?_
        obtain ⟨a_23, ci_24, fs_25, r_26, er, he, hc, hv, hw⟩ := zgR_e hw
        refine zw_get hk hH er he hv (fk_X0_157 hc) dX0_first_26 ?_
        refine lv_iload hx hb dX0_first_29 (lv_at hl 4 rfl) ?_
        obtain ⟨a_27, n_28, f_29, er, he, hi, hw⟩ := zaI_e hw
        have hw := hw _ rfl
        refine zw_bald hk hH er he hi dX0_first_31 ?_
        generalize f_29 x_16.toNatClampNeg = x_30 at hw ⊢
        obtain ⟨P_75, hP_75, hw⟩ := hw
        have hJ_75 : ∀ (r_31 : Option Nat) (x_32 : Int32) (x_33 : Int32) (hp_34 : zHp) (nx_35 : Nat) (H : Heap) (locs : List Loc) (ls : Array Slot), P_75 r_31 x_32 x_33 hp_34 nx_35 → lv_has ls 6 [(0, va_rf (some h0)), (1, va_rf r1), (2, va_rf r2), (3, va_rf r_31), (4, .int x_32)] → zHd g hp_34 H → H.size = nx_35 → va_S (zAd g) s.heap H locs → W p l e (zrm (d + 1) 0 0) s m ([.ref h0, va_rf r1, va_rf r2] : List Value).toArray below meth c H locs 0 0 (MQ below (zQi g Post) ([.ref h0, va_rf r1, va_rf r2] : List Value).toArray s 0 0 (zAd g)) (F0 m 75 ls [.int x_33]) := by
          intro r_31 x_32 x_33 hp_34 nx_35 H locs ls hw hl hH hz hS
          have hw := hP_75 r_31 x_32 x_33 hp_34 nx_35 hw
          refine lv_istore (lv' := [(5, .int x_33), (0, va_rf (some h0)), (1, va_rf r1), (2, va_rf r2), (3, va_rf r_31), (4, .int x_32)]) hx hb dX0_first_75 hl (by decide) (by first | rfl | simp [List.filter_cons, z_cat, z_catI, z_catJ, z_catF, z_catD]) (fun ls hl => ?_)
          refine lv_iload hx hb dX0_first_77 (lv_at hl 0 rfl) ?_
          refine lv_if_ne (tgt := 85) hx hb dX0_first_79 (by decide) (fun hc => ?_) (fun hc => ?_)
          · have hw := hw.2 hc
            obtain ⟨x_36, ex_36⟩ : ∃ y : Int32, y = x_32 + (1 : Int32) := ⟨_, rfl⟩
            have hw := hw x_36 ex_36
            refine lv_iinc (v := x_36) (lv' := [(4, .int x_36), (5, .int x_33), (0, va_rf (some h0)), (1, va_rf r1), (2, va_rf r2), (3, va_rf r_31)]) hx hb dX0_first_85 hl (k := 5) rfl (by rw [ex_36]; rfl) (by decide) (by first | rfl | simp [List.filter_cons, z_cat, z_catI, z_catJ, z_catF, z_catD]) (fun ls hl => ?_)
            refine lv_goto (tgt := 18) hx hb dX0_first_88 (by decide) ?_
            obtain ⟨k_37, hlt, hw⟩ := hw
            exact ih_18 k_37 hlt r_31 x_36 hp_34 nx_35 _ _ _ hw (lv_sub hl [2, 3, 4, 5, 0] rfl) hH hz hS
          · have hw := hw.1 hc
            refine lv_iload hx hb dX0_first_82 (lv_at hl 5 rfl) ?_
            exact zr_iret hk hr hH hz hS hw (Nat.le_of_ble_eq_true rfl) (Nat.le_of_ble_eq_true rfl) dX0_first_84
        refine lv_if_eq (tgt := 55) hx hb dX0_first_32 (by decide) (fun hc => ?_) (fun hc => ?_)
        · have hw := hw.1 hc
          refine zr_aload_n (r := r2) hx hb dX0_first_55 rfl (lv_at hl 2 rfl) ?_
          refine lv_iload hx hb dX0_first_56 (lv_at hl 4 rfl) ?_
          obtain ⟨a_38, n_39, f_40, er, he, hi, hw⟩ := zaD_e hw
          have hw := hw _ rfl
          refine zw_dald hk hH er he hi dX0_first_58 ?_
          generalize f_40 x_16.toNatClampNeg = x_41 at hw ⊢
          refine zr_aload_n (r := r_15) hx hb dX0_first_59 rfl (lv_at hl 3 rfl) ?_
          obtain ⟨a_42, ci_43, fs_44, r_45, er, he, hc, hv, hw⟩ := zgR_e hw
          refine zw_get hk hH er he hv (fk_X0_160 hc) dX0_first_60 ?_
          refine lv_iload hx hb dX0_first_63 (lv_at hl 4 rfl) ?_
          obtain ⟨a_46, n_47, f_48, er, he, hi, hw⟩ := zaD_e hw
          have hw := hw _ rfl
          refine zw_dald hk hH er he hi dX0_first_65 ?_
          generalize f_48 x_16.toNatClampNeg = x_49 at hw ⊢
          refine lv_dcmp hx hb dX0_first_66 ?_
          refine lv_if_ne (tgt := 74) hx hb dX0_first_67 (by decide) (fun hc => ?_) (fun hc => ?_)
          · have hw := hw.2 hc
            refine lv_iconst (v := (0 : Int32)) hx hb dX0_first_74 (by decide) ?_
            exact hJ_75 r_15 x_16 (0 : Int32) hp_17 nx_18 _ _ _ hw hl hH hz hS
          · have hw := hw.1 hc
            refine lv_iconst (v := (1 : Int32)) hx hb dX0_first_70 (by decide) ?_
            refine lv_goto (tgt := 75) hx hb dX0_first_71 (by decide) ?_
            exact hJ_75 r_15 x_16 (1 : Int32) hp_17 nx_18 _ _ _ hw hl hH hz hS
        · have hw := hw.2 hc
          refine zr_aload_n (r := r2) hx hb dX0_first_35 rfl (lv_at hl 2 rfl) ?_
          refine lv_iload hx hb dX0_first_36 (lv_at hl 4 rfl) ?_
          obtain ⟨a_50, n_51, f_52, er, he, hi, hw⟩ := zaD_e hw
          have hw := hw _ rfl
          refine zw_dald hk hH er he hi dX0_first_38 ?_
          generalize f_52 x_16.toNatClampNeg = x_53 at hw ⊢
          refine zr_aload_n (r := r2) hx hb dX0_first_39 rfl (lv_at hl 2 rfl) ?_
          refine lv_iload hx hb dX0_first_40 (lv_at hl 4 rfl) ?_
          obtain ⟨a_54, n_55, f_56, er, he, hi, hw⟩ := zaD_e hw
          have hw := hw _ rfl
          refine zw_dald hk hH er he hi dX0_first_42 ?_
          generalize f_56 x_16.toNatClampNeg = x_57 at hw ⊢
          refine lv_dcmp hx hb dX0_first_43 ?_
          refine lv_if_eq (tgt := 51) hx hb dX0_first_44 (by decide) (fun hc => ?_) (fun hc => ?_)
          · have hw := hw.1 hc
            refine lv_iconst (v := (0 : Int32)) hx hb dX0_first_51 (by decide) ?_
            refine lv_goto (tgt := 75) hx hb dX0_first_52 (by decide) ?_
            exact hJ_75 r_15 x_16 (0 : Int32) hp_17 nx_18 _ _ _ hw hl hH hz hS
          · have hw := hw.2 hc
            refine lv_iconst (v := (1 : Int32)) hx hb dX0_first_47 (by decide) ?_
            refine lv_goto (tgt := 75) hx hb dX0_first_48 (by decide) ?_
            exact hJ_75 r_15 x_16 (1 : Int32) hp_17 nx_18 _ _ _ hw hl hH hz hS
  exact hL_18 n_58 r_14 (0 : Int32) hp_1 nx_2 _ _ _ hI (lv_sub hl [2, 3, 4, 1, 0] rfl) hH hz hS
def wp_X0_kindsOf (l : Launch) (g : zG) (d : Nat) (mc ms : Nat) (h0 : Nat) (r1 : Option Nat) (r2 : Option Nat) (x3 : Int32) (hp : zHp) (nx : Nat) (Post : Int32 → zHp → Nat → Prop) : Prop :=
  (zgR hp (some h0) [0] 0 fun r_4 =>
  (zaR (g.2.1 7) hp r_4 fun a_5 n_6 f_7 => vp_in x3 n_6 ∧ ∀ r_8 : Option Nat, r_8 = f_7 x3.toNatClampNeg →
  (∃ I_14 : Nat → (Option Nat) → Int32 → Int32 → zHp → Nat → Nat → Nat → Prop, (∃ n_61, I_14 n_61 r_8 (0 : Int32) (0 : Int32) hp nx 0 0) ∧ ∀ (n_16 : Nat) (r_9 : Option Nat) (x_10 : Int32) (x_11 : Int32) (hp_12 : zHp) (nx_13 : Nat) (kc_14 : Nat) (ks_15 : Nat), I_14 n_16 r_9 x_10 x_11 hp_12 nx_13 kc_14 ks_15 →
  (((6 : Int32) ≤ x_11 →
  (zgR hp_12 (some h0) [0] 0 fun r_20 =>
  (zaR (g.2.1 7) hp_12 r_20 fun a_21 n_22 f_23 => vp_in x3 n_22 ∧ zB g ≤ a_21 ∧ zCa hp_12 r_9 [2, 6, 7, 8, 9, 10] ∧ ∀ hp_24 : zHp, hp_24 = va_up hp_12 a_21 (some (.inl (g.2.1 7, n_22, .inr (.inr (.inr (.inr (va_up f_23 x3.toNatClampNeg r_9))))))) →
  (kc_14 ≤ mc ∧ ks_15 ≤ ms ∧ Post x_10 hp_24 nx_13)))) ∧
  (¬ (6 : Int32) ≤ x_11 →
  (zgR hp_12 (some h0) [0] 0 fun r_28 =>
  (∃ c_29 s_30 : Nat, kc_14 + c_29 ≤ mc ∧ ks_15 + s_30 ≤ ms ∧ zMt l g yX0_made cX0_made 2 (some (.object "WhatIfSheet$Plain")) d c_29 s_30 [.int x3, .int x_11] hp_12 nx_13 (zQq g fun r_33 hp_31 nx_32 =>
  ((kc_14 + c_29) ≤ mc ∧ (ks_15 + s_30) ≤ ms ∧ zo hp_31 r_33 [2, 6, 7, 8, 9, 10] fun a_57 ci_58 fs_59 => ∃ PP_60 : Option Nat → zHp → Nat → Prop, (∀ (r_36 : Option Nat) (hp_34 : zHp) (nx_35 : Nat), PP_60 r_36 hp_34 nx_35 →
  (zaR (g.2.1 7) hp_34 r_28 fun a_37 n_38 f_39 => vp_in x3 n_38 ∧ zB g ≤ a_37 ∧ zCa hp_34 r_36 [2, 6, 7, 8, 9, 10] ∧ ∀ hp_40 : zHp, hp_40 = va_up hp_34 a_37 (some (.inl (g.2.1 7, n_38, .inr (.inr (.inr (.inr (va_up f_39 x3.toNatClampNeg r_36))))))) →
  ((kc_14 + c_29) ≤ mc ∧ (ks_15 + s_30) ≤ ms ∧ zo hp_40 (some h0) [0] fun a_54 ci_55 fs_56 => zMt l g yX0_first cX0_first 6 (some .int) d 0 0 (.ref a_54 :: [va_rf r1, va_rf r2]) hp_40 nx_35 (zQi g fun x_43 hp_41 nx_42 =>
  (∃ P_57 : (Option Nat) → Int32 → Int32 → zHp → Nat → Nat → Nat → Prop, (∀ (r_44 : Option Nat) (x_45 : Int32) (x_46 : Int32) (hp_47 : zHp) (nx_48 : Nat) (kc_49 : Nat) (ks_50 : Nat), P_57 r_44 x_45 x_46 hp_47 nx_48 kc_49 ks_50 →
  (∀ x_51 : Int32, x_51 = x_46 + (1 : Int32) →
  (∃ k_52, k_52 < n_16 ∧ I_14 k_52 r_44 x_45 x_51 hp_47 nx_48 kc_49 ks_50))) ∧
  ((x_43 = (-1 : Int32) →
  (∀ x_53 : Int32, x_53 = x_10 ||| ((1 : Int32) <<< (x_11 &&& 31)) →
  P_57 r_9 x_53 x_11 hp_41 nx_42 (kc_14 + c_29) (ks_15 + s_30))) ∧
  (¬ x_43 = (-1 : Int32) →
  P_57 r_9 x_10 x_11 hp_41 nx_42 (kc_14 + c_29) (ks_15 + s_30)))))))) ∧ zMt l g yX2_like cX2_like 2 (some (.object "WhatIfSheet$Plain")) d 0 0 (.ref a_57 :: [va_rf r_9]) hp_31 nx_32 (zQq g PP_60))))))))))
set_option maxHeartbeats 40000000 in
theorem met_X0_kindsOf {l : Launch} {g : zG} {d : Nat} {mc ms : Nat} {h0 : Nat} {r1 : Option Nat} {r2 : Option Nat} {x3 : Int32} {hp : zHp} {nx : Nat} {Post : Int32 → zHp → Nat → Prop} (hw : wp_X0_kindsOf l g d mc ms h0 r1 r2 x3 hp nx Post) : zMtW l g yX0_kindsOf cX0_kindsOf 8 (some .int) [(11, 63, 74, 0), (74, 76, 74, 0)] (d + 1) mc ms [.ref h0, va_rf r1, va_rf r2, .int x3] hp nx (zQi g Post) := by
  refine z_startW (by decide) (by cases r1 <;> cases r2 <;> exact Nat.le_of_ble_eq_true rfl) ?_
  intro p e s m below meth c hk hr hin hH hz ls hl
  have hx := hk.1.1
  have hb := hk.1.2.1
  have hown := hk.1.2.2.2.1
  have hts := hk.1.2.2.2.2
  have hS : va_S (zAd g) s.heap s.heap [] := va_S.rf
  have hl : lv_has ls 8 [(0, va_rf (some h0)), (1, va_rf r1), (2, va_rf r2), (3, .int x3)] := by cases r1 <;> cases r2 <;> exact hl
  unfold wp_X0_kindsOf at hw
  refine zr_aload_n (r := some h0) hx hb dX0_kindsOf_0 rfl (lv_at hl 0 rfl) ?_
  obtain ⟨a_1, ci_2, fs_3, r_4, er, he, hc, hv, hw⟩ := zgR_e hw
  refine zw_get hk hH er he hv (fk_X0_31 hc) dX0_kindsOf_1 ?_
  refine lv_iload_n hx hb dX0_kindsOf_4 rfl (lv_at hl 3 rfl) ?_
  obtain ⟨a_5, n_6, f_7, er, he, hi, hw⟩ := zaR_e hw
  have hw := hw _ rfl
  refine zw_aald hk hH 7 er he rfl rfl hi dX0_kindsOf_5 ?_
  generalize f_7 x3.toNatClampNeg = r_8 at hw ⊢
  refine zr_astore (r := r_8) (lv' := [(4, va_rf r_8), (0, va_rf (some h0)), (1, va_rf r1), (2, va_rf r2), (3, .int x3)]) hx hb dX0_kindsOf_6 hl (by decide) (by first | rfl | simp [List.filter_cons, z_cat, z_catI, z_catJ, z_catF, z_catD]) (fun ls hl => ?_)
  refine lv_iconst (v := (0 : Int32)) hx hb dX0_kindsOf_8 (by decide) ?_
  refine lv_istore (lv' := [(5, .int (0 : Int32)), (4, va_rf r_8), (0, va_rf (some h0)), (1, va_rf r1), (2, va_rf r2), (3, .int x3)]) hx hb dX0_kindsOf_9 hl (by decide) (by first | rfl | simp [List.filter_cons, z_cat, z_catI, z_catJ, z_catF, z_catD]) (fun ls hl => ?_)
  refine lv_iconst (v := (0 : Int32)) hx hb dX0_kindsOf_11 (by decide) ?_
  refine lv_istore (lv' := [(6, .int (0 : Int32)), (5, .int (0 : Int32)), (4, va_rf r_8), (0, va_rf (some h0)), (1, va_rf r1), (2, va_rf r2), (3, .int x3)]) hx hb dX0_kindsOf_12 hl (by decide) (by first | rfl | simp [List.filter_cons, z_cat, z_catI, z_catJ, z_catF, z_catD]) (fun ls hl => ?_)
  obtain ⟨I_14, ⟨n_61, hI⟩, hB_14⟩ := hw
  have hL_14 : ∀ (n_16 : Nat) (r_9 : Option Nat) (x_10 : Int32) (x_11 : Int32) (hp_12 : zHp) (nx_13 : Nat) (kc_14 : Nat) (ks_15 : Nat) (H : Heap) (locs : List Loc) (ls : Array Slot), I_14 n_16 r_9 x_10 x_11 hp_12 nx_13 kc_14 ks_15 → lv_has ls 8 [(0, va_rf (some h0)), (1, va_rf r1), (2, va_rf r2), (3, .int x3), (4, va_rf r_9), (5, .int x_10), (6, .int x_11)] → zHd g hp_12 H → H.size = nx_13 → va_S (zAd g) s.heap H locs → W p l e (zrm (d + 1) mc ms) s m ([.ref h0, va_rf r1, va_rf r2, .int x3] : List Value).toArray below meth c H locs kc_14 ks_15 (MQ below (zQi g Post) ([.ref h0, va_rf r1, va_rf r2, .int x3] : List Value).toArray s mc ms (zAd g)) (F0 m 14 ls []) := by
    intro n_16
    induction n_16 using Nat.strongRecOn with
    | _ n_16 ih_14 =>
      intro r_9 x_10 x_11 hp_12 nx_13 kc_14 ks_15 H locs ls hw hl hH hz hS
      have hw := hB_14 n_16 r_9 x_10 x_11 hp_12 nx_13 kc_14 ks_15 hw
      refine lv_iload hx hb dX0_kindsOf_14 (lv_at hl 6 rfl) ?_
      refine lv_bipush (v := (6 : Int32)) hx hb dX0_kindsOf_16 (by decide) ?_
      refine lv_icmp_ge (tgt := 63) hx hb dX0_kindsOf_18 (by decide) (fun hc => ?_) (fun hc => ?_)
      · have hw := hw.1 hc
        refine zr_aload_n (r := some h0) hx hb dX0_kindsOf_63 rfl (lv_at hl 0 rfl) ?_
        obtain ⟨a_17, ci_18, fs_19, r_20, er, he, hc, hv, hw⟩ := zgR_e hw
        refine zw_get hk hH er he hv (fk_X0_31 hc) dX0_kindsOf_64 ?_
        refine lv_iload_n hx hb dX0_kindsOf_67 rfl (lv_at hl 3 rfl) ?_
        refine zr_aload (r := r_9) hx hb dX0_kindsOf_68 (lv_at hl 4 rfl) ?_
        obtain ⟨a_21, n_22, f_23, er, he, hi, hA, hca, hw⟩ := zaR_e hw
        obtain ⟨hp_24, eh⟩ : ∃ y : zHp, y = va_up hp_12 a_21 (some (.inl (g.2.1 7, n_22, .inr (.inr (.inr (.inr (va_up f_23 x3.toNatClampNeg r_9))))))) := ⟨_, rfl⟩
        have hw := hw hp_24 eh
        refine zw_aast (v := r_9) (r := r_20) hk hH hz hS 7 er he rfl hi hA hca cw_WhatIfSheet_Plain eh dX0_kindsOf_70 (fun H locs hH hz hS => ?_)
        refine lv_goto (tgt := 87) hx hb dX0_kindsOf_71 (by decide) ?_
        refine lv_iload hx hb dX0_kindsOf_87 (lv_at hl 5 rfl) ?_
        obtain ⟨hkc, hks, hw⟩ := hw
        exact zr_iret hk hr hH hz hS hw hkc hks dX0_kindsOf_89
      · have hw := hw.2 hc
        refine zr_aload_n (r := some h0) hx hb dX0_kindsOf_21 rfl (lv_at hl 0 rfl) ?_
        obtain ⟨a_25, ci_26, fs_27, r_28, er, he, hc, hv, hw⟩ := zgR_e hw
        refine zw_get hk hH er he hv (fk_X0_31 hc) dX0_kindsOf_22 ?_
        refine lv_iload_n hx hb dX0_kindsOf_25 rfl (lv_at hl 3 rfl) ?_
        refine lv_iload_n hx hb dX0_kindsOf_26 rfl (lv_at hl 3 rfl) ?_
        refine lv_iload hx hb dX0_kindsOf_27 (lv_at hl 6 rfl) ?_
        obtain ⟨c_29, s_30, hcl, hsl, hw⟩ := hw
        refine zr_callq (zr_runS (As := [.int x3, .int x_11]) hk hH hz hS hl.1 hw (va_cwS 2 hts (lw_S q2051 q2052 q131 q2053) rfl rfl rfl (by decide +kernel) (z_room (Nat.le_of_ble_eq_true rfl))) rfl rfl (by simp only [List.map_cons, List.map_nil, z_cat]; exact Nat.le_of_ble_eq_true rfl) dX0_kindsOf_29 ⟨hcl, hsl⟩) hS (fun r_33 hp_31 nx_32 hw H locs hH hz hS => ?_)
        refine zr_aload (r := r_9) hx hb dX0_kindsOf_32 (lv_at hl 4 rfl) ?_
        obtain ⟨hcl, hsl, hw⟩ := hw
        obtain ⟨a_57, ci_58, fs_59, er, he, hc, PP_60, hPP, hw⟩ := zo_e hw
        have hC : ∀ (r_36 : Option Nat) (hp_34 : zHp) (nx_35 : Nat), PP_60 r_36 hp_34 nx_35 → ∀ (H : Heap) (locs : List Loc), zHd g hp_34 H → H.size = nx_35 → va_S (zAd g) s.heap H locs → W p l e (zrm (d + 1) mc ms) s m ([.ref h0, va_rf r1, va_rf r2, .int x3] : List Value).toArray below meth c H locs ((kc_14 + c_29) + 0) ((ks_15 + s_30) + 0) (MQ below (zQi g Post) ([.ref h0, va_rf r1, va_rf r2, .int x3] : List Value).toArray s mc ms (zAd g)) (F0 m 37 ls [va_rf r_36, .int x3, va_rf r_28]) := by
          intro r_36 hp_34 nx_35 hw H locs hH hz hS
          have hw := hPP r_36 hp_34 nx_35 hw
          obtain ⟨a_37, n_38, f_39, er, he, hi, hA, hca, hw⟩ := zaR_e hw
          obtain ⟨hp_40, eh⟩ : ∃ y : zHp, y = va_up hp_34 a_37 (some (.inl (g.2.1 7, n_38, .inr (.inr (.inr (.inr (va_up f_39 x3.toNatClampNeg r_36))))))) := ⟨_, rfl⟩
          have hw := hw hp_40 eh
          refine zw_aast (v := r_36) (r := r_28) hk hH hz hS 7 er he rfl hi hA hca cw_WhatIfSheet_Plain eh dX0_kindsOf_37 (fun H locs hH hz hS => ?_)
          refine zr_aload_n (r := some h0) hx hb dX0_kindsOf_38 rfl (lv_at hl 0 rfl) ?_
          refine zr_aload_n (r := r1) hx hb dX0_kindsOf_39 rfl (lv_at hl 1 rfl) ?_
          refine zr_aload_n (r := r2) hx hb dX0_kindsOf_40 rfl (lv_at hl 2 rfl) ?_
          obtain ⟨hcl, hsl, hw⟩ := hw
          obtain ⟨a_54, ci_55, fs_56, er, he, hc, hw⟩ := zo_e hw
          obtain rfl := List.mem_singleton.mp hc
          refine zr_calli (zw_runV (As := [va_rf r1, va_rf r2]) hk hH hz hS hl.1 er hw (cwV 2 hts (lw_V q2580 q2582 qs65 q131 q2583) rfl rfl rfl (by decide +kernel) (z_room (Nat.le_of_ble_eq_true rfl))) he rfl rfl rfl (Nat.le_of_ble_eq_true rfl) dX0_kindsOf_41 ⟨hcl, hsl⟩) hS (fun x_43 hp_41 nx_42 hw H locs hH hz hS => ?_)
          refine lv_iconst (v := (-1 : Int32)) hx hb dX0_kindsOf_44 (by decide) ?_
          obtain ⟨P_57, hP_57, hw⟩ := hw
          have hJ_57 : ∀ (r_44 : Option Nat) (x_45 : Int32) (x_46 : Int32) (hp_47 : zHp) (nx_48 : Nat) (kc_49 : Nat) (ks_50 : Nat) (H : Heap) (locs : List Loc) (ls : Array Slot), P_57 r_44 x_45 x_46 hp_47 nx_48 kc_49 ks_50 → lv_has ls 8 [(0, va_rf (some h0)), (1, va_rf r1), (2, va_rf r2), (3, .int x3), (4, va_rf r_44), (5, .int x_45), (6, .int x_46)] → zHd g hp_47 H → H.size = nx_48 → va_S (zAd g) s.heap H locs → W p l e (zrm (d + 1) mc ms) s m ([.ref h0, va_rf r1, va_rf r2, .int x3] : List Value).toArray below meth c H locs kc_49 ks_50 (MQ below (zQi g Post) ([.ref h0, va_rf r1, va_rf r2, .int x3] : List Value).toArray s mc ms (zAd g)) (F0 m 57 ls []) := by
            intro r_44 x_45 x_46 hp_47 nx_48 kc_49 ks_50 H locs ls hw hl hH hz hS
            have hw := hP_57 r_44 x_45 x_46 hp_47 nx_48 kc_49 ks_50 hw
            obtain ⟨x_51, ex_51⟩ : ∃ y : Int32, y = x_46 + (1 : Int32) := ⟨_, rfl⟩
            have hw := hw x_51 ex_51
            refine lv_iinc (v := x_51) (lv' := [(6, .int x_51), (0, va_rf (some h0)), (1, va_rf r1), (2, va_rf r2), (3, .int x3), (4, va_rf r_44), (5, .int x_45)]) hx hb dX0_kindsOf_57 hl (k := 6) rfl (by rw [ex_51]; rfl) (by decide) (by first | rfl | simp [List.filter_cons, z_cat, z_catI, z_catJ, z_catF, z_catD]) (fun ls hl => ?_)
            refine lv_goto (tgt := 14) hx hb dX0_kindsOf_60 (by decide) ?_
            obtain ⟨k_52, hlt, hw⟩ := hw
            exact ih_14 k_52 hlt r_44 x_45 x_51 hp_47 nx_48 kc_49 ks_50 _ _ _ hw (lv_sub hl [1, 2, 3, 4, 5, 6, 0] rfl) hH hz hS
          refine lv_icmp_ne (tgt := 57) hx hb dX0_kindsOf_45 (by decide) (fun hc => ?_) (fun hc => ?_)
          · have hw := hw.2 hc
            exact hJ_57 r_9 x_10 x_11 hp_41 nx_42 (kc_14 + c_29) (ks_15 + s_30) _ _ _ hw hl hH hz hS
          · have hw := hw.1 hc
            refine lv_iload hx hb dX0_kindsOf_48 (lv_at hl 5 rfl) ?_
            refine lv_iconst (v := (1 : Int32)) hx hb dX0_kindsOf_50 (by decide) ?_
            refine lv_iload hx hb dX0_kindsOf_51 (lv_at hl 6 rfl) ?_
            refine lv_ishl hx hb dX0_kindsOf_53 ?_
            refine lv_ior hx hb dX0_kindsOf_54 ?_
            refine lv_topi (fun x_53 ex_53 => ?_)
            have hw := hw x_53 ex_53
            refine lv_istore (lv' := [(5, .int x_53), (0, va_rf (some h0)), (1, va_rf r1), (2, va_rf r2), (3, .int x3), (4, va_rf r_9), (6, .int x_11)]) hx hb dX0_kindsOf_55 hl (by decide) (by first | rfl | simp [List.filter_cons, z_cat, z_catI, z_catJ, z_catF, z_catD]) (fun ls hl => ?_)
            exact hJ_57 r_9 x_53 x_11 hp_41 nx_42 (kc_14 + c_29) (ks_15 + s_30) _ _ _ hw (lv_sub hl [1, 2, 3, 4, 5, 0, 6] rfl) hH hz hS
        simp only [List.mem_cons, List.not_mem_nil, or_false] at hc
        rcases hc with rfl | rfl | rfl | rfl | rfl | rfl
        · exact zr_callq (zw_runV (As := [va_rf r_9]) hk hH hz hS hl.1 er (hw) (cwV 1 hts (lw_V q2099 q2100 q2101 q152 q2108) rfl rfl rfl (by decide +kernel) (z_room (Nat.le_of_ble_eq_true rfl))) he rfl rfl rfl (by simp only [List.map_cons, List.map_nil, z_cat]; exact Nat.le_of_ble_eq_true rfl) dX0_kindsOf_34 ⟨hcl, hsl⟩) hS hC
        · exact zr_callq (zw_runU (As := [va_rf r_9]) hk hH hz hS hl.1 er (hw) (va_cwU 1 hts (z_U q2099 q2102 q2107 q2100 q152 q2108) rfl rfl rfl rfl (by decide +kernel) (z_room (Nat.le_of_ble_eq_true rfl))) he rfl rfl rfl (by simp only [List.map_cons, List.map_nil, z_cat]; exact Nat.le_of_ble_eq_true rfl) dX0_kindsOf_34 ⟨hcl, hsl⟩) hS hC
        · exact zr_callq (zw_runU (As := [va_rf r_9]) hk hH hz hS hl.1 er (hw) (va_cwU 1 hts (z_U q2099 q2102 q2104 q2100 q152 q2108) rfl rfl rfl rfl (by decide +kernel) (z_room (Nat.le_of_ble_eq_true rfl))) he rfl rfl rfl (by simp only [List.map_cons, List.map_nil, z_cat]; exact Nat.le_of_ble_eq_true rfl) dX0_kindsOf_34 ⟨hcl, hsl⟩) hS hC
        · exact zr_callq (zw_runU (As := [va_rf r_9]) hk hH hz hS hl.1 er (hw) (va_cwU 1 hts (z_U q2099 q2102 q2105 q2100 q152 q2108) rfl rfl rfl rfl (by decide +kernel) (z_room (Nat.le_of_ble_eq_true rfl))) he rfl rfl rfl (by simp only [List.map_cons, List.map_nil, z_cat]; exact Nat.le_of_ble_eq_true rfl) dX0_kindsOf_34 ⟨hcl, hsl⟩) hS hC
        · exact zr_callq (zw_runU (As := [va_rf r_9]) hk hH hz hS hl.1 er (hw) (va_cwU 1 hts (z_U q2099 q2102 q2106 q2100 q152 q2108) rfl rfl rfl rfl (by decide +kernel) (z_room (Nat.le_of_ble_eq_true rfl))) he rfl rfl rfl (by simp only [List.map_cons, List.map_nil, z_cat]; exact Nat.le_of_ble_eq_true rfl) dX0_kindsOf_34 ⟨hcl, hsl⟩) hS hC
        · exact zr_callq (zw_runU (As := [va_rf r_9]) hk hH hz hS hl.1 er (hw) (va_cwU 1 hts (z_U q2099 q2102 q2103 q2100 q152 q2108) rfl rfl rfl rfl (by decide +kernel) (z_room (Nat.le_of_ble_eq_true rfl))) he rfl rfl rfl (by simp only [List.map_cons, List.map_nil, z_cat]; exact Nat.le_of_ble_eq_true rfl) dX0_kindsOf_34 ⟨hcl, hsl⟩) hS hC
  exact hL_14 n_61 r_8 (0 : Int32) (0 : Int32) hp nx 0 0 _ _ _ hI (lv_sub hl [3, 4, 5, 6, 2, 1, 0] rfl) hH hz hS
def wp_X0_numbersOf (l : Launch) (g : zG) (d : Nat) (h0 : Nat) (r1 : Option Nat) (r2 : Option Nat) (x3 : Int32) (x4 : Int32) (hp : zHp) (nx : Nat) (Post : Int32 → zHp → Nat → Prop) : Prop :=
  (zgR hp (some h0) [0] 0 fun r_4 =>
  (zaR (g.2.1 7) hp r_4 fun a_5 n_6 f_7 => vp_in x3 n_6 ∧ ∀ r_8 : Option Nat, r_8 = f_7 x3.toNatClampNeg →
  (zgD hp r_8 [2, 6, 7, 8, 9, 10] 2 fun x_12 =>
  (∃ I_25 : Nat → (Option Nat) → UInt64 → Int32 → Int32 → Int32 → zHp → Nat → Prop, (∃ n_61, I_25 n_61 r_8 x_12 (0 : Int32) (-1 : Int32) (20 : Int32) hp nx) ∧ ∀ (n_20 : Nat) (r_13 : Option Nat) (x_14 : UInt64) (x_15 : Int32) (x_16 : Int32) (x_17 : Int32) (hp_18 : zHp) (nx_19 : Nat), I_25 n_20 r_13 x_14 x_15 x_16 x_17 hp_18 nx_19 →
  ((x_17 < (-20 : Int32) →
  (zpt g hp_18 r_13 [2, 6, 7, 8, 9, 10] 2 (.double x_14) fun hp_24 =>
  (∃ P_110 : (Option Nat) → UInt64 → Int32 → Int32 → Int32 → Int32 → zHp → Nat → Prop, (∀ (r_25 : Option Nat) (x_26 : UInt64) (x_27 : Int32) (x_28 : Int32) (x_29 : Int32) (x_30 : Int32) (hp_31 : zHp) (nx_32 : Nat), P_110 r_25 x_26 x_27 x_28 x_29 x_30 hp_31 nx_32 →
  (Post x_30 hp_31 nx_32)) ∧
  ((x4 = (2 : Int32) →
  P_110 r_13 x_14 x_15 x_16 x_17 x_15 hp_24 nx_19) ∧
  (¬ x4 = (2 : Int32) →
  P_110 r_13 x_14 x_15 x_16 x_17 x_16 hp_24 nx_19))))) ∧
  (¬ x_17 < (-20 : Int32) →
  (zo hp_18 r_13 [2, 6, 7, 8, 9, 10] fun a_57 ci_58 fs_59 => ∃ PP_60 : UInt64 → zHp → Nat → Prop, (∀ (x_35 : UInt64) (hp_33 : zHp) (nx_34 : Nat), PP_60 x_35 hp_33 nx_34 →
  (zpt g hp_33 r_13 [2, 6, 7, 8, 9, 10] 2 (.double x_35) fun hp_39 =>
  (zo hp_39 (some h0) [0] fun a_54 ci_55 fs_56 => zMt l g yX0_first cX0_first 6 (some .int) d 0 0 (.ref a_54 :: [va_rf r1, va_rf r2]) hp_39 nx_34 (zQi g fun x_42 hp_40 nx_41 =>
  (∃ P_69 : (Option Nat) → UInt64 → Int32 → Int32 → Int32 → zHp → Nat → Prop, (∀ (r_43 : Option Nat) (x_44 : UInt64) (x_45 : Int32) (x_46 : Int32) (x_47 : Int32) (hp_48 : zHp) (nx_49 : Nat), P_69 r_43 x_44 x_45 x_46 x_47 hp_48 nx_49 →
  (∀ x_50 : Int32, x_50 = x_47 + (-1 : Int32) →
  (∃ k_51, k_51 < n_20 ∧ I_25 k_51 r_43 x_44 x_45 x_46 x_50 hp_48 nx_49))) ∧
  ((x_42 = (-1 : Int32) →
  (∀ x_52 : Int32, x_52 = x_15 + (1 : Int32) →
  (∀ x_53 : Int32, x_53 = (1000 : Int32) + x_17 →
  P_69 r_13 x_14 x_52 x_53 x_17 hp_40 nx_41))) ∧
  (¬ x_42 = (-1 : Int32) →
  P_69 r_13 x_14 x_15 x_16 x_17 hp_40 nx_41))))))) ∧ zMt l g yX2_kept cX2_kept 5 (some .double) d 0 0 (.ref a_57 :: [.double (FP.i2d x_17)]) hp_18 nx_19 (zQd g PP_60))))))))
set_option maxHeartbeats 40000000 in
theorem met_X0_numbersOf {l : Launch} {g : zG} {d : Nat} {h0 : Nat} {r1 : Option Nat} {r2 : Option Nat} {x3 : Int32} {x4 : Int32} {hp : zHp} {nx : Nat} {Post : Int32 → zHp → Nat → Prop} (hw : wp_X0_numbersOf l g d h0 r1 r2 x3 x4 hp nx Post) : zMtW l g yX0_numbersOf cX0_numbersOf 12 (some .int) [(21, 75, 85, 0), (85, 87, 85, 0)] (d + 1) 0 0 [.ref h0, va_rf r1, va_rf r2, .int x3, .int x4] hp nx (zQi g Post) := by
  refine z_startW (by decide) (by cases r1 <;> cases r2 <;> exact Nat.le_of_ble_eq_true rfl) ?_
  intro p e s m below meth c hk hr hin hH hz ls hl
  have hx := hk.1.1
  have hb := hk.1.2.1
  have hown := hk.1.2.2.2.1
  have hts := hk.1.2.2.2.2
  have hS : va_S (zAd g) s.heap s.heap [] := va_S.rf
  have hl : lv_has ls 12 [(0, va_rf (some h0)), (1, va_rf r1), (2, va_rf r2), (3, .int x3), (4, .int x4)] := by cases r1 <;> cases r2 <;> exact hl
  unfold wp_X0_numbersOf at hw
  refine zr_aload_n (r := some h0) hx hb dX0_numbersOf_0 rfl (lv_at hl 0 rfl) ?_
  obtain ⟨a_1, ci_2, fs_3, r_4, er, he, hc, hv, hw⟩ := zgR_e hw
  refine zw_get hk hH er he hv (fk_X0_31 hc) dX0_numbersOf_1 ?_
  refine lv_iload_n hx hb dX0_numbersOf_4 rfl (lv_at hl 3 rfl) ?_
  obtain ⟨a_5, n_6, f_7, er, he, hi, hw⟩ := zaR_e hw
  have hw := hw _ rfl
  refine zw_aald hk hH 7 er he rfl rfl hi dX0_numbersOf_5 ?_
  generalize f_7 x3.toNatClampNeg = r_8 at hw ⊢
  refine zr_astore (r := r_8) (lv' := [(5, va_rf r_8), (0, va_rf (some h0)), (1, va_rf r1), (2, va_rf r2), (3, .int x3), (4, .int x4)]) hx hb dX0_numbersOf_6 hl (by decide) (by first | rfl | simp [List.filter_cons, z_cat, z_catI, z_catJ, z_catF, z_catD]) (fun ls hl => ?_)
  refine zr_aload (r := r_8) hx hb dX0_numbersOf_8 (lv_at hl 0 rfl) ?_
  obtain ⟨a_9, ci_10, fs_11, x_12, er, he, hc, hv, hw⟩ := zgD_e hw
  refine zw_get hk hH er he hv (fk_X0_209 hc) dX0_numbersOf_10 ?_
  refine lv_dstore (lv' := [(6, .double x_12), (5, va_rf r_8), (0, va_rf (some h0)), (1, va_rf r1), (2, va_rf r2), (3, .int x3), (4, .int x4)]) hx hb dX0_numbersOf_13 hl (by decide) (by first | rfl | simp [List.filter_cons, z_cat, z_catI, z_catJ, z_catF, z_catD]) (fun ls hl => ?_)
  refine lv_iconst (v := (0 : Int32)) hx hb dX0_numbersOf_15 (by decide) ?_
  refine lv_istore (lv' := [(8, .int (0 : Int32)), (6, .double x_12), (5, va_rf r_8), (0, va_rf (some h0)), (1, va_rf r1), (2, va_rf r2), (3, .int x3), (4, .int x4)]) hx hb dX0_numbersOf_16 hl (by decide) (by first | rfl | simp [List.filter_cons, z_cat, z_catI, z_catJ, z_catF, z_catD]) (fun ls hl => ?_)
  refine lv_iconst (v := (-1 : Int32)) hx hb dX0_numbersOf_18 (by decide) ?_
  refine lv_istore (lv' := [(9, .int (-1 : Int32)), (8, .int (0 : Int32)), (6, .double x_12), (5, va_rf r_8), (0, va_rf (some h0)), (1, va_rf r1), (2, va_rf r2), (3, .int x3), (4, .int x4)]) hx hb dX0_numbersOf_19 hl (by decide) (by first | rfl | simp [List.filter_cons, z_cat, z_catI, z_catJ, z_catF, z_catD]) (fun ls hl => ?_)
  refine lv_bipush (v := (20 : Int32)) hx hb dX0_numbersOf_21 (by decide) ?_
  refine lv_istore (lv' := [(10, .int (20 : Int32)), (9, .int (-1 : Int32)), (8, .int (0 : Int32)), (6, .double x_12), (5, va_rf r_8), (0, va_rf (some h0)), (1, va_rf r1), (2, va_rf r2), (3, .int x3), (4, .int x4)]) hx hb dX0_numbersOf_23 hl (by decide) (by first | rfl | simp [List.filter_cons, z_cat, z_catI, z_catJ, z_catF, z_catD]) (fun ls hl => ?_)
  obtain ⟨I_25, ⟨n_61, hI⟩, hB_25⟩ := hw
  have hL_25 : ∀ (n_20 : Nat) (r_13 : Option Nat) (x_14 : UInt64) (x_15 : Int32) (x_16 : Int32) (x_17 : Int32) (hp_18 : zHp) (nx_19 : Nat) (H : Heap) (locs : List Loc) (ls : Array Slot), I_25 n_20 r_13 x_14 x_15 x_16 x_17 hp_18 nx_19 → lv_has ls 12 [(0, va_rf (some h0)), (1, va_rf r1), (2, va_rf r2), (3, .int x3), (4, .int x4), (5, va_rf r_13), (6, .double x_14), (8, .int x_15), (9, .int x_16), (10, .int x_17)] → zHd g hp_18 H → H.size = nx_19 → va_S (zAd g) s.heap H locs → W p l e (zrm (d + 1) 0 0) s m ([.ref h0, va_rf r1, va_rf r2, .int x3, .int x4] : List Value).toArray below meth c H locs 0 0 (MQ below (zQi g Post) ([.ref h0, va_rf r1, va_rf r2, .int x3, .int x4] : List Value).toArray s 0 0 (zAd g)) (F0 m 25 ls []) := by
    intro n_20
    induction n_20 using Nat.strongRecOn with
    | _ n_20 ih_25 =>
      intro r_13 x_14 x_15 x_16 x_17 hp_18 nx_19 H locs ls hw hl hH hz hS
      have hw := hB_25 n_20 r_13 x_14 x_15 x_16 x_17 hp_18 nx_19 hw
      refine lv_iload hx hb dX0_numbersOf_25 (lv_at hl 9 rfl) ?_
      refine lv_bipush (v := (-20 : Int32)) hx hb dX0_numbersOf_27 (by decide) ?_
      refine lv_icmp_lt (tgt := 75) hx hb dX0_numbersOf_29 (by decide) (fun hc => ?_) (fun hc => ?_)
      · have hw := hw.1 hc
        refine zr_aload (r := r_13) hx hb dX0_numbersOf_75 (lv_at hl 5 rfl) ?_
        refine lv_dload hx hb dX0_numbersOf_77 (lv_at hl 6 rfl) ?_
        obtain ⟨a_21, ci_22, fs_23, hp_24, er, he, hc, hA, hkl, eh, hw⟩ := zpt_e hw
        refine zw_put hk hH hz hS er he hA hkl eh (fp_X0_209 hc) rfl rfl dX0_numbersOf_79 (fun H locs hH hz hS => ?_)
        refine lv_goto (tgt := 97) hx hb dX0_numbersOf_82 (by decide) ?_
        refine lv_iload hx hb dX0_numbersOf_97 (lv_at hl 4 rfl) ?_
        refine lv_iconst (v := (2 : Int32)) hx hb dX0_numbersOf_99 (by decide) ?_
        obtain ⟨P_110, hP_110, hw⟩ := hw
        have hJ_110 : ∀ (r_25 : Option Nat) (x_26 : UInt64) (x_27 : Int32) (x_28 : Int32) (x_29 : Int32) (x_30 : Int32) (hp_31 : zHp) (nx_32 : Nat) (H : Heap) (locs : List Loc) (ls : Array Slot), P_110 r_25 x_26 x_27 x_28 x_29 x_30 hp_31 nx_32 → lv_has ls 12 [(0, va_rf (some h0)), (1, va_rf r1), (2, va_rf r2), (3, .int x3), (4, .int x4), (5, va_rf r_25), (6, .double x_26), (8, .int x_27), (9, .int x_28), (10, .int x_29)] → zHd g hp_31 H → H.size = nx_32 → va_S (zAd g) s.heap H locs → W p l e (zrm (d + 1) 0 0) s m ([.ref h0, va_rf r1, va_rf r2, .int x3, .int x4] : List Value).toArray below meth c H locs 0 0 (MQ below (zQi g Post) ([.ref h0, va_rf r1, va_rf r2, .int x3, .int x4] : List Value).toArray s 0 0 (zAd g)) (F0 m 110 ls [.int x_30]) := by
          intro r_25 x_26 x_27 x_28 x_29 x_30 hp_31 nx_32 H locs ls hw hl hH hz hS
          have hw := hP_110 r_25 x_26 x_27 x_28 x_29 x_30 hp_31 nx_32 hw
          exact zr_iret hk hr hH hz hS hw (Nat.le_of_ble_eq_true rfl) (Nat.le_of_ble_eq_true rfl) dX0_numbersOf_110
        refine lv_icmp_ne (tgt := 108) hx hb dX0_numbersOf_100 (by decide) (fun hc => ?_) (fun hc => ?_)
        · have hw := hw.2 hc
          refine lv_iload hx hb dX0_numbersOf_108 (lv_at hl 8 rfl) ?_
          exact hJ_110 r_13 x_14 x_15 x_16 x_17 x_16 hp_24 nx_19 _ _ _ hw hl hH hz hS
        · have hw := hw.1 hc
          refine lv_iload hx hb dX0_numbersOf_103 (lv_at hl 7 rfl) ?_
          refine lv_goto (tgt := 110) hx hb dX0_numbersOf_105 (by decide) ?_
          exact hJ_110 r_13 x_14 x_15 x_16 x_17 x_15 hp_24 nx_19 _ _ _ hw hl hH hz hS
      · have hw := hw.2 hc
        refine zr_aload (r := r_13) hx hb dX0_numbersOf_32 (lv_at hl 5 rfl) ?_
        refine zr_aload (r := r_13) hx hb dX0_numbersOf_34 (lv_at hl 5 rfl) ?_
        refine lv_iload hx hb dX0_numbersOf_36 (lv_at hl 9 rfl) ?_
        refine lv_i2d hx hb dX0_numbersOf_38 ?_
        obtain ⟨a_57, ci_58, fs_59, er, he, hc, PP_60, hPP, hw⟩ := zo_e hw
        have hC : ∀ (x_35 : UInt64) (hp_33 : zHp) (nx_34 : Nat), PP_60 x_35 hp_33 nx_34 → ∀ (H : Heap) (locs : List Loc), zHd g hp_33 H → H.size = nx_34 → va_S (zAd g) s.heap H locs → W p l e (zrm (d + 1) 0 0) s m ([.ref h0, va_rf r1, va_rf r2, .int x3, .int x4] : List Value).toArray below meth c H locs (0 + 0) (0 + 0) (MQ below (zQi g Post) ([.ref h0, va_rf r1, va_rf r2, .int x3, .int x4] : List Value).toArray s 0 0 (zAd g)) (F0 m 42 ls [.double x_35, va_rf r_13]) := by
          intro x_35 hp_33 nx_34 hw H locs hH hz hS
          have hw := hPP x_35 hp_33 nx_34 hw
          obtain ⟨a_36, ci_37, fs_38, hp_39, er, he, hc, hA, hkl, eh, hw⟩ := zpt_e hw
          refine zw_put hk hH hz hS er he hA hkl eh (fp_X0_209 hc) rfl rfl dX0_numbersOf_42 (fun H locs hH hz hS => ?_)
          refine zr_aload_n (r := some h0) hx hb dX0_numbersOf_45 rfl (lv_at hl 0 rfl) ?_
          refine zr_aload_n (r := r1) hx hb dX0_numbersOf_46 rfl (lv_at hl 1 rfl) ?_
          refine zr_aload_n (r := r2) hx hb dX0_numbersOf_47 rfl (lv_at hl 2 rfl) ?_
          obtain ⟨a_54, ci_55, fs_56, er, he, hc, hw⟩ := zo_e hw
          obtain rfl := List.mem_singleton.mp hc
          refine zr_calli (zw_runV (As := [va_rf r1, va_rf r2]) hk hH hz hS hl.1 er hw (cwV 2 hts (lw_V q2580 q2582 qs65 q131 q2583) rfl rfl rfl (by decide +kernel) (z_room (Nat.le_of_ble_eq_true rfl))) he rfl rfl rfl (Nat.le_of_ble_eq_true rfl) dX0_numbersOf_48 ⟨Nat.le_of_ble_eq_true rfl, Nat.le_of_ble_eq_true rfl⟩) hS (fun x_42 hp_40 nx_41 hw H locs hH hz hS => ?_)
          refine lv_iconst (v := (-1 : Int32)) hx hb dX0_numbersOf_51 (by decide) ?_
          obtain ⟨P_69, hP_69, hw⟩ := hw
          have hJ_69 : ∀ (r_43 : Option Nat) (x_44 : UInt64) (x_45 : Int32) (x_46 : Int32) (x_47 : Int32) (hp_48 : zHp) (nx_49 : Nat) (H : Heap) (locs : List Loc) (ls : Array Slot), P_69 r_43 x_44 x_45 x_46 x_47 hp_48 nx_49 → lv_has ls 12 [(0, va_rf (some h0)), (1, va_rf r1), (2, va_rf r2), (3, .int x3), (4, .int x4), (5, va_rf r_43), (6, .double x_44), (8, .int x_45), (9, .int x_46), (10, .int x_47)] → zHd g hp_48 H → H.size = nx_49 → va_S (zAd g) s.heap H locs → W p l e (zrm (d + 1) 0 0) s m ([.ref h0, va_rf r1, va_rf r2, .int x3, .int x4] : List Value).toArray below meth c H locs 0 0 (MQ below (zQi g Post) ([.ref h0, va_rf r1, va_rf r2, .int x3, .int x4] : List Value).toArray s 0 0 (zAd g)) (F0 m 69 ls []) := by
            intro r_43 x_44 x_45 x_46 x_47 hp_48 nx_49 H locs ls hw hl hH hz hS
            have hw := hP_69 r_43 x_44 x_45 x_46 x_47 hp_48 nx_49 hw
            obtain ⟨x_50, ex_50⟩ : ∃ y : Int32, y = x_47 + (-1 : Int32) := ⟨_, rfl⟩
            have hw := hw x_50 ex_50
            refine lv_iinc (v := x_50) (lv' := [(10, .int x_50), (0, va_rf (some h0)), (1, va_rf r1), (2, va_rf r2), (3, .int x3), (4, .int x4), (5, va_rf r_43), (6, .double x_44), (8, .int x_45), (9, .int x_46)]) hx hb dX0_numbersOf_69 hl (k := 9) rfl (by rw [ex_50]; rfl) (by decide) (by first | rfl | simp [List.filter_cons, z_cat, z_catI, z_catJ, z_catF, z_catD]) (fun ls hl => ?_)
            refine lv_goto (tgt := 25) hx hb dX0_numbersOf_72 (by decide) ?_
            obtain ⟨k_51, hlt, hw⟩ := hw
            exact ih_25 k_51 hlt r_43 x_44 x_45 x_46 x_50 hp_48 nx_49 _ _ _ hw (lv_sub hl [1, 2, 3, 4, 5, 6, 7, 8, 9, 0] rfl) hH hz hS
          refine lv_icmp_eq (tgt := 58) hx hb dX0_numbersOf_52 (by decide) (fun hc => ?_) (fun hc => ?_)
          · have hw := hw.1 hc
            obtain ⟨x_52, ex_52⟩ : ∃ y : Int32, y = x_15 + (1 : Int32) := ⟨_, rfl⟩
            have hw := hw x_52 ex_52
            refine lv_iinc (v := x_52) (lv' := [(8, .int x_52), (0, va_rf (some h0)), (1, va_rf r1), (2, va_rf r2), (3, .int x3), (4, .int x4), (5, va_rf r_13), (6, .double x_14), (9, .int x_16), (10, .int x_17)]) hx hb dX0_numbersOf_58 hl (k := 7) rfl (by rw [ex_52]; rfl) (by decide) (by first | rfl | simp [List.filter_cons, z_cat, z_catI, z_catJ, z_catF, z_catD]) (fun ls hl => ?_)
            refine lv_sipush (v := (1000 : Int32)) hx hb dX0_numbersOf_61 (by decide) ?_
            refine lv_iload hx hb dX0_numbersOf_64 (lv_at hl 9 rfl) ?_
            refine lv_iadd hx hb dX0_numbersOf_66 ?_
            refine lv_topi (fun x_53 ex_53 => ?_)
            have hw := hw x_53 ex_53
            refine lv_istore (lv' := [(9, .int x_53), (8, .int x_52), (0, va_rf (some h0)), (1, va_rf r1), (2, va_rf r2), (3, .int x3), (4, .int x4), (5, va_rf r_13), (6, .double x_14), (10, .int x_17)]) hx hb dX0_numbersOf_67 hl (by decide) (by first | rfl | simp [List.filter_cons, z_cat, z_catI, z_catJ, z_catF, z_catD]) (fun ls hl => ?_)
            exact hJ_69 r_13 x_14 x_52 x_53 x_17 hp_40 nx_41 _ _ _ hw (lv_sub hl [2, 3, 4, 5, 6, 7, 8, 1, 0, 9] rfl) hH hz hS
          · have hw := hw.2 hc
            refine lv_goto (tgt := 69) hx hb dX0_numbersOf_55 (by decide) ?_
            exact hJ_69 r_13 x_14 x_15 x_16 x_17 hp_40 nx_41 _ _ _ hw hl hH hz hS
        simp only [List.mem_cons, List.not_mem_nil, or_false] at hc
        rcases hc with rfl | rfl | rfl | rfl | rfl | rfl
        · exact zr_calld (zw_runV (As := [.double (FP.i2d x_17)]) hk hH hz hS hl.1 er (hw) (cwV 1 hts (lw_V q1980 q1981 q1982 q152 q1989) rfl rfl rfl (by decide +kernel) (z_room (Nat.le_of_ble_eq_true rfl))) he rfl rfl rfl (by simp only [List.map_cons, List.map_nil, z_cat]; exact Nat.le_of_ble_eq_true rfl) dX0_numbersOf_39 ⟨Nat.le_of_ble_eq_true rfl, Nat.le_of_ble_eq_true rfl⟩) hS hC
        · exact zr_calld (zw_runU (As := [.double (FP.i2d x_17)]) hk hH hz hS hl.1 er (hw) (va_cwU 1 hts (z_U q1980 q1983 q1988 q1981 q152 q1989) rfl rfl rfl rfl (by decide +kernel) (z_room (Nat.le_of_ble_eq_true rfl))) he rfl rfl rfl (by simp only [List.map_cons, List.map_nil, z_cat]; exact Nat.le_of_ble_eq_true rfl) dX0_numbersOf_39 ⟨Nat.le_of_ble_eq_true rfl, Nat.le_of_ble_eq_true rfl⟩) hS hC
        · exact zr_calld (zw_runU (As := [.double (FP.i2d x_17)]) hk hH hz hS hl.1 er (hw) (va_cwU 1 hts (z_U q1980 q1983 q1985 q1981 q152 q1989) rfl rfl rfl rfl (by decide +kernel) (z_room (Nat.le_of_ble_eq_true rfl))) he rfl rfl rfl (by simp only [List.map_cons, List.map_nil, z_cat]; exact Nat.le_of_ble_eq_true rfl) dX0_numbersOf_39 ⟨Nat.le_of_ble_eq_true rfl, Nat.le_of_ble_eq_true rfl⟩) hS hC
        · exact zr_calld (zw_runU (As := [.double (FP.i2d x_17)]) hk hH hz hS hl.1 er (hw) (va_cwU 1 hts (z_U q1980 q1983 q1986 q1981 q152 q1989) rfl rfl rfl rfl (by decide +kernel) (z_room (Nat.le_of_ble_eq_true rfl))) he rfl rfl rfl (by simp only [List.map_cons, List.map_nil, z_cat]; exact Nat.le_of_ble_eq_true rfl) dX0_numbersOf_39 ⟨Nat.le_of_ble_eq_true rfl, Nat.le_of_ble_eq_true rfl⟩) hS hC
        · exact zr_calld (zw_runU (As := [.double (FP.i2d x_17)]) hk hH hz hS hl.1 er (hw) (va_cwU 1 hts (z_U q1980 q1983 q1987 q1981 q152 q1989) rfl rfl rfl rfl (by decide +kernel) (z_room (Nat.le_of_ble_eq_true rfl))) he rfl rfl rfl (by simp only [List.map_cons, List.map_nil, z_cat]; exact Nat.le_of_ble_eq_true rfl) dX0_numbersOf_39 ⟨Nat.le_of_ble_eq_true rfl, Nat.le_of_ble_eq_true rfl⟩) hS hC
        · exact zr_calld (zw_runU (As := [.double (FP.i2d x_17)]) hk hH hz hS hl.1 er (hw) (va_cwU 1 hts (z_U q1980 q1983 q1984 q1981 q152 q1989) rfl rfl rfl rfl (by decide +kernel) (z_room (Nat.le_of_ble_eq_true rfl))) he rfl rfl rfl (by simp only [List.map_cons, List.map_nil, z_cat]; exact Nat.le_of_ble_eq_true rfl) dX0_numbersOf_39 ⟨Nat.le_of_ble_eq_true rfl, Nat.le_of_ble_eq_true rfl⟩) hS hC
  exact hL_25 n_61 r_8 x_12 (0 : Int32) (-1 : Int32) (20 : Int32) hp nx _ _ _ hI (lv_sub hl [5, 6, 7, 8, 9, 4, 3, 2, 1, 0] rfl) hH hz hS
theorem fp_X0_574 {ci : Nat} (h : ci ∈ [0]) : zFp "WhatIfSheet" 574 ci 28 .boolean := by
  simp only [List.mem_cons, List.not_mem_nil, or_false] at h
  rcases h with rfl
  · exact ⟨RX0, TX0, 30, rfl, by decide, q1240, rfl, by decide +kernel⟩
theorem fk_X0_116 {ci : Nat} (h : ci ∈ [0]) : zFk "WhatIfSheet" 116 ci 27 := by
  simp only [List.mem_cons, List.not_mem_nil, or_false] at h
  rcases h with rfl
  · exact ⟨RX0, TX0, 30, rfl, by decide, q1239⟩
theorem fk_X0_104 {ci : Nat} (h : ci ∈ [0]) : zFk "WhatIfSheet" 104 ci 24 := by
  simp only [List.mem_cons, List.not_mem_nil, or_false] at h
  rcases h with rfl
  · exact ⟨RX0, TX0, 30, rfl, by decide, q1236⟩
theorem fk_X0_107 {ci : Nat} (h : ci ∈ [0]) : zFk "WhatIfSheet" 107 ci 25 := by
  simp only [List.mem_cons, List.not_mem_nil, or_false] at h
  rcases h with rfl
  · exact ⟨RX0, TX0, 30, rfl, by decide, q1237⟩
theorem fk_X0_112 {ci : Nat} (h : ci ∈ [0]) : zFk "WhatIfSheet" 112 ci 26 := by
  simp only [List.mem_cons, List.not_mem_nil, or_false] at h
  rcases h with rfl
  · exact ⟨RX0, TX0, 30, rfl, by decide, q1238⟩
theorem cw_WhatIfSheet_Formula : ∀ ci ∈ [30], zCw "WhatIfSheet$Formula" ci := by
  intro ci h
  simp only [List.mem_cons, List.not_mem_nil, or_false] at h
  rcases h with rfl
  · exact ⟨RX30, TX30, 3, rfl, Or.inr rfl⟩
def wp_X0_image (l : Launch) (g : zG) (d : Nat) (h0 : Nat) (hp : zHp) (nx : Nat) (Post : Int32 → zHp → Nat → Prop) : Prop :=
  (∃ I_2 : Nat → Int32 → zHp → Nat → Prop, (∃ n_103, I_2 n_103 (0 : Int32) hp nx) ∧ ∀ (n_4 : Nat) (x_1 : Int32) (hp_2 : zHp) (nx_3 : Nat), I_2 n_4 x_1 hp_2 nx_3 →
  (((24 : Int32) ≤ x_1 →
  (∃ I_61 : Nat → Int32 → zHp → Nat → Prop, (∃ n_37, I_61 n_37 (0 : Int32) hp_2 nx_3) ∧ ∀ (n_8 : Nat) (x_5 : Int32) (hp_6 : zHp) (nx_7 : Nat), I_61 n_8 x_5 hp_6 nx_7 →
  (((6 : Int32) ≤ x_5 →
  (zpt g hp_6 (some h0) [0] 28 (.int (1 : Int32)) fun hp_12 =>
  (zo hp_12 (some h0) [0] fun a_16 ci_17 fs_18 => zMt l g yX0_formulas cX0_formulas 6 (some .int) d 0 0 (.ref a_16 :: []) hp_12 nx_7 (zQi g fun x_15 hp_13 nx_14 =>
  (Post x_15 hp_13 nx_14))))) ∧
  (¬ (6 : Int32) ≤ x_5 →
  (zgR hp_6 (some h0) [0] 27 fun r_22 =>
  (zgR hp_6 (some h0) [0] 1 fun r_26 =>
  (zaR (g.2.1 8) hp_6 r_26 fun a_27 n_28 f_29 => vp_in x_5 n_28 ∧ ∀ r_30 : Option Nat, r_30 = f_29 x_5.toNatClampNeg →
  (zaR (g.2.1 8) hp_6 r_22 fun a_31 n_32 f_33 => vp_in x_5 n_32 ∧ zB g ≤ a_31 ∧ zCa hp_6 r_30 [31] ∧ ∀ hp_34 : zHp, hp_34 = va_up hp_6 a_31 (some (.inl (g.2.1 8, n_32, .inr (.inr (.inr (.inr (va_up f_33 x_5.toNatClampNeg r_30))))))) →
  (∀ x_35 : Int32, x_35 = x_5 + (1 : Int32) →
  (∃ k_36, k_36 < n_8 ∧ I_61 k_36 x_35 hp_34 nx_7)))))))))) ∧
  (¬ (24 : Int32) ≤ x_1 →
  (zgR hp_2 (some h0) [0] 24 fun r_41 =>
  (zgR hp_2 (some h0) [0] 0 fun r_45 =>
  (zaR (g.2.1 7) hp_2 r_45 fun a_46 n_47 f_48 => vp_in x_1 n_47 ∧ ∀ r_49 : Option Nat, r_49 = f_48 x_1.toNatClampNeg →
  (zo hp_2 r_49 [2, 6, 7, 8, 9, 10] fun a_99 ci_100 fs_101 => ∃ PP_102 : Int32 → zHp → Nat → Prop, (∀ (x_52 : Int32) (hp_50 : zHp) (nx_51 : Nat), PP_102 x_52 hp_50 nx_51 →
  (zaI (g.2.1 0) hp_50 r_41 fun a_53 n_54 f_55 => vp_in x_1 n_54 ∧ zB g ≤ a_53 ∧ ∀ hp_56 : zHp, hp_56 = va_up hp_50 a_53 (some (.inl (g.2.1 0, n_54, .inl (va_up f_55 x_1.toNatClampNeg x_52)))) →
  (zgR hp_56 (some h0) [0] 25 fun r_60 =>
  (zgR hp_56 (some h0) [0] 0 fun r_64 =>
  (zaR (g.2.1 7) hp_56 r_64 fun a_65 n_66 f_67 => vp_in x_1 n_66 ∧ ∀ r_68 : Option Nat, r_68 = f_67 x_1.toNatClampNeg →
  (zgD hp_56 r_68 [2, 6, 7, 8, 9, 10] 2 fun x_72 =>
  (zaD (g.2.1 1) hp_56 r_60 fun a_73 n_74 f_75 => vp_in x_1 n_74 ∧ zB g ≤ a_73 ∧ ∀ hp_76 : zHp, hp_76 = va_up hp_56 a_73 (some (.inl (g.2.1 1, n_74, .inr (.inr (.inr (.inl (va_up f_75 x_1.toNatClampNeg x_72))))))) →
  (zgR hp_76 (some h0) [0] 26 fun r_80 =>
  (zgR hp_76 (some h0) [0] 0 fun r_84 =>
  (zaR (g.2.1 7) hp_76 r_84 fun a_85 n_86 f_87 => vp_in x_1 n_86 ∧ ∀ r_88 : Option Nat, r_88 = f_87 x_1.toNatClampNeg →
  (zgR hp_76 r_88 [2, 6, 7, 8, 9, 10] 1 fun r_92 =>
  (zaR (g.2.1 11) hp_76 r_80 fun a_93 n_94 f_95 => vp_in x_1 n_94 ∧ zB g ≤ a_93 ∧ zCa hp_76 r_92 [30] ∧ ∀ hp_96 : zHp, hp_96 = va_up hp_76 a_93 (some (.inl (g.2.1 11, n_94, .inr (.inr (.inr (.inr (va_up f_95 x_1.toNatClampNeg r_92))))))) →
  (∀ x_97 : Int32, x_97 = x_1 + (1 : Int32) →
  (∃ k_98, k_98 < n_4 ∧ I_2 k_98 x_97 hp_96 nx_51)))))))))))))) ∧ ((ci_100 = 2 → zMt l g yX2_kind cX2_kind 1 (some .int) d 0 0 (.ref a_99 :: []) hp_2 nx_3 (zQi g PP_102)) ∧ (ci_100 = 6 → zMt l g yX6_kind cX6_kind 1 (some .int) d 0 0 (.ref a_99 :: []) hp_2 nx_3 (zQi g PP_102)) ∧ (ci_100 = 7 → zMt l g yX7_kind cX7_kind 1 (some .int) d 0 0 (.ref a_99 :: []) hp_2 nx_3 (zQi g PP_102)) ∧ (ci_100 = 8 → zMt l g yX8_kind cX8_kind 1 (some .int) d 0 0 (.ref a_99 :: []) hp_2 nx_3 (zQi g PP_102)) ∧ (ci_100 = 9 → zMt l g yX9_kind cX9_kind 1 (some .int) d 0 0 (.ref a_99 :: []) hp_2 nx_3 (zQi g PP_102)) ∧ (ci_100 = 10 → zMt l g yX10_kind cX10_kind 1 (some .int) d 0 0 (.ref a_99 :: []) hp_2 nx_3 (zQi g PP_102))))))))))
set_option maxHeartbeats 40000000 in
theorem met_X0_image {l : Launch} {g : zG} {d : Nat} {h0 : Nat} {hp : zHp} {nx : Nat} {Post : Int32 → zHp → Nat → Prop} (hw : wp_X0_image l g d h0 hp nx Post) : zMt l g yX0_image cX0_image 2 (some .int) (d + 1) 0 0 [.ref h0] hp nx (zQi g Post) := by
  refine z_start (by decide) (Nat.le_of_ble_eq_true rfl) ?_
  intro p e s m below meth c hk hr hin hH hz ls hl
  have hx := hk.1.1
  have hb := hk.1.2.1
  have hown := hk.1.2.2.2.1
  have hts := hk.1.2.2.2.2
  have hS : va_S (zAd g) s.heap s.heap [] := va_S.rf
  have hl : lv_has ls 2 [(0, va_rf (some h0))] := hl
  unfold wp_X0_image at hw
  refine lv_iconst (v := (0 : Int32)) hx hb dX0_image_0 (by decide) ?_
  refine lv_istore_n (i := 1) (lv' := [(1, .int (0 : Int32)), (0, va_rf (some h0))]) hx hb dX0_image_1 rfl hl (by decide) (by first | rfl | simp [List.filter_cons, z_cat, z_catI, z_catJ, z_catF, z_catD]) (fun ls hl => ?_)
  obtain ⟨I_2, ⟨n_103, hI⟩, hB_2⟩ := hw
  have hL_2 : ∀ (n_4 : Nat) (x_1 : Int32) (hp_2 : zHp) (nx_3 : Nat) (H : Heap) (locs : List Loc) (ls : Array Slot), I_2 n_4 x_1 hp_2 nx_3 → lv_has ls 2 [(0, va_rf (some h0)), (1, .int x_1)] → zHd g hp_2 H → H.size = nx_3 → va_S (zAd g) s.heap H locs → W p l e (zrm (d + 1) 0 0) s m ([.ref h0] : List Value).toArray below meth c H locs 0 0 (MQ below (zQi g Post) ([.ref h0] : List Value).toArray s 0 0 (zAd g)) (F0 m 2 ls []) := by
    intro n_4
    induction n_4 using Nat.strongRecOn with
    | _ n_4 ih_2 =>
      intro x_1 hp_2 nx_3 H locs ls hw hl hH hz hS
      have hw := hB_2 n_4 x_1 hp_2 nx_3 hw
      refine lv_iload_n hx hb dX0_image_2 rfl (lv_at hl 1 rfl) ?_
      refine lv_bipush (v := (24 : Int32)) hx hb dX0_image_3 (by decide) ?_
      refine lv_icmp_ge (tgt := 59) hx hb dX0_image_5 (by decide) (fun hc => ?_) (fun hc => ?_)
      · have hw := hw.1 hc
        refine lv_iconst (v := (0 : Int32)) hx hb dX0_image_59 (by decide) ?_
        refine lv_istore_n (i := 1) (lv' := [(1, .int (0 : Int32)), (0, va_rf (some h0))]) hx hb dX0_image_60 rfl hl (by decide) (by first | rfl | simp [List.filter_cons, z_cat, z_catI, z_catJ, z_catF, z_catD]) (fun ls hl => ?_)
        obtain ⟨I_61, ⟨n_37, hI⟩, hB_61⟩ := hw
        have hL_61 : ∀ (n_8 : Nat) (x_5 : Int32) (hp_6 : zHp) (nx_7 : Nat) (H : Heap) (locs : List Loc) (ls : Array Slot), I_61 n_8 x_5 hp_6 nx_7 → lv_has ls 2 [(0, va_rf (some h0)), (1, .int x_5)] → zHd g hp_6 H → H.size = nx_7 → va_S (zAd g) s.heap H locs → W p l e (zrm (d + 1) 0 0) s m ([.ref h0] : List Value).toArray below meth c H locs 0 0 (MQ below (zQi g Post) ([.ref h0] : List Value).toArray s 0 0 (zAd g)) (F0 m 61 ls []) := by
          intro n_8
          induction n_8 using Nat.strongRecOn with
          | _ n_8 ih_61 =>
            intro x_5 hp_6 nx_7 H locs ls hw hl hH hz hS
            have hw := hB_61 n_8 x_5 hp_6 nx_7 hw
            refine lv_iload_n hx hb dX0_image_61 rfl (lv_at hl 1 rfl) ?_
            refine lv_bipush (v := (6 : Int32)) hx hb dX0_image_62 (by decide) ?_
            refine lv_icmp_ge (tgt := 85) hx hb dX0_image_64 (by decide) (fun hc => ?_) (fun hc => ?_)
            · have hw := hw.1 hc
              refine zr_aload_n (r := some h0) hx hb dX0_image_85 rfl (lv_at hl 0 rfl) ?_
              refine lv_iconst (v := (1 : Int32)) hx hb dX0_image_86 (by decide) ?_
              obtain ⟨a_9, ci_10, fs_11, hp_12, er, he, hc, hA, hkl, eh, hw⟩ := zpt_e hw
              refine zw_put hk hH hz hS er he hA hkl eh (fp_X0_574 hc) (z_nb (Or.inr rfl)) (z_fb (Or.inr rfl)) dX0_image_87 (fun H locs hH hz hS => ?_)
              refine zr_aload_n (r := some h0) hx hb dX0_image_90 rfl (lv_at hl 0 rfl) ?_
              obtain ⟨a_16, ci_17, fs_18, er, he, hc, hw⟩ := zo_e hw
              obtain rfl := List.mem_singleton.mp hc
              refine zr_calli (zw_runV (As := []) hk hH hz hS hl.1 er hw (cwV 0 hts (lw_V q2596 q2598 qs68 q131 q2599) rfl rfl rfl (by decide +kernel) (z_room (Nat.le_of_ble_eq_true rfl))) he rfl rfl rfl (Nat.le_of_ble_eq_true rfl) dX0_image_91 ⟨Nat.le_of_ble_eq_true rfl, Nat.le_of_ble_eq_true rfl⟩) hS (fun x_15 hp_13 nx_14 hw H locs hH hz hS => ?_)
              exact zr_iret hk hr hH hz hS hw (Nat.le_of_ble_eq_true rfl) (Nat.le_of_ble_eq_true rfl) dX0_image_94
            · have hw := hw.2 hc
              refine zr_aload_n (r := some h0) hx hb dX0_image_67 rfl (lv_at hl 0 rfl) ?_
              obtain ⟨a_19, ci_20, fs_21, r_22, er, he, hc, hv, hw⟩ := zgR_e hw
              refine zw_get hk hH er he hv (fk_X0_116 hc) dX0_image_68 ?_
              refine lv_iload_n hx hb dX0_image_71 rfl (lv_at hl 1 rfl) ?_
              refine zr_aload_n (r := some h0) hx hb dX0_image_72 rfl (lv_at hl 0 rfl) ?_
              obtain ⟨a_23, ci_24, fs_25, r_26, er, he, hc, hv, hw⟩ := zgR_e hw
              refine zw_get hk hH er he hv (fk_X0_37 hc) dX0_image_73 ?_
              refine lv_iload_n hx hb dX0_image_76 rfl (lv_at hl 1 rfl) ?_
              obtain ⟨a_27, n_28, f_29, er, he, hi, hw⟩ := zaR_e hw
              have hw := hw _ rfl
              refine zw_aald hk hH 8 er he rfl rfl hi dX0_image_77 ?_
              generalize f_29 x_5.toNatClampNeg = r_30 at hw ⊢
              obtain ⟨a_31, n_32, f_33, er, he, hi, hA, hca, hw⟩ := zaR_e hw
              obtain ⟨hp_34, eh⟩ : ∃ y : zHp, y = va_up hp_6 a_31 (some (.inl (g.2.1 8, n_32, .inr (.inr (.inr (.inr (va_up f_33 x_5.toNatClampNeg r_30))))))) := ⟨_, rfl⟩
              have hw := hw hp_34 eh
              refine zw_aast (v := r_30) (r := r_22) hk hH hz hS 8 er he rfl hi hA hca cw_WhatIfSheet_Table eh dX0_image_78 (fun H locs hH hz hS => ?_)
              obtain ⟨x_35, ex_35⟩ : ∃ y : Int32, y = x_5 + (1 : Int32) := ⟨_, rfl⟩
              have hw := hw x_35 ex_35
              refine lv_iinc (v := x_35) (lv' := [(1, .int x_35), (0, va_rf (some h0))]) hx hb dX0_image_79 hl (k := 1) rfl (by rw [ex_35]; rfl) (by decide) (by first | rfl | simp [List.filter_cons, z_cat, z_catI, z_catJ, z_catF, z_catD]) (fun ls hl => ?_)
              refine lv_goto (tgt := 61) hx hb dX0_image_82 (by decide) ?_
              obtain ⟨k_36, hlt, hw⟩ := hw
              exact ih_61 k_36 hlt x_35 hp_34 nx_7 _ _ _ hw (lv_sub hl [1, 0] rfl) hH hz hS
        exact hL_61 n_37 (0 : Int32) hp_2 nx_3 _ _ _ hI (lv_sub hl [1, 0] rfl) hH hz hS
      · have hw := hw.2 hc
        refine zr_aload_n (r := some h0) hx hb dX0_image_8 rfl (lv_at hl 0 rfl) ?_
        obtain ⟨a_38, ci_39, fs_40, r_41, er, he, hc, hv, hw⟩ := zgR_e hw
        refine zw_get hk hH er he hv (fk_X0_104 hc) dX0_image_9 ?_
        refine lv_iload_n hx hb dX0_image_12 rfl (lv_at hl 1 rfl) ?_
        refine zr_aload_n (r := some h0) hx hb dX0_image_13 rfl (lv_at hl 0 rfl) ?_
        obtain ⟨a_42, ci_43, fs_44, r_45, er, he, hc, hv, hw⟩ := zgR_e hw
        refine zw_get hk hH er he hv (fk_X0_31 hc) dX0_image_14 ?_
        refine lv_iload_n hx hb dX0_image_17 rfl (lv_at hl 1 rfl) ?_
        obtain ⟨a_46, n_47, f_48, er, he, hi, hw⟩ := zaR_e hw
        have hw := hw _ rfl
        refine zw_aald hk hH 7 er he rfl rfl hi dX0_image_18 ?_
        generalize f_48 x_1.toNatClampNeg = r_49 at hw ⊢
        obtain ⟨a_99, ci_100, fs_101, er, he, hc, PP_102, hPP, hw⟩ := zo_e hw
        have hC : ∀ (x_52 : Int32) (hp_50 : zHp) (nx_51 : Nat), PP_102 x_52 hp_50 nx_51 → ∀ (H : Heap) (locs : List Loc), zHd g hp_50 H → H.size = nx_51 → va_S (zAd g) s.heap H locs → W p l e (zrm (d + 1) 0 0) s m ([.ref h0] : List Value).toArray below meth c H locs (0 + 0) (0 + 0) (MQ below (zQi g Post) ([.ref h0] : List Value).toArray s 0 0 (zAd g)) (F0 m 22 ls [.int x_52, .int x_1, va_rf r_41]) := by
          intro x_52 hp_50 nx_51 hw H locs hH hz hS
          have hw := hPP x_52 hp_50 nx_51 hw
          obtain ⟨a_53, n_54, f_55, er, he, hi, hA, hw⟩ := zaI_e hw
          obtain ⟨hp_56, eh⟩ : ∃ y : zHp, y = va_up hp_50 a_53 (some (.inl (g.2.1 0, n_54, .inl (va_up f_55 x_1.toNatClampNeg x_52)))) := ⟨_, rfl⟩
          have hw := hw hp_56 eh
          refine zw_iast hk hH hz hS er he hi hA eh dX0_image_22 (fun H locs hH hz hS => ?_)
          refine zr_aload_n (r := some h0) hx hb dX0_image_23 rfl (lv_at hl 0 rfl) ?_
          obtain ⟨a_57, ci_58, fs_59, r_60, er, he, hc, hv, hw⟩ := zgR_e hw
          refine zw_get hk hH er he hv (fk_X0_107 hc) dX0_image_24 ?_
          refine lv_iload_n hx hb dX0_image_27 rfl (lv_at hl 1 rfl) ?_
          refine zr_aload_n (r := some h0) hx hb dX0_image_28 rfl (lv_at hl 0 rfl) ?_
          obtain ⟨a_61, ci_62, fs_63, r_64, er, he, hc, hv, hw⟩ := zgR_e hw
          refine zw_get hk hH er he hv (fk_X0_31 hc) dX0_image_29 ?_
          refine lv_iload_n hx hb dX0_image_32 rfl (lv_at hl 1 rfl) ?_
          obtain ⟨a_65, n_66, f_67, er, he, hi, hw⟩ := zaR_e hw
          have hw := hw _ rfl
          refine zw_aald hk hH 7 er he rfl rfl hi dX0_image_33 ?_
          generalize f_67 x_1.toNatClampNeg = r_68 at hw ⊢
          obtain ⟨a_69, ci_70, fs_71, x_72, er, he, hc, hv, hw⟩ := zgD_e hw
          refine zw_get hk hH er he hv (fk_X0_209 hc) dX0_image_34 ?_
          obtain ⟨a_73, n_74, f_75, er, he, hi, hA, hw⟩ := zaD_e hw
          obtain ⟨hp_76, eh⟩ : ∃ y : zHp, y = va_up hp_56 a_73 (some (.inl (g.2.1 1, n_74, .inr (.inr (.inr (.inl (va_up f_75 x_1.toNatClampNeg x_72))))))) := ⟨_, rfl⟩
          have hw := hw hp_76 eh
          refine zw_dast hk hH hz hS er he hi hA eh dX0_image_37 (fun H locs hH hz hS => ?_)
          refine zr_aload_n (r := some h0) hx hb dX0_image_38 rfl (lv_at hl 0 rfl) ?_
          obtain ⟨a_77, ci_78, fs_79, r_80, er, he, hc, hv, hw⟩ := zgR_e hw
          refine zw_get hk hH er he hv (fk_X0_112 hc) dX0_image_39 ?_
          refine lv_iload_n hx hb dX0_image_42 rfl (lv_at hl 1 rfl) ?_
          refine zr_aload_n (r := some h0) hx hb dX0_image_43 rfl (lv_at hl 0 rfl) ?_
          obtain ⟨a_81, ci_82, fs_83, r_84, er, he, hc, hv, hw⟩ := zgR_e hw
          refine zw_get hk hH er he hv (fk_X0_31 hc) dX0_image_44 ?_
          refine lv_iload_n hx hb dX0_image_47 rfl (lv_at hl 1 rfl) ?_
          obtain ⟨a_85, n_86, f_87, er, he, hi, hw⟩ := zaR_e hw
          have hw := hw _ rfl
          refine zw_aald hk hH 7 er he rfl rfl hi dX0_image_48 ?_
          generalize f_87 x_1.toNatClampNeg = r_88 at hw ⊢
          obtain ⟨a_89, ci_90, fs_91, r_92, er, he, hc, hv, hw⟩ := zgR_e hw
          refine zw_get hk hH er he hv (fk_X0_239 hc) dX0_image_49 ?_
          obtain ⟨a_93, n_94, f_95, er, he, hi, hA, hca, hw⟩ := zaR_e hw
          obtain ⟨hp_96, eh⟩ : ∃ y : zHp, y = va_up hp_76 a_93 (some (.inl (g.2.1 11, n_94, .inr (.inr (.inr (.inr (va_up f_95 x_1.toNatClampNeg r_92))))))) := ⟨_, rfl⟩
          have hw := hw hp_96 eh
          refine zw_aast (v := r_92) (r := r_80) hk hH hz hS 11 er he rfl hi hA hca cw_WhatIfSheet_Formula eh dX0_image_52 (fun H locs hH hz hS => ?_)
          obtain ⟨x_97, ex_97⟩ : ∃ y : Int32, y = x_1 + (1 : Int32) := ⟨_, rfl⟩
          have hw := hw x_97 ex_97
          refine lv_iinc (v := x_97) (lv' := [(1, .int x_97), (0, va_rf (some h0))]) hx hb dX0_image_53 hl (k := 1) rfl (by rw [ex_97]; rfl) (by decide) (by first | rfl | simp [List.filter_cons, z_cat, z_catI, z_catJ, z_catF, z_catD]) (fun ls hl => ?_)
          refine lv_goto (tgt := 2) hx hb dX0_image_56 (by decide) ?_
          obtain ⟨k_98, hlt, hw⟩ := hw
          exact ih_2 k_98 hlt x_97 hp_96 nx_51 _ _ _ hw (lv_sub hl [1, 0] rfl) hH hz hS
        simp only [List.mem_cons, List.not_mem_nil, or_false] at hc
        rcases hc with rfl | rfl | rfl | rfl | rfl | rfl
        · exact zr_calli (zw_runV (As := []) hk hH hz hS hl.1 er (hw.1 rfl) (cwV 0 hts (lw_V q2031 q2032 q2033 q152 q2050) rfl rfl rfl (by decide +kernel) (z_room (Nat.le_of_ble_eq_true rfl))) he rfl rfl rfl (by simp only [List.map_cons, List.map_nil, z_cat]; exact Nat.le_of_ble_eq_true rfl) dX0_image_19 ⟨Nat.le_of_ble_eq_true rfl, Nat.le_of_ble_eq_true rfl⟩) hS hC
        · exact zr_calli (zw_runU (As := []) hk hH hz hS hl.1 er (hw.2.1 rfl) (va_cwO 0 hts (z_O q2031 q2034 q2032 q2047 q2048 q163 q2049) rfl rfl rfl q2050 (by decide +kernel) (z_room (Nat.le_of_ble_eq_true rfl))) he rfl rfl rfl (by simp only [List.map_cons, List.map_nil, z_cat]; exact Nat.le_of_ble_eq_true rfl) dX0_image_19 ⟨Nat.le_of_ble_eq_true rfl, Nat.le_of_ble_eq_true rfl⟩) hS hC
        · exact zr_calli (zw_runU (As := []) hk hH hz hS hl.1 er (hw.2.2.1 rfl) (va_cwO 0 hts (z_O q2031 q2034 q2032 q2038 q2039 q164 q2040) rfl rfl rfl q2050 (by decide +kernel) (z_room (Nat.le_of_ble_eq_true rfl))) he rfl rfl rfl (by simp only [List.map_cons, List.map_nil, z_cat]; exact Nat.le_of_ble_eq_true rfl) dX0_image_19 ⟨Nat.le_of_ble_eq_true rfl, Nat.le_of_ble_eq_true rfl⟩) hS hC
        · exact zr_calli (zw_runU (As := []) hk hH hz hS hl.1 er (hw.2.2.2.1 rfl) (va_cwO 0 hts (z_O q2031 q2034 q2032 q2041 q2042 q165 q2043) rfl rfl rfl q2050 (by decide +kernel) (z_room (Nat.le_of_ble_eq_true rfl))) he rfl rfl rfl (by simp only [List.map_cons, List.map_nil, z_cat]; exact Nat.le_of_ble_eq_true rfl) dX0_image_19 ⟨Nat.le_of_ble_eq_true rfl, Nat.le_of_ble_eq_true rfl⟩) hS hC
        · exact zr_calli (zw_runU (As := []) hk hH hz hS hl.1 er (hw.2.2.2.2.1 rfl) (va_cwO 0 hts (z_O q2031 q2034 q2032 q2044 q2045 q166 q2046) rfl rfl rfl q2050 (by decide +kernel) (z_room (Nat.le_of_ble_eq_true rfl))) he rfl rfl rfl (by simp only [List.map_cons, List.map_nil, z_cat]; exact Nat.le_of_ble_eq_true rfl) dX0_image_19 ⟨Nat.le_of_ble_eq_true rfl, Nat.le_of_ble_eq_true rfl⟩) hS hC
        · exact zr_calli (zw_runU (As := []) hk hH hz hS hl.1 er (hw.2.2.2.2.2 rfl) (va_cwO 0 hts (z_O q2031 q2034 q2032 q2035 q2036 q167 q2037) rfl rfl rfl q2050 (by decide +kernel) (z_room (Nat.le_of_ble_eq_true rfl))) he rfl rfl rfl (by simp only [List.map_cons, List.map_nil, z_cat]; exact Nat.le_of_ble_eq_true rfl) dX0_image_19 ⟨Nat.le_of_ble_eq_true rfl, Nat.le_of_ble_eq_true rfl⟩) hS hC
  exact hL_2 n_103 (0 : Int32) hp nx _ _ _ hI (lv_sub hl [1, 0] rfl) hH hz hS
def wp_X0_formulas (l : Launch) (g : zG) (d : Nat) (h0 : Nat) (hp : zHp) (nx : Nat) (Post : Int32 → zHp → Nat → Prop) : Prop :=
  (zgR hp (some h0) [0] 0 fun r_4 =>
  (zln (g.2.1 7) hp r_4 fun x_7 =>
  (∃ I_13 : Nat → Int32 → (Option Nat) → Int32 → Int32 → zHp → Nat → Prop, (∃ n_38, I_13 n_38 (0 : Int32) r_4 x_7 (0 : Int32) hp nx) ∧ ∀ (n_14 : Nat) (x_8 : Int32) (r_9 : Option Nat) (x_10 : Int32) (x_11 : Int32) (hp_12 : zHp) (nx_13 : Nat), I_13 n_14 x_8 r_9 x_10 x_11 hp_12 nx_13 →
  ((x_10 ≤ x_11 →
  (Post x_8 hp_12 nx_13)) ∧
  (¬ x_10 ≤ x_11 →
  (zaR (g.2.1 7) hp_12 r_9 fun a_15 n_16 f_17 => vp_in x_11 n_16 ∧ ∀ r_18 : Option Nat, r_18 = f_17 x_11.toNatClampNeg →
  (zo hp_12 r_18 [2, 6, 7, 8, 9, 10] fun a_34 ci_35 fs_36 => ∃ PP_37 : Int32 → zHp → Nat → Prop, (∀ (x_21 : Int32) (hp_19 : zHp) (nx_20 : Nat), PP_37 x_21 hp_19 nx_20 →
  (∃ P_39 : Int32 → (Option Nat) → Int32 → Int32 → (Option Nat) → Int32 → Int32 → zHp → Nat → Prop, (∀ (x_22 : Int32) (r_23 : Option Nat) (x_24 : Int32) (x_25 : Int32) (r_26 : Option Nat) (x_27 : Int32) (x_28 : Int32) (hp_29 : zHp) (nx_30 : Nat), P_39 x_22 r_23 x_24 x_25 r_26 x_27 x_28 hp_29 nx_30 →
  (∀ x_31 : Int32, x_31 = x_27 + x_28 →
  (∀ x_32 : Int32, x_32 = x_25 + (1 : Int32) →
  (∃ k_33, k_33 < n_14 ∧ I_13 k_33 x_31 r_23 x_24 x_32 hp_29 nx_30)))) ∧
  ((x_21 = 0 →
  P_39 x_8 r_9 x_10 x_11 r_18 x_8 (1 : Int32) hp_19 nx_20) ∧
  (¬ x_21 = 0 →
  P_39 x_8 r_9 x_10 x_11 r_18 x_8 (0 : Int32) hp_19 nx_20)))) ∧ zMt l g yX2_isInput cX2_isInput 1 (some .boolean) d 0 0 (.ref a_34 :: []) hp_12 nx_13 (zQi g PP_37))))))))
set_option maxHeartbeats 40000000 in
theorem met_X0_formulas {l : Launch} {g : zG} {d : Nat} {h0 : Nat} {hp : zHp} {nx : Nat} {Post : Int32 → zHp → Nat → Prop} (hw : wp_X0_formulas l g d h0 hp nx Post) : zMt l g yX0_formulas cX0_formulas 6 (some .int) (d + 1) 0 0 [.ref h0] hp nx (zQi g Post) := by
  refine z_start (by decide) (Nat.le_of_ble_eq_true rfl) ?_
  intro p e s m below meth c hk hr hin hH hz ls hl
  have hx := hk.1.1
  have hb := hk.1.2.1
  have hown := hk.1.2.2.2.1
  have hts := hk.1.2.2.2.2
  have hS : va_S (zAd g) s.heap s.heap [] := va_S.rf
  have hl : lv_has ls 6 [(0, va_rf (some h0))] := hl
  unfold wp_X0_formulas at hw
  refine lv_iconst (v := (0 : Int32)) hx hb dX0_formulas_0 (by decide) ?_
  refine lv_istore_n (i := 1) (lv' := [(1, .int (0 : Int32)), (0, va_rf (some h0))]) hx hb dX0_formulas_1 rfl hl (by decide) (by first | rfl | simp [List.filter_cons, z_cat, z_catI, z_catJ, z_catF, z_catD]) (fun ls hl => ?_)
  refine zr_aload_n (r := some h0) hx hb dX0_formulas_2 rfl (lv_at hl 1 rfl) ?_
  obtain ⟨a_1, ci_2, fs_3, r_4, er, he, hc, hv, hw⟩ := zgR_e hw
  refine zw_get hk hH er he hv (fk_X0_31 hc) dX0_formulas_3 ?_
  refine zr_astore_n (r := r_4) (i := 2) (lv' := [(2, va_rf r_4), (1, .int (0 : Int32)), (0, va_rf (some h0))]) hx hb dX0_formulas_6 rfl hl (by decide) (by first | rfl | simp [List.filter_cons, z_cat, z_catI, z_catJ, z_catF, z_catD]) (fun ls hl => ?_)
  refine zr_aload_n (r := r_4) hx hb dX0_formulas_7 rfl (lv_at hl 0 rfl) ?_
  obtain ⟨a_5, v_6, er, he, hw⟩ := zln_e hw
  refine zw_alen hk hH 7 er he rfl dX0_formulas_8 ?_
  generalize Int32.ofNat v_6.1 = x_7 at hw ⊢
  refine lv_istore_n (i := 3) (lv' := [(3, .int x_7), (2, va_rf r_4), (1, .int (0 : Int32)), (0, va_rf (some h0))]) hx hb dX0_formulas_9 rfl hl (by decide) (by first | rfl | simp [List.filter_cons, z_cat, z_catI, z_catJ, z_catF, z_catD]) (fun ls hl => ?_)
  refine lv_iconst (v := (0 : Int32)) hx hb dX0_formulas_10 (by decide) ?_
  refine lv_istore (lv' := [(4, .int (0 : Int32)), (3, .int x_7), (2, va_rf r_4), (1, .int (0 : Int32)), (0, va_rf (some h0))]) hx hb dX0_formulas_11 hl (by decide) (by first | rfl | simp [List.filter_cons, z_cat, z_catI, z_catJ, z_catF, z_catD]) (fun ls hl => ?_)
  obtain ⟨I_13, ⟨n_38, hI⟩, hB_13⟩ := hw
  have hL_13 : ∀ (n_14 : Nat) (x_8 : Int32) (r_9 : Option Nat) (x_10 : Int32) (x_11 : Int32) (hp_12 : zHp) (nx_13 : Nat) (H : Heap) (locs : List Loc) (ls : Array Slot), I_13 n_14 x_8 r_9 x_10 x_11 hp_12 nx_13 → lv_has ls 6 [(0, va_rf (some h0)), (1, .int x_8), (2, va_rf r_9), (3, .int x_10), (4, .int x_11)] → zHd g hp_12 H → H.size = nx_13 → va_S (zAd g) s.heap H locs → W p l e (zrm (d + 1) 0 0) s m ([.ref h0] : List Value).toArray below meth c H locs 0 0 (MQ below (zQi g Post) ([.ref h0] : List Value).toArray s 0 0 (zAd g)) (F0 m 13 ls []) := by
    intro n_14
    induction n_14 using Nat.strongRecOn with
    | _ n_14 ih_13 =>
      intro x_8 r_9 x_10 x_11 hp_12 nx_13 H locs ls hw hl hH hz hS
      have hw := hB_13 n_14 x_8 r_9 x_10 x_11 hp_12 nx_13 hw
      refine lv_iload hx hb dX0_formulas_13 (lv_at hl 4 rfl) ?_
      refine lv_iload_n hx hb dX0_formulas_15 rfl (lv_at hl 3 rfl) ?_
      refine lv_icmp_ge (tgt := 47) hx hb dX0_formulas_16 (by decide) (fun hc => ?_) (fun hc => ?_)
      · have hw := hw.1 hc
        refine lv_iload_n hx hb dX0_formulas_47 rfl (lv_at hl 1 rfl) ?_
        exact zr_iret hk hr hH hz hS hw (Nat.le_of_ble_eq_true rfl) (Nat.le_of_ble_eq_true rfl) dX0_formulas_48
      · have hw := hw.2 hc
        refine zr_aload_n (r := r_9) hx hb dX0_formulas_19 rfl (lv_at hl 2 rfl) ?_
        refine lv_iload hx hb dX0_formulas_20 (lv_at hl 4 rfl) ?_
        obtain ⟨a_15, n_16, f_17, er, he, hi, hw⟩ := zaR_e hw
        have hw := hw _ rfl
        refine zw_aald hk hH 7 er he rfl rfl hi dX0_formulas_22 ?_
        generalize f_17 x_11.toNatClampNeg = r_18 at hw ⊢
        refine zr_astore (r := r_18) (lv' := [(5, va_rf r_18), (0, va_rf (some h0)), (1, .int x_8), (2, va_rf r_9), (3, .int x_10), (4, .int x_11)]) hx hb dX0_formulas_23 hl (by decide) (by first | rfl | simp [List.filter_cons, z_cat, z_catI, z_catJ, z_catF, z_catD]) (fun ls hl => ?_)
        refine lv_iload_n hx hb dX0_formulas_25 rfl (lv_at hl 2 rfl) ?_
        refine zr_aload (r := r_18) hx hb dX0_formulas_26 (lv_at hl 0 rfl) ?_
        obtain ⟨a_34, ci_35, fs_36, er, he, hc, PP_37, hPP, hw⟩ := zo_e hw
        have hC : ∀ (x_21 : Int32) (hp_19 : zHp) (nx_20 : Nat), PP_37 x_21 hp_19 nx_20 → ∀ (H : Heap) (locs : List Loc), zHd g hp_19 H → H.size = nx_20 → va_S (zAd g) s.heap H locs → W p l e (zrm (d + 1) 0 0) s m ([.ref h0] : List Value).toArray below meth c H locs (0 + 0) (0 + 0) (MQ below (zQi g Post) ([.ref h0] : List Value).toArray s 0 0 (zAd g)) (F0 m 31 ls [.int x_21, .int x_8]) := by
          intro x_21 hp_19 nx_20 hw H locs hH hz hS
          have hw := hPP x_21 hp_19 nx_20 hw
          obtain ⟨P_39, hP_39, hw⟩ := hw
          have hJ_39 : ∀ (x_22 : Int32) (r_23 : Option Nat) (x_24 : Int32) (x_25 : Int32) (r_26 : Option Nat) (x_27 : Int32) (x_28 : Int32) (hp_29 : zHp) (nx_30 : Nat) (H : Heap) (locs : List Loc) (ls : Array Slot), P_39 x_22 r_23 x_24 x_25 r_26 x_27 x_28 hp_29 nx_30 → lv_has ls 6 [(0, va_rf (some h0)), (1, .int x_22), (2, va_rf r_23), (3, .int x_24), (4, .int x_25), (5, va_rf r_26)] → zHd g hp_29 H → H.size = nx_30 → va_S (zAd g) s.heap H locs → W p l e (zrm (d + 1) 0 0) s m ([.ref h0] : List Value).toArray below meth c H locs 0 0 (MQ below (zQi g Post) ([.ref h0] : List Value).toArray s 0 0 (zAd g)) (F0 m 39 ls [.int x_28, .int x_27]) := by
            intro x_22 r_23 x_24 x_25 r_26 x_27 x_28 hp_29 nx_30 H locs ls hw hl hH hz hS
            have hw := hP_39 x_22 r_23 x_24 x_25 r_26 x_27 x_28 hp_29 nx_30 hw
            refine lv_iadd hx hb dX0_formulas_39 ?_
            refine lv_topi (fun x_31 ex_31 => ?_)
            have hw := hw x_31 ex_31
            refine lv_istore_n (i := 1) (lv' := [(1, .int x_31), (0, va_rf (some h0)), (2, va_rf r_23), (3, .int x_24), (4, .int x_25), (5, va_rf r_26)]) hx hb dX0_formulas_40 rfl hl (by decide) (by first | rfl | simp [List.filter_cons, z_cat, z_catI, z_catJ, z_catF, z_catD]) (fun ls hl => ?_)
            obtain ⟨x_32, ex_32⟩ : ∃ y : Int32, y = x_25 + (1 : Int32) := ⟨_, rfl⟩
            have hw := hw x_32 ex_32
            refine lv_iinc (v := x_32) (lv' := [(4, .int x_32), (1, .int x_31), (0, va_rf (some h0)), (2, va_rf r_23), (3, .int x_24), (5, va_rf r_26)]) hx hb dX0_formulas_41 hl (k := 4) rfl (by rw [ex_32]; rfl) (by decide) (by first | rfl | simp [List.filter_cons, z_cat, z_catI, z_catJ, z_catF, z_catD]) (fun ls hl => ?_)
            refine lv_goto (tgt := 13) hx hb dX0_formulas_44 (by decide) ?_
            obtain ⟨k_33, hlt, hw⟩ := hw
            exact ih_13 k_33 hlt x_31 r_23 x_24 x_32 hp_29 nx_30 _ _ _ hw (lv_sub hl [2, 1, 3, 4, 0] rfl) hH hz hS
          refine lv_if_eq (tgt := 38) hx hb dX0_formulas_31 (by decide) (fun hc => ?_) (fun hc => ?_)
          · have hw := hw.1 hc
            refine lv_iconst (v := (1 : Int32)) hx hb dX0_formulas_38 (by decide) ?_
            exact hJ_39 x_8 r_9 x_10 x_11 r_18 x_8 (1 : Int32) hp_19 nx_20 _ _ _ hw (lv_sub hl [1, 2, 3, 4, 5, 0] rfl) hH hz hS
          · have hw := hw.2 hc
            refine lv_iconst (v := (0 : Int32)) hx hb dX0_formulas_34 (by decide) ?_
            refine lv_goto (tgt := 39) hx hb dX0_formulas_35 (by decide) ?_
            exact hJ_39 x_8 r_9 x_10 x_11 r_18 x_8 (0 : Int32) hp_19 nx_20 _ _ _ hw (lv_sub hl [1, 2, 3, 4, 5, 0] rfl) hH hz hS
        simp only [List.mem_cons, List.not_mem_nil, or_false] at hc
        rcases hc with rfl | rfl | rfl | rfl | rfl | rfl
        · exact zr_calli (zw_runV (As := []) hk hH hz hS hl.1 er (hw) (cwV 0 hts (lw_V q1969 q1970 q1971 q152 q1978) rfl rfl rfl (by decide +kernel) (z_room (Nat.le_of_ble_eq_true rfl))) he rfl rfl rfl (Nat.le_of_ble_eq_true rfl) dX0_formulas_28 ⟨Nat.le_of_ble_eq_true rfl, Nat.le_of_ble_eq_true rfl⟩) hS hC
        · exact zr_calli (zw_runU (As := []) hk hH hz hS hl.1 er (hw) (va_cwU 0 hts (z_U q1969 q1972 q1977 q1970 q152 q1978) rfl rfl rfl rfl (by decide +kernel) (z_room (Nat.le_of_ble_eq_true rfl))) he rfl rfl rfl (Nat.le_of_ble_eq_true rfl) dX0_formulas_28 ⟨Nat.le_of_ble_eq_true rfl, Nat.le_of_ble_eq_true rfl⟩) hS hC
        · exact zr_calli (zw_runU (As := []) hk hH hz hS hl.1 er (hw) (va_cwU 0 hts (z_U q1969 q1972 q1974 q1970 q152 q1978) rfl rfl rfl rfl (by decide +kernel) (z_room (Nat.le_of_ble_eq_true rfl))) he rfl rfl rfl (Nat.le_of_ble_eq_true rfl) dX0_formulas_28 ⟨Nat.le_of_ble_eq_true rfl, Nat.le_of_ble_eq_true rfl⟩) hS hC
        · exact zr_calli (zw_runU (As := []) hk hH hz hS hl.1 er (hw) (va_cwU 0 hts (z_U q1969 q1972 q1975 q1970 q152 q1978) rfl rfl rfl rfl (by decide +kernel) (z_room (Nat.le_of_ble_eq_true rfl))) he rfl rfl rfl (Nat.le_of_ble_eq_true rfl) dX0_formulas_28 ⟨Nat.le_of_ble_eq_true rfl, Nat.le_of_ble_eq_true rfl⟩) hS hC
        · exact zr_calli (zw_runU (As := []) hk hH hz hS hl.1 er (hw) (va_cwU 0 hts (z_U q1969 q1972 q1976 q1970 q152 q1978) rfl rfl rfl rfl (by decide +kernel) (z_room (Nat.le_of_ble_eq_true rfl))) he rfl rfl rfl (Nat.le_of_ble_eq_true rfl) dX0_formulas_28 ⟨Nat.le_of_ble_eq_true rfl, Nat.le_of_ble_eq_true rfl⟩) hS hC
        · exact zr_calli (zw_runU (As := []) hk hH hz hS hl.1 er (hw) (va_cwU 0 hts (z_U q1969 q1972 q1973 q1970 q152 q1978) rfl rfl rfl rfl (by decide +kernel) (z_room (Nat.le_of_ble_eq_true rfl))) he rfl rfl rfl (Nat.le_of_ble_eq_true rfl) dX0_formulas_28 ⟨Nat.le_of_ble_eq_true rfl, Nat.le_of_ble_eq_true rfl⟩) hS hC
  exact hL_13 n_38 (0 : Int32) r_4 x_7 (0 : Int32) hp nx _ _ _ hI (lv_sub hl [4, 3, 2, 1, 0] rfl) hH hz hS
theorem fk_X0_574 {ci : Nat} (h : ci ∈ [0]) : zFk "WhatIfSheet" 574 ci 28 := by
  simp only [List.mem_cons, List.not_mem_nil, or_false] at h
  rcases h with rfl
  · exact ⟨RX0, TX0, 30, rfl, by decide, q1240⟩
def wp_X0_back (l : Launch) (g : zG) (d : Nat) (mc ms : Nat) (h0 : Nat) (hp : zHp) (nx : Nat) (Post : Int32 → zHp → Nat → Prop) : Prop :=
  (zgI hp (some h0) [0] 28 fun x_4 =>
  ((x_4 = 0 →
  (0 ≤ mc ∧ 0 ≤ ms ∧ Post (-3 : Int32) hp nx)) ∧
  (¬ x_4 = 0 →
  (∃ I_12 : Nat → Int32 → zHp → Nat → Nat → Nat → Prop, (∃ n_141, I_12 n_141 (0 : Int32) hp nx 0 0) ∧ ∀ (n_10 : Nat) (x_5 : Int32) (hp_6 : zHp) (nx_7 : Nat) (kc_8 : Nat) (ks_9 : Nat), I_12 n_10 x_5 hp_6 nx_7 kc_8 ks_9 →
  (((24 : Int32) ≤ x_5 →
  (∃ I_90 : Nat → Int32 → zHp → Nat → Nat → Nat → Prop, (∃ n_49, I_90 n_49 (0 : Int32) hp_6 nx_7 kc_8 ks_9) ∧ ∀ (n_16 : Nat) (x_11 : Int32) (hp_12 : zHp) (nx_13 : Nat) (kc_14 : Nat) (ks_15 : Nat), I_90 n_16 x_11 hp_12 nx_13 kc_14 ks_15 →
  (((6 : Int32) ≤ x_11 →
  (∃ c_17 s_18 : Nat, kc_14 + c_17 ≤ mc ∧ ks_15 + s_18 ≤ ms ∧ zo hp_12 (some h0) [0] fun a_28 ci_29 fs_30 => zMtW l g yX0_orders cX0_orders 2 (some .int) [(0, 11, 12, 333)] d c_17 s_18 (.ref a_28 :: []) hp_12 nx_13 (zQi g fun x_21 hp_19 nx_20 =>
  ((kc_14 + c_17) ≤ mc ∧ (ks_15 + s_18) ≤ ms ∧ zo hp_19 (some h0) [0] fun a_25 ci_26 fs_27 => zMt l g yX0_formulas cX0_formulas 6 (some .int) d 0 0 (.ref a_25 :: []) hp_19 nx_20 (zQi g fun x_24 hp_22 nx_23 =>
  ((kc_14 + c_17) ≤ mc ∧ (ks_15 + s_18) ≤ ms ∧ Post x_24 hp_22 nx_23)))))) ∧
  (¬ (6 : Int32) ≤ x_11 →
  (zgR hp_12 (some h0) [0] 1 fun r_34 =>
  (zgR hp_12 (some h0) [0] 27 fun r_38 =>
  (zaR (g.2.1 8) hp_12 r_38 fun a_39 n_40 f_41 => vp_in x_11 n_40 ∧ ∀ r_42 : Option Nat, r_42 = f_41 x_11.toNatClampNeg →
  (zaR (g.2.1 8) hp_12 r_34 fun a_43 n_44 f_45 => vp_in x_11 n_44 ∧ zB g ≤ a_43 ∧ zCa hp_12 r_42 [31] ∧ ∀ hp_46 : zHp, hp_46 = va_up hp_12 a_43 (some (.inl (g.2.1 8, n_44, .inr (.inr (.inr (.inr (va_up f_45 x_11.toNatClampNeg r_42))))))) →
  (∀ x_47 : Int32, x_47 = x_11 + (1 : Int32) →
  (∃ k_48, k_48 < n_16 ∧ I_90 k_48 x_47 hp_46 nx_13 kc_14 ks_15)))))))))) ∧
  (¬ (24 : Int32) ≤ x_5 →
  (zgR hp_6 (some h0) [0] 0 fun r_53 =>
  (zaR (g.2.1 7) hp_6 r_53 fun a_54 n_55 f_56 => vp_in x_5 n_55 ∧ ∀ r_57 : Option Nat, r_57 = f_56 x_5.toNatClampNeg →
  (kc_8 ≤ mc ∧ ks_9 ≤ ms ∧ zo hp_6 r_57 [2, 6, 7, 8, 9, 10] fun a_137 ci_138 fs_139 => ∃ PP_140 : Int32 → zHp → Nat → Prop, (∀ (x_60 : Int32) (hp_58 : zHp) (nx_59 : Nat), PP_140 x_60 hp_58 nx_59 →
  (zgR hp_58 (some h0) [0] 24 fun r_64 =>
  (zaI (g.2.1 0) hp_58 r_64 fun a_65 n_66 f_67 => vp_in x_5 n_66 ∧ ∀ x_68 : Int32, x_68 = f_67 x_5.toNatClampNeg →
  (∃ P_52 : Int32 → zHp → Nat → Nat → Nat → Prop, (∀ (x_69 : Int32) (hp_70 : zHp) (nx_71 : Nat) (kc_72 : Nat) (ks_73 : Nat), P_52 x_69 hp_70 nx_71 kc_72 ks_73 →
  (zgR hp_70 (some h0) [0] 0 fun r_77 =>
  (zaR (g.2.1 7) hp_70 r_77 fun a_78 n_79 f_80 => vp_in x_69 n_79 ∧ ∀ r_81 : Option Nat, r_81 = f_80 x_69.toNatClampNeg →
  (zgR hp_70 (some h0) [0] 25 fun r_85 =>
  (zaD (g.2.1 1) hp_70 r_85 fun a_86 n_87 f_88 => vp_in x_69 n_87 ∧ ∀ x_89 : UInt64, x_89 = f_88 x_69.toNatClampNeg →
  (zpt g hp_70 r_81 [2, 6, 7, 8, 9, 10] 2 (.double x_89) fun hp_93 =>
  (zgR hp_93 (some h0) [0] 0 fun r_97 =>
  (zaR (g.2.1 7) hp_93 r_97 fun a_98 n_99 f_100 => vp_in x_69 n_99 ∧ ∀ r_101 : Option Nat, r_101 = f_100 x_69.toNatClampNeg →
  (zgR hp_93 (some h0) [0] 26 fun r_105 =>
  (zaR (g.2.1 11) hp_93 r_105 fun a_106 n_107 f_108 => vp_in x_69 n_107 ∧ ∀ r_109 : Option Nat, r_109 = f_108 x_69.toNatClampNeg →
  (zpt g hp_93 r_101 [2, 6, 7, 8, 9, 10] 1 (va_rf r_109) fun hp_113 =>
  (∀ x_114 : Int32, x_114 = x_69 + (1 : Int32) →
  (∃ k_115, k_115 < n_10 ∧ I_12 k_115 x_114 hp_113 nx_71 kc_72 ks_73))))))))))))) ∧
  ((x_60 = x_68 →
  P_52 x_5 hp_58 nx_59 kc_8 ks_9) ∧
  (¬ x_60 = x_68 →
  (zgR hp_58 (some h0) [0] 0 fun r_119 =>
  (zgR hp_58 (some h0) [0] 24 fun r_123 =>
  (zaI (g.2.1 0) hp_58 r_123 fun a_124 n_125 f_126 => vp_in x_5 n_125 ∧ ∀ x_127 : Int32, x_127 = f_126 x_5.toNatClampNeg →
  (∃ c_128 s_129 : Nat, kc_8 + c_128 ≤ mc ∧ ks_9 + s_129 ≤ ms ∧ zMt l g yX0_made cX0_made 2 (some (.object "WhatIfSheet$Plain")) d c_128 s_129 [.int x_5, .int x_127] hp_58 nx_59 (zQq g fun r_132 hp_130 nx_131 =>
  (zaR (g.2.1 7) hp_130 r_119 fun a_133 n_134 f_135 => vp_in x_5 n_134 ∧ zB g ≤ a_133 ∧ zCa hp_130 r_132 [2, 6, 7, 8, 9, 10] ∧ ∀ hp_136 : zHp, hp_136 = va_up hp_130 a_133 (some (.inl (g.2.1 7, n_134, .inr (.inr (.inr (.inr (va_up f_135 x_5.toNatClampNeg r_132))))))) →
  P_52 x_5 hp_136 nx_131 (kc_8 + c_128) (ks_9 + s_129))))))))))))) ∧ ((ci_138 = 2 → zMt l g yX2_kind cX2_kind 1 (some .int) d 0 0 (.ref a_137 :: []) hp_6 nx_7 (zQi g PP_140)) ∧ (ci_138 = 6 → zMt l g yX6_kind cX6_kind 1 (some .int) d 0 0 (.ref a_137 :: []) hp_6 nx_7 (zQi g PP_140)) ∧ (ci_138 = 7 → zMt l g yX7_kind cX7_kind 1 (some .int) d 0 0 (.ref a_137 :: []) hp_6 nx_7 (zQi g PP_140)) ∧ (ci_138 = 8 → zMt l g yX8_kind cX8_kind 1 (some .int) d 0 0 (.ref a_137 :: []) hp_6 nx_7 (zQi g PP_140)) ∧ (ci_138 = 9 → zMt l g yX9_kind cX9_kind 1 (some .int) d 0 0 (.ref a_137 :: []) hp_6 nx_7 (zQi g PP_140)) ∧ (ci_138 = 10 → zMt l g yX10_kind cX10_kind 1 (some .int) d 0 0 (.ref a_137 :: []) hp_6 nx_7 (zQi g PP_140))))))))))))
set_option maxHeartbeats 40000000 in
theorem met_X0_back {l : Launch} {g : zG} {d : Nat} {mc ms : Nat} {h0 : Nat} {hp : zHp} {nx : Nat} {Post : Int32 → zHp → Nat → Prop} (hw : wp_X0_back l g d mc ms h0 hp nx Post) : zMt l g yX0_back cX0_back 2 (some .int) (d + 1) mc ms [.ref h0] hp nx (zQi g Post) := by
  refine z_start (by decide) (Nat.le_of_ble_eq_true rfl) ?_
  intro p e s m below meth c hk hr hin hH hz ls hl
  have hx := hk.1.1
  have hb := hk.1.2.1
  have hown := hk.1.2.2.2.1
  have hts := hk.1.2.2.2.2
  have hS : va_S (zAd g) s.heap s.heap [] := va_S.rf
  have hl : lv_has ls 2 [(0, va_rf (some h0))] := hl
  unfold wp_X0_back at hw
  refine zr_aload_n (r := some h0) hx hb dX0_back_0 rfl (lv_at hl 0 rfl) ?_
  obtain ⟨a_1, ci_2, fs_3, x_4, er, he, hc, hv, hw⟩ := zgI_e hw
  refine zw_get hk hH er he hv (fk_X0_574 hc) dX0_back_1 ?_
  refine lv_if_ne (tgt := 10) hx hb dX0_back_4 (by decide) (fun hc => ?_) (fun hc => ?_)
  · have hw := hw.2 hc
    refine lv_iconst (v := (0 : Int32)) hx hb dX0_back_10 (by decide) ?_
    refine lv_istore_n (i := 1) (lv' := [(1, .int (0 : Int32)), (0, va_rf (some h0))]) hx hb dX0_back_11 rfl hl (by decide) (by first | rfl | simp [List.filter_cons, z_cat, z_catI, z_catJ, z_catF, z_catD]) (fun ls hl => ?_)
    obtain ⟨I_12, ⟨n_141, hI⟩, hB_12⟩ := hw
    have hL_12 : ∀ (n_10 : Nat) (x_5 : Int32) (hp_6 : zHp) (nx_7 : Nat) (kc_8 : Nat) (ks_9 : Nat) (H : Heap) (locs : List Loc) (ls : Array Slot), I_12 n_10 x_5 hp_6 nx_7 kc_8 ks_9 → lv_has ls 2 [(0, va_rf (some h0)), (1, .int x_5)] → zHd g hp_6 H → H.size = nx_7 → va_S (zAd g) s.heap H locs → W p l e (zrm (d + 1) mc ms) s m ([.ref h0] : List Value).toArray below meth c H locs kc_8 ks_9 (MQ below (zQi g Post) ([.ref h0] : List Value).toArray s mc ms (zAd g)) (F0 m 12 ls []) := by
      intro n_10
      induction n_10 using Nat.strongRecOn with
      | _ n_10 ih_12 =>
        intro x_5 hp_6 nx_7 kc_8 ks_9 H locs ls hw hl hH hz hS
        have hw := hB_12 n_10 x_5 hp_6 nx_7 kc_8 ks_9 hw
        refine lv_iload_n hx hb dX0_back_12 rfl (lv_at hl 1 rfl) ?_
        refine lv_bipush (v := (24 : Int32)) hx hb dX0_back_13 (by decide) ?_
        refine lv_icmp_ge (tgt := 88) hx hb dX0_back_15 (by decide) (fun hc => ?_) (fun hc => ?_)
        · have hw := hw.1 hc
          refine lv_iconst (v := (0 : Int32)) hx hb dX0_back_88 (by decide) ?_
          refine lv_istore_n (i := 1) (lv' := [(1, .int (0 : Int32)), (0, va_rf (some h0))]) hx hb dX0_back_89 rfl hl (by decide) (by first | rfl | simp [List.filter_cons, z_cat, z_catI, z_catJ, z_catF, z_catD]) (fun ls hl => ?_)
          obtain ⟨I_90, ⟨n_49, hI⟩, hB_90⟩ := hw
          have hL_90 : ∀ (n_16 : Nat) (x_11 : Int32) (hp_12 : zHp) (nx_13 : Nat) (kc_14 : Nat) (ks_15 : Nat) (H : Heap) (locs : List Loc) (ls : Array Slot), I_90 n_16 x_11 hp_12 nx_13 kc_14 ks_15 → lv_has ls 2 [(0, va_rf (some h0)), (1, .int x_11)] → zHd g hp_12 H → H.size = nx_13 → va_S (zAd g) s.heap H locs → W p l e (zrm (d + 1) mc ms) s m ([.ref h0] : List Value).toArray below meth c H locs kc_14 ks_15 (MQ below (zQi g Post) ([.ref h0] : List Value).toArray s mc ms (zAd g)) (F0 m 90 ls []) := by
            intro n_16
            induction n_16 using Nat.strongRecOn with
            | _ n_16 ih_90 =>
              intro x_11 hp_12 nx_13 kc_14 ks_15 H locs ls hw hl hH hz hS
              have hw := hB_90 n_16 x_11 hp_12 nx_13 kc_14 ks_15 hw
              refine lv_iload_n hx hb dX0_back_90 rfl (lv_at hl 1 rfl) ?_
              refine lv_bipush (v := (6 : Int32)) hx hb dX0_back_91 (by decide) ?_
              refine lv_icmp_ge (tgt := 114) hx hb dX0_back_93 (by decide) (fun hc => ?_) (fun hc => ?_)
              · have hw := hw.1 hc
                refine zr_aload_n (r := some h0) hx hb dX0_back_114 rfl (lv_at hl 0 rfl) ?_
                obtain ⟨c_17, s_18, hcl, hsl, hw⟩ := hw
                obtain ⟨a_28, ci_29, fs_30, er, he, hc, hw⟩ := zo_e hw
                obtain rfl := List.mem_singleton.mp hc
                refine zr_calli (zw_runVW (As := []) hk hH hz hS hl.1 er hw (vx_cwVW 0 hts (lw_VW q680 q682 qs2 q131 q683) rfl rfl rfl (by decide +kernel) (z_room (Nat.le_of_ble_eq_true rfl))) he rfl rfl rfl (Nat.le_of_ble_eq_true rfl) dX0_back_115 ⟨hcl, hsl⟩) hS (fun x_21 hp_19 nx_20 hw H locs hH hz hS => ?_)
                refine lv_pop hx hb dX0_back_118 rfl ?_
                refine zr_aload_n (r := some h0) hx hb dX0_back_119 rfl (lv_at hl 0 rfl) ?_
                obtain ⟨hcl, hsl, hw⟩ := hw
                obtain ⟨a_25, ci_26, fs_27, er, he, hc, hw⟩ := zo_e hw
                obtain rfl := List.mem_singleton.mp hc
                refine zr_calli (zw_runV (As := []) hk hH hz hS hl.1 er hw (cwV 0 hts (lw_V q2596 q2598 qs68 q131 q2599) rfl rfl rfl (by decide +kernel) (z_room (Nat.le_of_ble_eq_true rfl))) he rfl rfl rfl (Nat.le_of_ble_eq_true rfl) dX0_back_120 ⟨hcl, hsl⟩) hS (fun x_24 hp_22 nx_23 hw H locs hH hz hS => ?_)
                obtain ⟨hkc, hks, hw⟩ := hw
                exact zr_iret hk hr hH hz hS hw hkc hks dX0_back_123
              · have hw := hw.2 hc
                refine zr_aload_n (r := some h0) hx hb dX0_back_96 rfl (lv_at hl 0 rfl) ?_
                obtain ⟨a_31, ci_32, fs_33, r_34, er, he, hc, hv, hw⟩ := zgR_e hw
                refine zw_get hk hH er he hv (fk_X0_37 hc) dX0_back_97 ?_
                refine lv_iload_n hx hb dX0_back_100 rfl (lv_at hl 1 rfl) ?_
                refine zr_aload_n (r := some h0) hx hb dX0_back_101 rfl (lv_at hl 0 rfl) ?_
                obtain ⟨a_35, ci_36, fs_37, r_38, er, he, hc, hv, hw⟩ := zgR_e hw
                refine zw_get hk hH er he hv (fk_X0_116 hc) dX0_back_102 ?_
                refine lv_iload_n hx hb dX0_back_105 rfl (lv_at hl 1 rfl) ?_
                obtain ⟨a_39, n_40, f_41, er, he, hi, hw⟩ := zaR_e hw
                have hw := hw _ rfl
                refine zw_aald hk hH 8 er he rfl rfl hi dX0_back_106 ?_
                generalize f_41 x_11.toNatClampNeg = r_42 at hw ⊢
                obtain ⟨a_43, n_44, f_45, er, he, hi, hA, hca, hw⟩ := zaR_e hw
                obtain ⟨hp_46, eh⟩ : ∃ y : zHp, y = va_up hp_12 a_43 (some (.inl (g.2.1 8, n_44, .inr (.inr (.inr (.inr (va_up f_45 x_11.toNatClampNeg r_42))))))) := ⟨_, rfl⟩
                have hw := hw hp_46 eh
                refine zw_aast (v := r_42) (r := r_34) hk hH hz hS 8 er he rfl hi hA hca cw_WhatIfSheet_Table eh dX0_back_107 (fun H locs hH hz hS => ?_)
                obtain ⟨x_47, ex_47⟩ : ∃ y : Int32, y = x_11 + (1 : Int32) := ⟨_, rfl⟩
                have hw := hw x_47 ex_47
                refine lv_iinc (v := x_47) (lv' := [(1, .int x_47), (0, va_rf (some h0))]) hx hb dX0_back_108 hl (k := 1) rfl (by rw [ex_47]; rfl) (by decide) (by first | rfl | simp [List.filter_cons, z_cat, z_catI, z_catJ, z_catF, z_catD]) (fun ls hl => ?_)
                refine lv_goto (tgt := 90) hx hb dX0_back_111 (by decide) ?_
                obtain ⟨k_48, hlt, hw⟩ := hw
                exact ih_90 k_48 hlt x_47 hp_46 nx_13 kc_14 ks_15 _ _ _ hw (lv_sub hl [1, 0] rfl) hH hz hS
          exact hL_90 n_49 (0 : Int32) hp_6 nx_7 kc_8 ks_9 _ _ _ hI (lv_sub hl [1, 0] rfl) hH hz hS
        · have hw := hw.2 hc
          refine zr_aload_n (r := some h0) hx hb dX0_back_18 rfl (lv_at hl 0 rfl) ?_
          obtain ⟨a_50, ci_51, fs_52, r_53, er, he, hc, hv, hw⟩ := zgR_e hw
          refine zw_get hk hH er he hv (fk_X0_31 hc) dX0_back_19 ?_
          refine lv_iload_n hx hb dX0_back_22 rfl (lv_at hl 1 rfl) ?_
          obtain ⟨a_54, n_55, f_56, er, he, hi, hw⟩ := zaR_e hw
          have hw := hw _ rfl
          refine zw_aald hk hH 7 er he rfl rfl hi dX0_back_23 ?_
          generalize f_56 x_5.toNatClampNeg = r_57 at hw ⊢
          obtain ⟨hcl, hsl, hw⟩ := hw
          obtain ⟨a_137, ci_138, fs_139, er, he, hc, PP_140, hPP, hw⟩ := zo_e hw
          have hC : ∀ (x_60 : Int32) (hp_58 : zHp) (nx_59 : Nat), PP_140 x_60 hp_58 nx_59 → ∀ (H : Heap) (locs : List Loc), zHd g hp_58 H → H.size = nx_59 → va_S (zAd g) s.heap H locs → W p l e (zrm (d + 1) mc ms) s m ([.ref h0] : List Value).toArray below meth c H locs (kc_8 + 0) (ks_9 + 0) (MQ below (zQi g Post) ([.ref h0] : List Value).toArray s mc ms (zAd g)) (F0 m 27 ls [.int x_60]) := by
            intro x_60 hp_58 nx_59 hw H locs hH hz hS
            have hw := hPP x_60 hp_58 nx_59 hw
            refine zr_aload_n (r := some h0) hx hb dX0_back_27 rfl (lv_at hl 0 rfl) ?_
            obtain ⟨a_61, ci_62, fs_63, r_64, er, he, hc, hv, hw⟩ := zgR_e hw
            refine zw_get hk hH er he hv (fk_X0_104 hc) dX0_back_28 ?_
            refine lv_iload_n hx hb dX0_back_31 rfl (lv_at hl 1 rfl) ?_
            obtain ⟨a_65, n_66, f_67, er, he, hi, hw⟩ := zaI_e hw
            have hw := hw _ rfl
            refine zw_iald hk hH er he hi dX0_back_32 ?_
            generalize f_67 x_5.toNatClampNeg = x_68 at hw ⊢
            obtain ⟨P_52, hP_52, hw⟩ := hw
            have hJ_52 : ∀ (x_69 : Int32) (hp_70 : zHp) (nx_71 : Nat) (kc_72 : Nat) (ks_73 : Nat) (H : Heap) (locs : List Loc) (ls : Array Slot), P_52 x_69 hp_70 nx_71 kc_72 ks_73 → lv_has ls 2 [(0, va_rf (some h0)), (1, .int x_69)] → zHd g hp_70 H → H.size = nx_71 → va_S (zAd g) s.heap H locs → W p l e (zrm (d + 1) mc ms) s m ([.ref h0] : List Value).toArray below meth c H locs kc_72 ks_73 (MQ below (zQi g Post) ([.ref h0] : List Value).toArray s mc ms (zAd g)) (F0 m 52 ls []) := by
              intro x_69 hp_70 nx_71 kc_72 ks_73 H locs ls hw hl hH hz hS
              have hw := hP_52 x_69 hp_70 nx_71 kc_72 ks_73 hw
              refine zr_aload_n (r := some h0) hx hb dX0_back_52 rfl (lv_at hl 0 rfl) ?_
              obtain ⟨a_74, ci_75, fs_76, r_77, er, he, hc, hv, hw⟩ := zgR_e hw
              refine zw_get hk hH er he hv (fk_X0_31 hc) dX0_back_53 ?_
              refine lv_iload_n hx hb dX0_back_56 rfl (lv_at hl 1 rfl) ?_
              obtain ⟨a_78, n_79, f_80, er, he, hi, hw⟩ := zaR_e hw
              have hw := hw _ rfl
              refine zw_aald hk hH 7 er he rfl rfl hi dX0_back_57 ?_
              generalize f_80 x_69.toNatClampNeg = r_81 at hw ⊢
              refine zr_aload_n (r := some h0) hx hb dX0_back_58 rfl (lv_at hl 0 rfl) ?_
              obtain ⟨a_82, ci_83, fs_84, r_85, er, he, hc, hv, hw⟩ := zgR_e hw
              refine zw_get hk hH er he hv (fk_X0_107 hc) dX0_back_59 ?_
              refine lv_iload_n hx hb dX0_back_62 rfl (lv_at hl 1 rfl) ?_
              obtain ⟨a_86, n_87, f_88, er, he, hi, hw⟩ := zaD_e hw
              have hw := hw _ rfl
              refine zw_dald hk hH er he hi dX0_back_63 ?_
              generalize f_88 x_69.toNatClampNeg = x_89 at hw ⊢
              obtain ⟨a_90, ci_91, fs_92, hp_93, er, he, hc, hA, hkl, eh, hw⟩ := zpt_e hw
              refine zw_put hk hH hz hS er he hA hkl eh (fp_X0_209 hc) rfl rfl dX0_back_64 (fun H locs hH hz hS => ?_)
              refine zr_aload_n (r := some h0) hx hb dX0_back_67 rfl (lv_at hl 0 rfl) ?_
              obtain ⟨a_94, ci_95, fs_96, r_97, er, he, hc, hv, hw⟩ := zgR_e hw
              refine zw_get hk hH er he hv (fk_X0_31 hc) dX0_back_68 ?_
              refine lv_iload_n hx hb dX0_back_71 rfl (lv_at hl 1 rfl) ?_
              obtain ⟨a_98, n_99, f_100, er, he, hi, hw⟩ := zaR_e hw
              have hw := hw _ rfl
              refine zw_aald hk hH 7 er he rfl rfl hi dX0_back_72 ?_
              generalize f_100 x_69.toNatClampNeg = r_101 at hw ⊢
              refine zr_aload_n (r := some h0) hx hb dX0_back_73 rfl (lv_at hl 0 rfl) ?_
              obtain ⟨a_102, ci_103, fs_104, r_105, er, he, hc, hv, hw⟩ := zgR_e hw
              refine zw_get hk hH er he hv (fk_X0_112 hc) dX0_back_74 ?_
              refine lv_iload_n hx hb dX0_back_77 rfl (lv_at hl 1 rfl) ?_
              obtain ⟨a_106, n_107, f_108, er, he, hi, hw⟩ := zaR_e hw
              have hw := hw _ rfl
              refine zw_aald hk hH 11 er he rfl rfl hi dX0_back_78 ?_
              generalize f_108 x_69.toNatClampNeg = r_109 at hw ⊢
              obtain ⟨a_110, ci_111, fs_112, hp_113, er, he, hc, hA, hkl, eh, hw⟩ := zpt_e hw
              refine zw_put hk hH hz hS er he hA hkl eh (fp_X0_239 hc) (z_narR _ _) (z_fitR _ _) dX0_back_79 (fun H locs hH hz hS => ?_)
              obtain ⟨x_114, ex_114⟩ : ∃ y : Int32, y = x_69 + (1 : Int32) := ⟨_, rfl⟩
              have hw := hw x_114 ex_114
              refine lv_iinc (v := x_114) (lv' := [(1, .int x_114), (0, va_rf (some h0))]) hx hb dX0_back_82 hl (k := 1) rfl (by rw [ex_114]; rfl) (by decide) (by first | rfl | simp [List.filter_cons, z_cat, z_catI, z_catJ, z_catF, z_catD]) (fun ls hl => ?_)
              refine lv_goto (tgt := 12) hx hb dX0_back_85 (by decide) ?_
              obtain ⟨k_115, hlt, hw⟩ := hw
              exact ih_12 k_115 hlt x_114 hp_113 nx_71 kc_72 ks_73 _ _ _ hw (lv_sub hl [1, 0] rfl) hH hz hS
            refine lv_icmp_eq (tgt := 52) hx hb dX0_back_33 (by decide) (fun hc => ?_) (fun hc => ?_)
            · have hw := hw.1 hc
              exact hJ_52 x_5 hp_58 nx_59 kc_8 ks_9 _ _ _ hw hl hH hz hS
            · have hw := hw.2 hc
              refine zr_aload_n (r := some h0) hx hb dX0_back_36 rfl (lv_at hl 0 rfl) ?_
              obtain ⟨a_116, ci_117, fs_118, r_119, er, he, hc, hv, hw⟩ := zgR_e hw
              refine zw_get hk hH er he hv (fk_X0_31 hc) dX0_back_37 ?_
              refine lv_iload_n hx hb dX0_back_40 rfl (lv_at hl 1 rfl) ?_
              refine lv_iload_n hx hb dX0_back_41 rfl (lv_at hl 1 rfl) ?_
              refine zr_aload_n (r := some h0) hx hb dX0_back_42 rfl (lv_at hl 0 rfl) ?_
              obtain ⟨a_120, ci_121, fs_122, r_123, er, he, hc, hv, hw⟩ := zgR_e hw
              refine zw_get hk hH er he hv (fk_X0_104 hc) dX0_back_43 ?_
              refine lv_iload_n hx hb dX0_back_46 rfl (lv_at hl 1 rfl) ?_
              obtain ⟨a_124, n_125, f_126, er, he, hi, hw⟩ := zaI_e hw
              have hw := hw _ rfl
              refine zw_iald hk hH er he hi dX0_back_47 ?_
              generalize f_126 x_5.toNatClampNeg = x_127 at hw ⊢
              obtain ⟨c_128, s_129, hcl, hsl, hw⟩ := hw
              refine zr_callq (zr_runS (As := [.int x_5, .int x_127]) hk hH hz hS hl.1 hw (va_cwS 2 hts (lw_S q2051 q2052 q131 q2053) rfl rfl rfl (by decide +kernel) (z_room (Nat.le_of_ble_eq_true rfl))) rfl rfl (by simp only [List.map_cons, List.map_nil, z_cat]; exact Nat.le_of_ble_eq_true rfl) dX0_back_48 ⟨hcl, hsl⟩) hS (fun r_132 hp_130 nx_131 hw H locs hH hz hS => ?_)
              obtain ⟨a_133, n_134, f_135, er, he, hi, hA, hca, hw⟩ := zaR_e hw
              obtain ⟨hp_136, eh⟩ : ∃ y : zHp, y = va_up hp_130 a_133 (some (.inl (g.2.1 7, n_134, .inr (.inr (.inr (.inr (va_up f_135 x_5.toNatClampNeg r_132))))))) := ⟨_, rfl⟩
              have hw := hw hp_136 eh
              refine zw_aast (v := r_132) (r := r_119) hk hH hz hS 7 er he rfl hi hA hca cw_WhatIfSheet_Plain eh dX0_back_51 (fun H locs hH hz hS => ?_)
              exact hJ_52 x_5 hp_136 nx_131 (kc_8 + c_128) (ks_9 + s_129) _ _ _ hw hl hH hz hS
          simp only [List.mem_cons, List.not_mem_nil, or_false] at hc
          rcases hc with rfl | rfl | rfl | rfl | rfl | rfl
          · exact zr_calli (zw_runV (As := []) hk hH hz hS hl.1 er (hw.1 rfl) (cwV 0 hts (lw_V q2031 q2032 q2033 q152 q2050) rfl rfl rfl (by decide +kernel) (z_room (Nat.le_of_ble_eq_true rfl))) he rfl rfl rfl (Nat.le_of_ble_eq_true rfl) dX0_back_24 ⟨hcl, hsl⟩) hS hC
          · exact zr_calli (zw_runU (As := []) hk hH hz hS hl.1 er (hw.2.1 rfl) (va_cwO 0 hts (z_O q2031 q2034 q2032 q2047 q2048 q163 q2049) rfl rfl rfl q2050 (by decide +kernel) (z_room (Nat.le_of_ble_eq_true rfl))) he rfl rfl rfl (Nat.le_of_ble_eq_true rfl) dX0_back_24 ⟨hcl, hsl⟩) hS hC
          · exact zr_calli (zw_runU (As := []) hk hH hz hS hl.1 er (hw.2.2.1 rfl) (va_cwO 0 hts (z_O q2031 q2034 q2032 q2038 q2039 q164 q2040) rfl rfl rfl q2050 (by decide +kernel) (z_room (Nat.le_of_ble_eq_true rfl))) he rfl rfl rfl (Nat.le_of_ble_eq_true rfl) dX0_back_24 ⟨hcl, hsl⟩) hS hC
          · exact zr_calli (zw_runU (As := []) hk hH hz hS hl.1 er (hw.2.2.2.1 rfl) (va_cwO 0 hts (z_O q2031 q2034 q2032 q2041 q2042 q165 q2043) rfl rfl rfl q2050 (by decide +kernel) (z_room (Nat.le_of_ble_eq_true rfl))) he rfl rfl rfl (Nat.le_of_ble_eq_true rfl) dX0_back_24 ⟨hcl, hsl⟩) hS hC
          · exact zr_calli (zw_runU (As := []) hk hH hz hS hl.1 er (hw.2.2.2.2.1 rfl) (va_cwO 0 hts (z_O q2031 q2034 q2032 q2044 q2045 q166 q2046) rfl rfl rfl q2050 (by decide +kernel) (z_room (Nat.le_of_ble_eq_true rfl))) he rfl rfl rfl (Nat.le_of_ble_eq_true rfl) dX0_back_24 ⟨hcl, hsl⟩) hS hC
          · exact zr_calli (zw_runU (As := []) hk hH hz hS hl.1 er (hw.2.2.2.2.2 rfl) (va_cwO 0 hts (z_O q2031 q2034 q2032 q2035 q2036 q167 q2037) rfl rfl rfl q2050 (by decide +kernel) (z_room (Nat.le_of_ble_eq_true rfl))) he rfl rfl rfl (Nat.le_of_ble_eq_true rfl) dX0_back_24 ⟨hcl, hsl⟩) hS hC
    exact hL_12 n_141 (0 : Int32) hp nx 0 0 _ _ _ hI (lv_sub hl [1, 0] rfl) hH hz hS
  · have hw := hw.1 hc
    refine lv_bipush (v := (-3 : Int32)) hx hb dX0_back_7 (by decide) ?_
    obtain ⟨hkc, hks, hw⟩ := hw
    exact zr_iret hk hr hH hz hS hw hkc hks dX0_back_9
def wp_X0_count (l : Launch) (g : zG) (d : Nat) (h0 : Nat) (x1 : Int32) (hp : zHp) (nx : Nat) (Post : Int32 → zHp → Nat → Prop) : Prop :=
  ((x1 = (0 : Int32) →
  (zo hp (some h0) [0] fun a_4 ci_5 fs_6 => zMt l g yX0_formulas cX0_formulas 6 (some .int) d 0 0 (.ref a_4 :: []) hp nx (zQi g fun x_3 hp_1 nx_2 =>
  (Post x_3 hp_1 nx_2)))) ∧
  (x1 = (1 : Int32) →
  (zgR hp (some h0) [0] 0 fun r_10 =>
  (zln (g.2.1 7) hp r_10 fun x_13 =>
  (∃ I_49 : Nat → Int32 → (Option Nat) → Int32 → Int32 → zHp → Nat → Prop, (∃ n_59, I_49 n_59 (0 : Int32) r_10 x_13 (0 : Int32) hp nx) ∧ ∀ (n_20 : Nat) (x_14 : Int32) (r_15 : Option Nat) (x_16 : Int32) (x_17 : Int32) (hp_18 : zHp) (nx_19 : Nat), I_49 n_20 x_14 r_15 x_16 x_17 hp_18 nx_19 →
  ((x_16 ≤ x_17 →
  (Post x_14 hp_18 nx_19)) ∧
  (¬ x_16 ≤ x_17 →
  (zaR (g.2.1 7) hp_18 r_15 fun a_21 n_22 f_23 => vp_in x_17 n_22 ∧ ∀ r_24 : Option Nat, r_24 = f_23 x_17.toNatClampNeg →
  (zo hp_18 r_24 [2, 6, 7, 8, 9, 10] fun a_55 ci_56 fs_57 => ∃ PP_58 : Int32 → zHp → Nat → Prop, (∀ (x_27 : Int32) (hp_25 : zHp) (nx_26 : Nat), PP_58 x_27 hp_25 nx_26 →
  (∃ P_84 : Int32 → (Option Nat) → Int32 → Int32 → (Option Nat) → Int32 → Int32 → zHp → Nat → Prop, (∀ (x_28 : Int32) (r_29 : Option Nat) (x_30 : Int32) (x_31 : Int32) (r_32 : Option Nat) (x_33 : Int32) (x_34 : Int32) (hp_35 : zHp) (nx_36 : Nat), P_84 x_28 r_29 x_30 x_31 r_32 x_33 x_34 hp_35 nx_36 →
  (∀ x_37 : Int32, x_37 = x_33 + x_34 →
  (∀ x_38 : Int32, x_38 = x_31 + (1 : Int32) →
  (∃ k_39, k_39 < n_20 ∧ I_49 k_39 x_37 r_29 x_30 x_38 hp_35 nx_36)))) ∧
  (∃ P_83 : Int32 → (Option Nat) → Int32 → Int32 → (Option Nat) → Int32 → zHp → Nat → Prop, (∀ (x_40 : Int32) (r_41 : Option Nat) (x_42 : Int32) (x_43 : Int32) (r_44 : Option Nat) (x_45 : Int32) (hp_46 : zHp) (nx_47 : Nat), P_83 x_40 r_41 x_42 x_43 r_44 x_45 hp_46 nx_47 →
  P_84 x_40 r_41 x_42 x_43 r_44 x_45 (0 : Int32) hp_46 nx_47) ∧
  ((x_27 = 0 →
  P_83 x_14 r_15 x_16 x_17 r_24 x_14 hp_25 nx_26) ∧
  (¬ x_27 = 0 →
  (zo hp_25 r_24 [2, 6, 7, 8, 9, 10] fun a_51 ci_52 fs_53 => ∃ PP_54 : Int32 → zHp → Nat → Prop, (∀ (x_50 : Int32) (hp_48 : zHp) (nx_49 : Nat), PP_54 x_50 hp_48 nx_49 →
  ((x_50 = 0 →
  P_84 x_14 r_15 x_16 x_17 r_24 x_14 (1 : Int32) hp_48 nx_49) ∧
  (¬ x_50 = 0 →
  P_83 x_14 r_15 x_16 x_17 r_24 x_14 hp_48 nx_49))) ∧ zMt l g yX2_isEmpty cX2_isEmpty 1 (some .boolean) d 0 0 (.ref a_51 :: []) hp_25 nx_26 (zQi g PP_54))))))) ∧ zMt l g yX2_isInput cX2_isInput 1 (some .boolean) d 0 0 (.ref a_55 :: []) hp_18 nx_19 (zQi g PP_58))))))))) ∧
  (x1 = (2 : Int32) →
  (zgR hp (some h0) [0] 1 fun r_63 =>
  (zln (g.2.1 8) hp r_63 fun x_66 =>
  (∃ I_106 : Nat → Int32 → (Option Nat) → Int32 → Int32 → zHp → Nat → Prop, (∃ n_90, I_106 n_90 (0 : Int32) r_63 x_66 (0 : Int32) hp nx) ∧ ∀ (n_73 : Nat) (x_67 : Int32) (r_68 : Option Nat) (x_69 : Int32) (x_70 : Int32) (hp_71 : zHp) (nx_72 : Nat), I_106 n_73 x_67 r_68 x_69 x_70 hp_71 nx_72 →
  ((x_69 ≤ x_70 →
  (Post x_67 hp_71 nx_72)) ∧
  (¬ x_69 ≤ x_70 →
  (zaR (g.2.1 8) hp_71 r_68 fun a_74 n_75 f_76 => vp_in x_70 n_75 ∧ ∀ r_77 : Option Nat, r_77 = f_76 x_70.toNatClampNeg →
  (∃ P_130 : Int32 → (Option Nat) → Int32 → Int32 → (Option Nat) → Int32 → Int32 → zHp → Nat → Prop, (∀ (x_78 : Int32) (r_79 : Option Nat) (x_80 : Int32) (x_81 : Int32) (r_82 : Option Nat) (x_83 : Int32) (x_84 : Int32) (hp_85 : zHp) (nx_86 : Nat), P_130 x_78 r_79 x_80 x_81 r_82 x_83 x_84 hp_85 nx_86 →
  (∀ x_87 : Int32, x_87 = x_83 + x_84 →
  (∀ x_88 : Int32, x_88 = x_81 + (1 : Int32) →
  (∃ k_89, k_89 < n_73 ∧ I_106 k_89 x_87 r_79 x_80 x_88 hp_85 nx_86)))) ∧
  ((r_77 = none →
  P_130 x_67 r_68 x_69 x_70 r_77 x_67 (0 : Int32) hp_71 nx_72) ∧
  (¬ r_77 = none →
  P_130 x_67 r_68 x_69 x_70 r_77 x_67 (1 : Int32) hp_71 nx_72)))))))))) ∧
  (x1 = (3 : Int32) →
  (zgI hp (some h0) [0] 20 fun x_94 =>
  (Post x_94 hp nx))) ∧
  (¬ x1 = (0 : Int32) ∧ ¬ x1 = (1 : Int32) ∧ ¬ x1 = (2 : Int32) ∧ ¬ x1 = (3 : Int32) →
  (Post (-2 : Int32) hp nx)))
set_option maxHeartbeats 40000000 in
theorem met_X0_count {l : Launch} {g : zG} {d : Nat} {h0 : Nat} {x1 : Int32} {hp : zHp} {nx : Nat} {Post : Int32 → zHp → Nat → Prop} (hw : wp_X0_count l g d h0 x1 hp nx Post) : zMt l g yX0_count cX0_count 7 (some .int) (d + 1) 0 0 [.ref h0, .int x1] hp nx (zQi g Post) := by
  refine z_start (by decide) (Nat.le_of_ble_eq_true rfl) ?_
  intro p e s m below meth c hk hr hin hH hz ls hl
  have hx := hk.1.1
  have hb := hk.1.2.1
  have hown := hk.1.2.2.2.1
  have hts := hk.1.2.2.2.2
  have hS : va_S (zAd g) s.heap s.heap [] := va_S.rf
  have hl : lv_has ls 7 [(0, va_rf (some h0)), (1, .int x1)] := hl
  unfold wp_X0_count at hw
  refine lv_iconst (v := (0 : Int32)) hx hb dX0_count_0 (by decide) ?_
  refine lv_istore_n (i := 2) (lv' := [(2, .int (0 : Int32)), (0, va_rf (some h0)), (1, .int x1)]) hx hb dX0_count_1 rfl hl (by decide) (by first | rfl | simp [List.filter_cons, z_cat, z_catI, z_catJ, z_catF, z_catD]) (fun ls hl => ?_)
  refine lv_iload_n hx hb dX0_count_2 rfl (lv_at hl 2 rfl) ?_
  by_cases hc0 : x1 = (0 : Int32)
  · have hw := hw.1 hc0
    refine lv_tableIn (tgt := 32) hx hb dX0_count_3 (by rw [hc0]; decide) (by rw [hc0]; decide) (by rw [hc0]; rfl) (by decide) ?_
    refine zr_aload_n (r := some h0) hx hb dX0_count_32 rfl (lv_at hl 1 rfl) ?_
    obtain ⟨a_4, ci_5, fs_6, er, he, hc, hw⟩ := zo_e hw
    obtain rfl := List.mem_singleton.mp hc
    refine zr_calli (zw_runV (As := []) hk hH hz hS hl.1 er hw (cwV 0 hts (lw_V q2596 q2598 qs68 q131 q2599) rfl rfl rfl (by decide +kernel) (z_room (Nat.le_of_ble_eq_true rfl))) he rfl rfl rfl (Nat.le_of_ble_eq_true rfl) dX0_count_33 ⟨Nat.le_of_ble_eq_true rfl, Nat.le_of_ble_eq_true rfl⟩) hS (fun x_3 hp_1 nx_2 hw H locs hH hz hS => ?_)
    exact zr_iret hk hr hH hz hS hw (Nat.le_of_ble_eq_true rfl) (Nat.le_of_ble_eq_true rfl) dX0_count_36
  by_cases hc1 : x1 = (1 : Int32)
  · have hw := hw.2.1 hc1
    refine lv_tableIn (tgt := 37) hx hb dX0_count_3 (by rw [hc1]; decide) (by rw [hc1]; decide) (by rw [hc1]; rfl) (by decide) ?_
    refine zr_aload_n (r := some h0) hx hb dX0_count_37 rfl (lv_at hl 1 rfl) ?_
    obtain ⟨a_7, ci_8, fs_9, r_10, er, he, hc, hv, hw⟩ := zgR_e hw
    refine zw_get hk hH er he hv (fk_X0_31 hc) dX0_count_38 ?_
    refine zr_astore_n (r := r_10) (i := 3) (lv' := [(3, va_rf r_10), (2, .int (0 : Int32)), (0, va_rf (some h0)), (1, .int x1)]) hx hb dX0_count_41 rfl hl (by decide) (by first | rfl | simp [List.filter_cons, z_cat, z_catI, z_catJ, z_catF, z_catD]) (fun ls hl => ?_)
    refine zr_aload_n (r := r_10) hx hb dX0_count_42 rfl (lv_at hl 0 rfl) ?_
    obtain ⟨a_11, v_12, er, he, hw⟩ := zln_e hw
    refine zw_alen hk hH 7 er he rfl dX0_count_43 ?_
    generalize Int32.ofNat v_12.1 = x_13 at hw ⊢
    refine lv_istore (lv' := [(4, .int x_13), (3, va_rf r_10), (2, .int (0 : Int32)), (0, va_rf (some h0)), (1, .int x1)]) hx hb dX0_count_44 hl (by decide) (by first | rfl | simp [List.filter_cons, z_cat, z_catI, z_catJ, z_catF, z_catD]) (fun ls hl => ?_)
    refine lv_iconst (v := (0 : Int32)) hx hb dX0_count_46 (by decide) ?_
    refine lv_istore (lv' := [(5, .int (0 : Int32)), (4, .int x_13), (3, va_rf r_10), (2, .int (0 : Int32)), (0, va_rf (some h0)), (1, .int x1)]) hx hb dX0_count_47 hl (by decide) (by first | rfl | simp [List.filter_cons, z_cat, z_catI, z_catJ, z_catF, z_catD]) (fun ls hl => ?_)
    obtain ⟨I_49, ⟨n_59, hI⟩, hB_49⟩ := hw
    have hL_49 : ∀ (n_20 : Nat) (x_14 : Int32) (r_15 : Option Nat) (x_16 : Int32) (x_17 : Int32) (hp_18 : zHp) (nx_19 : Nat) (H : Heap) (locs : List Loc) (ls : Array Slot), I_49 n_20 x_14 r_15 x_16 x_17 hp_18 nx_19 → lv_has ls 7 [(0, va_rf (some h0)), (1, .int x1), (2, .int x_14), (3, va_rf r_15), (4, .int x_16), (5, .int x_17)] → zHd g hp_18 H → H.size = nx_19 → va_S (zAd g) s.heap H locs → W p l e (zrm (d + 1) 0 0) s m ([.ref h0, .int x1] : List Value).toArray below meth c H locs 0 0 (MQ below (zQi g Post) ([.ref h0, .int x1] : List Value).toArray s 0 0 (zAd g)) (F0 m 49 ls []) := by
      intro n_20
      induction n_20 using Nat.strongRecOn with
      | _ n_20 ih_49 =>
        intro x_14 r_15 x_16 x_17 hp_18 nx_19 H locs ls hw hl hH hz hS
        have hw := hB_49 n_20 x_14 r_15 x_16 x_17 hp_18 nx_19 hw
        refine lv_iload hx hb dX0_count_49 (lv_at hl 5 rfl) ?_
        refine lv_iload hx hb dX0_count_51 (lv_at hl 4 rfl) ?_
        refine lv_icmp_ge (tgt := 92) hx hb dX0_count_53 (by decide) (fun hc => ?_) (fun hc => ?_)
        · have hw := hw.1 hc
          refine lv_iload_n hx hb dX0_count_92 rfl (lv_at hl 2 rfl) ?_
          exact zr_iret hk hr hH hz hS hw (Nat.le_of_ble_eq_true rfl) (Nat.le_of_ble_eq_true rfl) dX0_count_93
        · have hw := hw.2 hc
          refine zr_aload_n (r := r_15) hx hb dX0_count_56 rfl (lv_at hl 3 rfl) ?_
          refine lv_iload hx hb dX0_count_57 (lv_at hl 5 rfl) ?_
          obtain ⟨a_21, n_22, f_23, er, he, hi, hw⟩ := zaR_e hw
          have hw := hw _ rfl
          refine zw_aald hk hH 7 er he rfl rfl hi dX0_count_59 ?_
          generalize f_23 x_17.toNatClampNeg = r_24 at hw ⊢
          refine zr_astore (r := r_24) (lv' := [(6, va_rf r_24), (0, va_rf (some h0)), (1, .int x1), (2, .int x_14), (3, va_rf r_15), (4, .int x_16), (5, .int x_17)]) hx hb dX0_count_60 hl (by decide) (by first | rfl | simp [List.filter_cons, z_cat, z_catI, z_catJ, z_catF, z_catD]) (fun ls hl => ?_)
          refine lv_iload_n hx hb dX0_count_62 rfl (lv_at hl 3 rfl) ?_
          refine zr_aload (r := r_24) hx hb dX0_count_63 (lv_at hl 0 rfl) ?_
          obtain ⟨a_55, ci_56, fs_57, er, he, hc, PP_58, hPP, hw⟩ := zo_e hw
          have hC : ∀ (x_27 : Int32) (hp_25 : zHp) (nx_26 : Nat), PP_58 x_27 hp_25 nx_26 → ∀ (H : Heap) (locs : List Loc), zHd g hp_25 H → H.size = nx_26 → va_S (zAd g) s.heap H locs → W p l e (zrm (d + 1) 0 0) s m ([.ref h0, .int x1] : List Value).toArray below meth c H locs (0 + 0) (0 + 0) (MQ below (zQi g Post) ([.ref h0, .int x1] : List Value).toArray s 0 0 (zAd g)) (F0 m 68 ls [.int x_27, .int x_14]) := by
            intro x_27 hp_25 nx_26 hw H locs hH hz hS
            have hw := hPP x_27 hp_25 nx_26 hw
            obtain ⟨P_84, hP_84, hw⟩ := hw
            have hJ_84 : ∀ (x_28 : Int32) (r_29 : Option Nat) (x_30 : Int32) (x_31 : Int32) (r_32 : Option Nat) (x_33 : Int32) (x_34 : Int32) (hp_35 : zHp) (nx_36 : Nat) (H : Heap) (locs : List Loc) (ls : Array Slot), P_84 x_28 r_29 x_30 x_31 r_32 x_33 x_34 hp_35 nx_36 → lv_has ls 7 [(0, va_rf (some h0)), (1, .int x1), (2, .int x_28), (3, va_rf r_29), (4, .int x_30), (5, .int x_31), (6, va_rf r_32)] → zHd g hp_35 H → H.size = nx_36 → va_S (zAd g) s.heap H locs → W p l e (zrm (d + 1) 0 0) s m ([.ref h0, .int x1] : List Value).toArray below meth c H locs 0 0 (MQ below (zQi g Post) ([.ref h0, .int x1] : List Value).toArray s 0 0 (zAd g)) (F0 m 84 ls [.int x_34, .int x_33]) := by
              intro x_28 r_29 x_30 x_31 r_32 x_33 x_34 hp_35 nx_36 H locs ls hw hl hH hz hS
              have hw := hP_84 x_28 r_29 x_30 x_31 r_32 x_33 x_34 hp_35 nx_36 hw
              refine lv_iadd hx hb dX0_count_84 ?_
              refine lv_topi (fun x_37 ex_37 => ?_)
              have hw := hw x_37 ex_37
              refine lv_istore_n (i := 2) (lv' := [(2, .int x_37), (0, va_rf (some h0)), (1, .int x1), (3, va_rf r_29), (4, .int x_30), (5, .int x_31), (6, va_rf r_32)]) hx hb dX0_count_85 rfl hl (by decide) (by first | rfl | simp [List.filter_cons, z_cat, z_catI, z_catJ, z_catF, z_catD]) (fun ls hl => ?_)
              obtain ⟨x_38, ex_38⟩ : ∃ y : Int32, y = x_31 + (1 : Int32) := ⟨_, rfl⟩
              have hw := hw x_38 ex_38
              refine lv_iinc (v := x_38) (lv' := [(5, .int x_38), (2, .int x_37), (0, va_rf (some h0)), (1, .int x1), (3, va_rf r_29), (4, .int x_30), (6, va_rf r_32)]) hx hb dX0_count_86 hl (k := 5) rfl (by rw [ex_38]; rfl) (by decide) (by first | rfl | simp [List.filter_cons, z_cat, z_catI, z_catJ, z_catF, z_catD]) (fun ls hl => ?_)
              refine lv_goto (tgt := 49) hx hb dX0_count_89 (by decide) ?_
              obtain ⟨k_39, hlt, hw⟩ := hw
              exact ih_49 k_39 hlt x_37 r_29 x_30 x_38 hp_35 nx_36 _ _ _ hw (lv_sub hl [2, 3, 1, 4, 5, 0] rfl) hH hz hS
            obtain ⟨P_83, hP_83, hw⟩ := hw
            have hJ_83 : ∀ (x_40 : Int32) (r_41 : Option Nat) (x_42 : Int32) (x_43 : Int32) (r_44 : Option Nat) (x_45 : Int32) (hp_46 : zHp) (nx_47 : Nat) (H : Heap) (locs : List Loc) (ls : Array Slot), P_83 x_40 r_41 x_42 x_43 r_44 x_45 hp_46 nx_47 → lv_has ls 7 [(0, va_rf (some h0)), (1, .int x1), (2, .int x_40), (3, va_rf r_41), (4, .int x_42), (5, .int x_43), (6, va_rf r_44)] → zHd g hp_46 H → H.size = nx_47 → va_S (zAd g) s.heap H locs → W p l e (zrm (d + 1) 0 0) s m ([.ref h0, .int x1] : List Value).toArray below meth c H locs 0 0 (MQ below (zQi g Post) ([.ref h0, .int x1] : List Value).toArray s 0 0 (zAd g)) (F0 m 83 ls [.int x_45]) := by
              intro x_40 r_41 x_42 x_43 r_44 x_45 hp_46 nx_47 H locs ls hw hl hH hz hS
              have hw := hP_83 x_40 r_41 x_42 x_43 r_44 x_45 hp_46 nx_47 hw
              refine lv_iconst (v := (0 : Int32)) hx hb dX0_count_83 (by decide) ?_
              exact hJ_84 x_40 r_41 x_42 x_43 r_44 x_45 (0 : Int32) hp_46 nx_47 _ _ _ hw hl hH hz hS
            refine lv_if_eq (tgt := 83) hx hb dX0_count_68 (by decide) (fun hc => ?_) (fun hc => ?_)
            · have hw := hw.1 hc
              exact hJ_83 x_14 r_15 x_16 x_17 r_24 x_14 hp_25 nx_26 _ _ _ hw (lv_sub hl [1, 2, 3, 4, 5, 6, 0] rfl) hH hz hS
            · have hw := hw.2 hc
              refine zr_aload (r := r_24) hx hb dX0_count_71 (lv_at hl 0 rfl) ?_
              obtain ⟨a_51, ci_52, fs_53, er, he, hc, PP_54, hPP, hw⟩ := zo_e hw
              have hC : ∀ (x_50 : Int32) (hp_48 : zHp) (nx_49 : Nat), PP_54 x_50 hp_48 nx_49 → ∀ (H : Heap) (locs : List Loc), zHd g hp_48 H → H.size = nx_49 → va_S (zAd g) s.heap H locs → W p l e (zrm (d + 1) 0 0) s m ([.ref h0, .int x1] : List Value).toArray below meth c H locs (0 + 0) (0 + 0) (MQ below (zQi g Post) ([.ref h0, .int x1] : List Value).toArray s 0 0 (zAd g)) (F0 m 76 ls [.int x_50, .int x_14]) := by
                intro x_50 hp_48 nx_49 hw H locs hH hz hS
                have hw := hPP x_50 hp_48 nx_49 hw
                refine lv_if_ne (tgt := 83) hx hb dX0_count_76 (by decide) (fun hc => ?_) (fun hc => ?_)
                · have hw := hw.2 hc
                  exact hJ_83 x_14 r_15 x_16 x_17 r_24 x_14 hp_48 nx_49 _ _ _ hw (lv_sub hl [1, 2, 3, 4, 5, 6, 0] rfl) hH hz hS
                · have hw := hw.1 hc
                  refine lv_iconst (v := (1 : Int32)) hx hb dX0_count_79 (by decide) ?_
                  refine lv_goto (tgt := 84) hx hb dX0_count_80 (by decide) ?_
                  exact hJ_84 x_14 r_15 x_16 x_17 r_24 x_14 (1 : Int32) hp_48 nx_49 _ _ _ hw (lv_sub hl [1, 2, 3, 4, 5, 6, 0] rfl) hH hz hS
              simp only [List.mem_cons, List.not_mem_nil, or_false] at hc
              rcases hc with rfl | rfl | rfl | rfl | rfl | rfl
              · exact zr_calli (zw_runV (As := []) hk hH hz hS hl.1 er (hw) (cwV 0 hts (lw_V q2135 q2110 q2111 q152 q2118) rfl rfl rfl (by decide +kernel) (z_room (Nat.le_of_ble_eq_true rfl))) he rfl rfl rfl (Nat.le_of_ble_eq_true rfl) dX0_count_73 ⟨Nat.le_of_ble_eq_true rfl, Nat.le_of_ble_eq_true rfl⟩) hS hC
              · exact zr_calli (zw_runU (As := []) hk hH hz hS hl.1 er (hw) (va_cwU 0 hts (z_U q2135 q2112 q2117 q2110 q152 q2118) rfl rfl rfl rfl (by decide +kernel) (z_room (Nat.le_of_ble_eq_true rfl))) he rfl rfl rfl (Nat.le_of_ble_eq_true rfl) dX0_count_73 ⟨Nat.le_of_ble_eq_true rfl, Nat.le_of_ble_eq_true rfl⟩) hS hC
              · exact zr_calli (zw_runU (As := []) hk hH hz hS hl.1 er (hw) (va_cwU 0 hts (z_U q2135 q2112 q2114 q2110 q152 q2118) rfl rfl rfl rfl (by decide +kernel) (z_room (Nat.le_of_ble_eq_true rfl))) he rfl rfl rfl (Nat.le_of_ble_eq_true rfl) dX0_count_73 ⟨Nat.le_of_ble_eq_true rfl, Nat.le_of_ble_eq_true rfl⟩) hS hC
              · exact zr_calli (zw_runU (As := []) hk hH hz hS hl.1 er (hw) (va_cwU 0 hts (z_U q2135 q2112 q2115 q2110 q152 q2118) rfl rfl rfl rfl (by decide +kernel) (z_room (Nat.le_of_ble_eq_true rfl))) he rfl rfl rfl (Nat.le_of_ble_eq_true rfl) dX0_count_73 ⟨Nat.le_of_ble_eq_true rfl, Nat.le_of_ble_eq_true rfl⟩) hS hC
              · exact zr_calli (zw_runU (As := []) hk hH hz hS hl.1 er (hw) (va_cwU 0 hts (z_U q2135 q2112 q2116 q2110 q152 q2118) rfl rfl rfl rfl (by decide +kernel) (z_room (Nat.le_of_ble_eq_true rfl))) he rfl rfl rfl (Nat.le_of_ble_eq_true rfl) dX0_count_73 ⟨Nat.le_of_ble_eq_true rfl, Nat.le_of_ble_eq_true rfl⟩) hS hC
              · exact zr_calli (zw_runU (As := []) hk hH hz hS hl.1 er (hw) (va_cwU 0 hts (z_U q2135 q2112 q2113 q2110 q152 q2118) rfl rfl rfl rfl (by decide +kernel) (z_room (Nat.le_of_ble_eq_true rfl))) he rfl rfl rfl (Nat.le_of_ble_eq_true rfl) dX0_count_73 ⟨Nat.le_of_ble_eq_true rfl, Nat.le_of_ble_eq_true rfl⟩) hS hC
          simp only [List.mem_cons, List.not_mem_nil, or_false] at hc
          rcases hc with rfl | rfl | rfl | rfl | rfl | rfl
          · exact zr_calli (zw_runV (As := []) hk hH hz hS hl.1 er (hw) (cwV 0 hts (lw_V q1969 q1970 q1971 q152 q1978) rfl rfl rfl (by decide +kernel) (z_room (Nat.le_of_ble_eq_true rfl))) he rfl rfl rfl (Nat.le_of_ble_eq_true rfl) dX0_count_65 ⟨Nat.le_of_ble_eq_true rfl, Nat.le_of_ble_eq_true rfl⟩) hS hC
          · exact zr_calli (zw_runU (As := []) hk hH hz hS hl.1 er (hw) (va_cwU 0 hts (z_U q1969 q1972 q1977 q1970 q152 q1978) rfl rfl rfl rfl (by decide +kernel) (z_room (Nat.le_of_ble_eq_true rfl))) he rfl rfl rfl (Nat.le_of_ble_eq_true rfl) dX0_count_65 ⟨Nat.le_of_ble_eq_true rfl, Nat.le_of_ble_eq_true rfl⟩) hS hC
          · exact zr_calli (zw_runU (As := []) hk hH hz hS hl.1 er (hw) (va_cwU 0 hts (z_U q1969 q1972 q1974 q1970 q152 q1978) rfl rfl rfl rfl (by decide +kernel) (z_room (Nat.le_of_ble_eq_true rfl))) he rfl rfl rfl (Nat.le_of_ble_eq_true rfl) dX0_count_65 ⟨Nat.le_of_ble_eq_true rfl, Nat.le_of_ble_eq_true rfl⟩) hS hC
          · exact zr_calli (zw_runU (As := []) hk hH hz hS hl.1 er (hw) (va_cwU 0 hts (z_U q1969 q1972 q1975 q1970 q152 q1978) rfl rfl rfl rfl (by decide +kernel) (z_room (Nat.le_of_ble_eq_true rfl))) he rfl rfl rfl (Nat.le_of_ble_eq_true rfl) dX0_count_65 ⟨Nat.le_of_ble_eq_true rfl, Nat.le_of_ble_eq_true rfl⟩) hS hC
          · exact zr_calli (zw_runU (As := []) hk hH hz hS hl.1 er (hw) (va_cwU 0 hts (z_U q1969 q1972 q1976 q1970 q152 q1978) rfl rfl rfl rfl (by decide +kernel) (z_room (Nat.le_of_ble_eq_true rfl))) he rfl rfl rfl (Nat.le_of_ble_eq_true rfl) dX0_count_65 ⟨Nat.le_of_ble_eq_true rfl, Nat.le_of_ble_eq_true rfl⟩) hS hC
          · exact zr_calli (zw_runU (As := []) hk hH hz hS hl.1 er (hw) (va_cwU 0 hts (z_U q1969 q1972 q1973 q1970 q152 q1978) rfl rfl rfl rfl (by decide +kernel) (z_room (Nat.le_of_ble_eq_true rfl))) he rfl rfl rfl (Nat.le_of_ble_eq_true rfl) dX0_count_65 ⟨Nat.le_of_ble_eq_true rfl, Nat.le_of_ble_eq_true rfl⟩) hS hC
    exact hL_49 n_59 (0 : Int32) r_10 x_13 (0 : Int32) hp nx _ _ _ hI (lv_sub hl [4, 5, 3, 2, 1, 0] rfl) hH hz hS
  by_cases hc2 : x1 = (2 : Int32)
  · have hw := hw.2.2.1 hc2
    refine lv_tableIn (tgt := 94) hx hb dX0_count_3 (by rw [hc2]; decide) (by rw [hc2]; decide) (by rw [hc2]; rfl) (by decide) ?_
    refine zr_aload_n (r := some h0) hx hb dX0_count_94 rfl (lv_at hl 1 rfl) ?_
    obtain ⟨a_60, ci_61, fs_62, r_63, er, he, hc, hv, hw⟩ := zgR_e hw
    refine zw_get hk hH er he hv (fk_X0_37 hc) dX0_count_95 ?_
    refine zr_astore_n (r := r_63) (i := 3) (lv' := [(3, va_rf r_63), (2, .int (0 : Int32)), (0, va_rf (some h0)), (1, .int x1)]) hx hb dX0_count_98 rfl hl (by decide) (by first | rfl | simp [List.filter_cons, z_cat, z_catI, z_catJ, z_catF, z_catD]) (fun ls hl => ?_)
    refine zr_aload_n (r := r_63) hx hb dX0_count_99 rfl (lv_at hl 0 rfl) ?_
    obtain ⟨a_64, v_65, er, he, hw⟩ := zln_e hw
    refine zw_alen hk hH 8 er he rfl dX0_count_100 ?_
    generalize Int32.ofNat v_65.1 = x_66 at hw ⊢
    refine lv_istore (lv' := [(4, .int x_66), (3, va_rf r_63), (2, .int (0 : Int32)), (0, va_rf (some h0)), (1, .int x1)]) hx hb dX0_count_101 hl (by decide) (by first | rfl | simp [List.filter_cons, z_cat, z_catI, z_catJ, z_catF, z_catD]) (fun ls hl => ?_)
    refine lv_iconst (v := (0 : Int32)) hx hb dX0_count_103 (by decide) ?_
    refine lv_istore (lv' := [(5, .int (0 : Int32)), (4, .int x_66), (3, va_rf r_63), (2, .int (0 : Int32)), (0, va_rf (some h0)), (1, .int x1)]) hx hb dX0_count_104 hl (by decide) (by first | rfl | simp [List.filter_cons, z_cat, z_catI, z_catJ, z_catF, z_catD]) (fun ls hl => ?_)
    obtain ⟨I_106, ⟨n_90, hI⟩, hB_106⟩ := hw
    have hL_106 : ∀ (n_73 : Nat) (x_67 : Int32) (r_68 : Option Nat) (x_69 : Int32) (x_70 : Int32) (hp_71 : zHp) (nx_72 : Nat) (H : Heap) (locs : List Loc) (ls : Array Slot), I_106 n_73 x_67 r_68 x_69 x_70 hp_71 nx_72 → lv_has ls 7 [(0, va_rf (some h0)), (1, .int x1), (2, .int x_67), (3, va_rf r_68), (4, .int x_69), (5, .int x_70)] → zHd g hp_71 H → H.size = nx_72 → va_S (zAd g) s.heap H locs → W p l e (zrm (d + 1) 0 0) s m ([.ref h0, .int x1] : List Value).toArray below meth c H locs 0 0 (MQ below (zQi g Post) ([.ref h0, .int x1] : List Value).toArray s 0 0 (zAd g)) (F0 m 106 ls []) := by
      intro n_73
      induction n_73 using Nat.strongRecOn with
      | _ n_73 ih_106 =>
        intro x_67 r_68 x_69 x_70 hp_71 nx_72 H locs ls hw hl hH hz hS
        have hw := hB_106 n_73 x_67 r_68 x_69 x_70 hp_71 nx_72 hw
        refine lv_iload hx hb dX0_count_106 (lv_at hl 5 rfl) ?_
        refine lv_iload hx hb dX0_count_108 (lv_at hl 4 rfl) ?_
        refine lv_icmp_ge (tgt := 138) hx hb dX0_count_110 (by decide) (fun hc => ?_) (fun hc => ?_)
        · have hw := hw.1 hc
          refine lv_iload_n hx hb dX0_count_138 rfl (lv_at hl 2 rfl) ?_
          exact zr_iret hk hr hH hz hS hw (Nat.le_of_ble_eq_true rfl) (Nat.le_of_ble_eq_true rfl) dX0_count_139
        · have hw := hw.2 hc
          refine zr_aload_n (r := r_68) hx hb dX0_count_113 rfl (lv_at hl 3 rfl) ?_
          refine lv_iload hx hb dX0_count_114 (lv_at hl 5 rfl) ?_
          obtain ⟨a_74, n_75, f_76, er, he, hi, hw⟩ := zaR_e hw
          have hw := hw _ rfl
          refine zw_aald hk hH 8 er he rfl rfl hi dX0_count_116 ?_
          generalize f_76 x_70.toNatClampNeg = r_77 at hw ⊢
          refine zr_astore (r := r_77) (lv' := [(6, va_rf r_77), (0, va_rf (some h0)), (1, .int x1), (2, .int x_67), (3, va_rf r_68), (4, .int x_69), (5, .int x_70)]) hx hb dX0_count_117 hl (by decide) (by first | rfl | simp [List.filter_cons, z_cat, z_catI, z_catJ, z_catF, z_catD]) (fun ls hl => ?_)
          refine lv_iload_n hx hb dX0_count_119 rfl (lv_at hl 3 rfl) ?_
          refine zr_aload (r := r_77) hx hb dX0_count_120 (lv_at hl 0 rfl) ?_
          obtain ⟨P_130, hP_130, hw⟩ := hw
          have hJ_130 : ∀ (x_78 : Int32) (r_79 : Option Nat) (x_80 : Int32) (x_81 : Int32) (r_82 : Option Nat) (x_83 : Int32) (x_84 : Int32) (hp_85 : zHp) (nx_86 : Nat) (H : Heap) (locs : List Loc) (ls : Array Slot), P_130 x_78 r_79 x_80 x_81 r_82 x_83 x_84 hp_85 nx_86 → lv_has ls 7 [(0, va_rf (some h0)), (1, .int x1), (2, .int x_78), (3, va_rf r_79), (4, .int x_80), (5, .int x_81), (6, va_rf r_82)] → zHd g hp_85 H → H.size = nx_86 → va_S (zAd g) s.heap H locs → W p l e (zrm (d + 1) 0 0) s m ([.ref h0, .int x1] : List Value).toArray below meth c H locs 0 0 (MQ below (zQi g Post) ([.ref h0, .int x1] : List Value).toArray s 0 0 (zAd g)) (F0 m 130 ls [.int x_84, .int x_83]) := by
            intro x_78 r_79 x_80 x_81 r_82 x_83 x_84 hp_85 nx_86 H locs ls hw hl hH hz hS
            have hw := hP_130 x_78 r_79 x_80 x_81 r_82 x_83 x_84 hp_85 nx_86 hw
            refine lv_iadd hx hb dX0_count_130 ?_
            refine lv_topi (fun x_87 ex_87 => ?_)
            have hw := hw x_87 ex_87
            refine lv_istore_n (i := 2) (lv' := [(2, .int x_87), (0, va_rf (some h0)), (1, .int x1), (3, va_rf r_79), (4, .int x_80), (5, .int x_81), (6, va_rf r_82)]) hx hb dX0_count_131 rfl hl (by decide) (by first | rfl | simp [List.filter_cons, z_cat, z_catI, z_catJ, z_catF, z_catD]) (fun ls hl => ?_)
            obtain ⟨x_88, ex_88⟩ : ∃ y : Int32, y = x_81 + (1 : Int32) := ⟨_, rfl⟩
            have hw := hw x_88 ex_88
            refine lv_iinc (v := x_88) (lv' := [(5, .int x_88), (2, .int x_87), (0, va_rf (some h0)), (1, .int x1), (3, va_rf r_79), (4, .int x_80), (6, va_rf r_82)]) hx hb dX0_count_132 hl (k := 5) rfl (by rw [ex_88]; rfl) (by decide) (by first | rfl | simp [List.filter_cons, z_cat, z_catI, z_catJ, z_catF, z_catD]) (fun ls hl => ?_)
            refine lv_goto (tgt := 106) hx hb dX0_count_135 (by decide) ?_
            obtain ⟨k_89, hlt, hw⟩ := hw
            exact ih_106 k_89 hlt x_87 r_79 x_80 x_88 hp_85 nx_86 _ _ _ hw (lv_sub hl [2, 3, 1, 4, 5, 0] rfl) hH hz hS
          refine zr_ifnonnull (r := r_77) (tgt := 129) hx hb dX0_count_122 (by decide) (fun hc => ?_) (fun hc => ?_)
          · have hw := hw.2 hc
            refine lv_iconst (v := (1 : Int32)) hx hb dX0_count_129 (by decide) ?_
            exact hJ_130 x_67 r_68 x_69 x_70 r_77 x_67 (1 : Int32) hp_71 nx_72 _ _ _ hw (lv_sub hl [1, 2, 3, 4, 5, 6, 0] rfl) hH hz hS
          · have hw := hw.1 hc
            refine lv_iconst (v := (0 : Int32)) hx hb dX0_count_125 (by decide) ?_
            refine lv_goto (tgt := 130) hx hb dX0_count_126 (by decide) ?_
            exact hJ_130 x_67 r_68 x_69 x_70 r_77 x_67 (0 : Int32) hp_71 nx_72 _ _ _ hw (lv_sub hl [1, 2, 3, 4, 5, 6, 0] rfl) hH hz hS
    exact hL_106 n_90 (0 : Int32) r_63 x_66 (0 : Int32) hp nx _ _ _ hI (lv_sub hl [4, 5, 3, 2, 1, 0] rfl) hH hz hS
  by_cases hc3 : x1 = (3 : Int32)
  · have hw := hw.2.2.2.1 hc3
    refine lv_tableIn (tgt := 140) hx hb dX0_count_3 (by rw [hc3]; decide) (by rw [hc3]; decide) (by rw [hc3]; rfl) (by decide) ?_
    refine zr_aload_n (r := some h0) hx hb dX0_count_140 rfl (lv_at hl 1 rfl) ?_
    obtain ⟨a_91, ci_92, fs_93, x_94, er, he, hc, hv, hw⟩ := zgI_e hw
    refine zw_get hk hH er he hv (fk_X0_383 hc) dX0_count_141 ?_
    exact zr_iret hk hr hH hz hS hw (Nat.le_of_ble_eq_true rfl) (Nat.le_of_ble_eq_true rfl) dX0_count_144
  have hw := hw.2.2.2.2 ⟨hc0, hc1, hc2, hc3⟩
  refine lv_tableOut (tgt := 145) hx hb dX0_count_3 (by have h0 := lv_neT hc0 (a := 0) (by decide); have h1 := lv_neT hc1 (a := 1) (by decide); have h2 := lv_neT hc2 (a := 2) (by decide); have h3 := lv_neT hc3 (a := 3) (by decide); omega) (by decide) ?_
  refine lv_bipush (v := (-2 : Int32)) hx hb dX0_count_145 (by decide) ?_
  exact zr_iret hk hr hH hz hS hw (Nat.le_of_ble_eq_true rfl) (Nat.le_of_ble_eq_true rfl) dX0_count_147
def wp_X0_things (l : Launch) (g : zG) (d : Nat) (mc ms : Nat) (x0 : Int32) (x1 : Int32) (hp : zHp) (nx : Nat) (Post : Option Nat → zHp → Nat → Prop) : Prop :=
  ((x0 = (0 : Int32) →
  (zna g mc ms hp nx 0 0 2 x1 (.inl (fun _ => 0)) fun hp_1 =>
  ∀ nx_2 kc_3 ks_4 : Nat, nx_2 = (nx + 1) → kc_3 = (0 + 1) → ks_4 = (0 + x1.toNatClampNeg) →
  (kc_3 ≤ mc ∧ ks_4 ≤ ms ∧ Post (some nx) hp_1 nx_2))) ∧
  (x0 = (1 : Int32) →
  (zna g mc ms hp nx 0 0 0 x1 (.inl (fun _ => 0)) fun hp_5 =>
  ∀ nx_6 kc_7 ks_8 : Nat, nx_6 = (nx + 1) → kc_7 = (0 + 1) → ks_8 = (0 + x1.toNatClampNeg) →
  (kc_7 ≤ mc ∧ ks_8 ≤ ms ∧ Post (some nx) hp_5 nx_6))) ∧
  (x0 = (2 : Int32) →
  (zna g mc ms hp nx 0 0 5 x1 (.inr (.inr (.inl (fun _ => 0)))) fun hp_9 =>
  ∀ nx_10 kc_11 ks_12 : Nat, nx_10 = (nx + 1) → kc_11 = (0 + 1) → ks_12 = (0 + x1.toNatClampNeg) →
  (kc_11 ≤ mc ∧ ks_12 ≤ ms ∧ Post (some nx) hp_9 nx_10))) ∧
  (¬ x0 = (0 : Int32) ∧ ¬ x0 = (1 : Int32) ∧ ¬ x0 = (2 : Int32) →
  (zna g mc ms hp nx 0 0 1 x1 (.inr (.inr (.inr (.inl (fun _ => 0))))) fun hp_13 =>
  ∀ nx_14 kc_15 ks_16 : Nat, nx_14 = (nx + 1) → kc_15 = (0 + 1) → ks_16 = (0 + x1.toNatClampNeg) →
  (kc_15 ≤ mc ∧ ks_16 ≤ ms ∧ Post (some nx) hp_13 nx_14))))
set_option maxHeartbeats 40000000 in
theorem met_X0_things {l : Launch} {g : zG} {d : Nat} {mc ms : Nat} {x0 : Int32} {x1 : Int32} {hp : zHp} {nx : Nat} {Post : Option Nat → zHp → Nat → Prop} (hw : wp_X0_things l g d mc ms x0 x1 hp nx Post) : zMt l g yX0_things cX0_things 2 (some (.object "java/lang/Object")) (d + 1) mc ms [.int x0, .int x1] hp nx (zQq g Post) := by
  refine z_start (by decide) (Nat.le_of_ble_eq_true rfl) ?_
  intro p e s m below meth c hk hr hin hH hz ls hl
  have hx := hk.1.1
  have hb := hk.1.2.1
  have hown := hk.1.2.2.2.1
  have hts := hk.1.2.2.2.2
  have hS : va_S (zAd g) s.heap s.heap [] := va_S.rf
  have hl : lv_has ls 2 [(0, .int x0), (1, .int x1)] := hl
  unfold wp_X0_things at hw
  refine lv_iload_n hx hb dX0_things_0 rfl (lv_at hl 0 rfl) ?_
  by_cases hc0 : x0 = (0 : Int32)
  · have hw := hw.1 hc0
    refine lv_tableIn (tgt := 28) hx hb dX0_things_1 (by rw [hc0]; decide) (by rw [hc0]; decide) (by rw [hc0]; rfl) (by decide) ?_
    refine lv_iload_n hx hb dX0_things_28 rfl (lv_at hl 1 rfl) ?_
    obtain ⟨hn0, hn1, hcl, hsl, hw⟩ := hw
    refine zx_newa hk hH hz hS (atype := .byte) 2 (ty := .byte) rfl q276 rfl (fun _ _ h => h) (a0 := (x1.toNatClampNeg, .inl (fun _ => 0))) (fun _ => rfl) hn0 rfl (by simp only [componentBytes]; omega) hcl hsl dX0_things_29 (fun H hH hz hS hlt hnb => ?_)
    have hw := hw hlt hnb
    generalize va_up hp nx _ = hp_1 at hH hw
    obtain ⟨kc_3, ekc⟩ : ∃ k, k = (0 + 1) := ⟨_, rfl⟩
    obtain ⟨ks_4, eks⟩ : ∃ k, k = (0 + x1.toNatClampNeg) := ⟨_, rfl⟩
    have hw := hw _ _ _ rfl ekc eks
    refine W.widen (Nat.le_of_eq ekc.symm) (Nat.le_of_eq eks.symm) ?_
    clear ekc eks
    generalize (nx + 1) = nx_2 at hz hw
    obtain ⟨hkc, hks, hw⟩ := hw
    exact zr_aret (r := some nx) hk hr (Or.inl ⟨_, rfl⟩) hH hz hS hw hkc hks dX0_things_31
  by_cases hc1 : x0 = (1 : Int32)
  · have hw := hw.2.1 hc1
    refine lv_tableIn (tgt := 32) hx hb dX0_things_1 (by rw [hc1]; decide) (by rw [hc1]; decide) (by rw [hc1]; rfl) (by decide) ?_
    refine lv_iload_n hx hb dX0_things_32 rfl (lv_at hl 1 rfl) ?_
    obtain ⟨hn0, hn1, hcl, hsl, hw⟩ := hw
    refine zx_newa hk hH hz hS (atype := .int) 0 (ty := .int) rfl q277 rfl (fun _ _ h => h) (a0 := (x1.toNatClampNeg, .inl (fun _ => 0))) (fun _ => rfl) hn0 rfl (by simp only [componentBytes]; omega) hcl hsl dX0_things_33 (fun H hH hz hS hlt hnb => ?_)
    have hw := hw hlt hnb
    generalize va_up hp nx _ = hp_5 at hH hw
    obtain ⟨kc_7, ekc⟩ : ∃ k, k = (0 + 1) := ⟨_, rfl⟩
    obtain ⟨ks_8, eks⟩ : ∃ k, k = (0 + x1.toNatClampNeg) := ⟨_, rfl⟩
    have hw := hw _ _ _ rfl ekc eks
    refine W.widen (Nat.le_of_eq ekc.symm) (Nat.le_of_eq eks.symm) ?_
    clear ekc eks
    generalize (nx + 1) = nx_6 at hz hw
    obtain ⟨hkc, hks, hw⟩ := hw
    exact zr_aret (r := some nx) hk hr (Or.inl ⟨_, rfl⟩) hH hz hS hw hkc hks dX0_things_35
  by_cases hc2 : x0 = (2 : Int32)
  · have hw := hw.2.2.1 hc2
    refine lv_tableIn (tgt := 36) hx hb dX0_things_1 (by rw [hc2]; decide) (by rw [hc2]; decide) (by rw [hc2]; rfl) (by decide) ?_
    refine lv_iload_n hx hb dX0_things_36 rfl (lv_at hl 1 rfl) ?_
    obtain ⟨hn0, hn1, hcl, hsl, hw⟩ := hw
    refine zx_newa hk hH hz hS (atype := .float) 5 (ty := .float) rfl q2616 rfl (fun _ _ h => h) (a0 := (x1.toNatClampNeg, .inr (.inr (.inl (fun _ => 0))))) (fun _ => rfl) hn0 rfl (by simp only [componentBytes]; omega) hcl hsl dX0_things_37 (fun H hH hz hS hlt hnb => ?_)
    have hw := hw hlt hnb
    generalize va_up hp nx _ = hp_9 at hH hw
    obtain ⟨kc_11, ekc⟩ : ∃ k, k = (0 + 1) := ⟨_, rfl⟩
    obtain ⟨ks_12, eks⟩ : ∃ k, k = (0 + x1.toNatClampNeg) := ⟨_, rfl⟩
    have hw := hw _ _ _ rfl ekc eks
    refine W.widen (Nat.le_of_eq ekc.symm) (Nat.le_of_eq eks.symm) ?_
    clear ekc eks
    generalize (nx + 1) = nx_10 at hz hw
    obtain ⟨hkc, hks, hw⟩ := hw
    exact zr_aret (r := some nx) hk hr (Or.inl ⟨_, rfl⟩) hH hz hS hw hkc hks dX0_things_39
  have hw := hw.2.2.2 ⟨hc0, hc1, hc2⟩
  refine lv_tableOut (tgt := 40) hx hb dX0_things_1 (by have h0 := lv_neT hc0 (a := 0) (by decide); have h1 := lv_neT hc1 (a := 1) (by decide); have h2 := lv_neT hc2 (a := 2) (by decide); omega) (by decide) ?_
  refine lv_iload_n hx hb dX0_things_40 rfl (lv_at hl 1 rfl) ?_
  obtain ⟨hn0, hn1, hcl, hsl, hw⟩ := hw
  refine zx_newa hk hH hz hS (atype := .double) 1 (ty := .double) rfl q275 rfl (fun _ _ h => h) (a0 := (x1.toNatClampNeg, .inr (.inr (.inr (.inl (fun _ => 0)))))) (fun _ => rfl) hn0 rfl (by simp only [componentBytes]; omega) hcl hsl dX0_things_41 (fun H hH hz hS hlt hnb => ?_)
  have hw := hw hlt hnb
  generalize va_up hp nx _ = hp_13 at hH hw
  obtain ⟨kc_15, ekc⟩ : ∃ k, k = (0 + 1) := ⟨_, rfl⟩
  obtain ⟨ks_16, eks⟩ : ∃ k, k = (0 + x1.toNatClampNeg) := ⟨_, rfl⟩
  have hw := hw _ _ _ rfl ekc eks
  refine W.widen (Nat.le_of_eq ekc.symm) (Nat.le_of_eq eks.symm) ?_
  clear ekc eks
  generalize (nx + 1) = nx_14 at hz hw
  obtain ⟨hkc, hks, hw⟩ := hw
  exact zr_aret (r := some nx) hk hr (Or.inl ⟨_, rfl⟩) hH hz hS hw hkc hks dX0_things_43
